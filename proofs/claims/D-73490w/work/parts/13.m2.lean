/-! THE MODEL's METHODS (printed by gen.py, genm.py out of the decode rows): functions on its state, contracts -/
set_option maxRecDepth 100000
def g_throwsIf_j10 (x1 : Int32) (y1 : Int32) (M1 : Ms) : Option (Int32 × Ms) :=
  bd (mI 0 y1 M1) fun M2 =>
  if nrw 2 x1 = x1 then some (x1, M2) else none
def g_throwsIf (x1 : Int32) (M : Ms) : Option (Int32 × Ms) :=
  if x1 = 0 then
    g_throwsIf_j10 x1 (0 : Int32) M
  else
    g_throwsIf_j10 x1 (1 : Int32) M
theorem nd_X6_throwsIf : yX6_throwsIf.cls = RX6 ∧ yX6_throwsIf.cls ≠ "java/lang/invoke/MethodHandle" ∧ yX6_throwsIf.cls ≠ "java/lang/invoke/VarHandle" ∧ (parseMethodDescriptor yX6_throwsIf.desc).map (fun d => d.parameters.length) = some 1 := ⟨rfl, by decide +kernel, by decide +kernel, by decide +kernel⟩
theorem ct_X6_throwsIf {G : Gx} {RL : Lv} {Pl : Nat → Bool} {l : Launch} (hL : LvA G RL Pl) {h0 : Hp} {mo : Nat} (hM : MP Pl mo) (M : Ms) (x1 : Int32) : Ct (plug h0 mo) G RL l yX6_throwsIf (ws_ yX6_throwsIf cX6_throwsIf 2 (some .boolean)) 0 0 finI [vr mo, .int x1] M (g_throwsIf x1 M) := by
  refine Ct.of (Pl := Pl) [(0, vr mo), (1, .int x1)] (by decide) hL rfl (Nat.le_of_ble_eq_true rfl) ?_
  intro E C hn hf hlo e1 e2 e3 e4 e5
  subst e1; subst e2; subst e3; subst e4
  replace C : Cx E cX6_throwsIf (some .boolean) RX6 := C
  unfold g_throwsIf
  refine s_aload_n C dX6_throwsIf_0 0 rfl rfl ?_
  refine s_iload_n C dX6_throwsIf_1 1 rfl rfl ?_
  have hj10 : ∀ (x1 : Int32) (y1 : Int32) (M1 : Ms), Sim (plug h0 mo) E (QM (plug h0 mo) E finI) M1 10 [(1, .int x1)] [.int y1, vr mo] (g_throwsIf_j10 x1 y1 M1) := by
    intro x1 y1 M1
    refine sm_putI 0 0 C hM fo_X6_1_6 rfl ⟨by decide, by decide, rfl⟩ rfl rfl dX6_throwsIf_10 ?_
    refine s_bdh fun M2 => ?_
    refine s_iload_n C dX6_throwsIf_13 0 rfl rfl ?_
    exact s_zret 2 C (by decide) (by decide) rfl dX6_throwsIf_14
  refine s_if_eq C 9 dX6_throwsIf_2 (by decide) ?_ ?_
  · refine s_iconst C (0 : Int32) dX6_throwsIf_9 (by decide) ?_
    refine Sim.keep [1] rfl ?_
    exact hj10 _ _ _
  · refine s_iconst C (1 : Int32) dX6_throwsIf_5 (by decide) ?_
    refine s_goto C 10 dX6_throwsIf_6 (by decide) ?_
    refine Sim.keep [1] rfl ?_
    exact hj10 _ _ _

def g_isPoint_j21 (y0 : Int32) (M3 : Ms) : Option (Int32 × Ms) :=
  if nrw 2 y0 = y0 then some (y0, M3) else none
def g_isPoint (x1 : Int32) (M : Ms) : Option (Int32 × Ms) :=
  (aI 0 21 x1 M).bind fun a1 =>
  (aI 0 6 (0 : Int32) M).bind fun a2 =>
  if a2 = 0 then none else
  if (a1 - a1 / a2 * a2) = 0 then
    g_isPoint_j21 (1 : Int32) M
  else
    g_isPoint_j21 (0 : Int32) M
theorem nd_X6_isPoint : yX6_isPoint.cls = RX6 ∧ yX6_isPoint.cls ≠ "java/lang/invoke/MethodHandle" ∧ yX6_isPoint.cls ≠ "java/lang/invoke/VarHandle" ∧ (parseMethodDescriptor yX6_isPoint.desc).map (fun d => d.parameters.length) = some 1 := ⟨rfl, by decide +kernel, by decide +kernel, by decide +kernel⟩
theorem ct_X6_isPoint {G : Gx} {RL : Lv} {Pl : Nat → Bool} {l : Launch} (hL : LvA G RL Pl) {h0 : Hp} {mo : Nat} (hM : MP Pl mo) (M : Ms) (x1 : Int32) : Ct (plug h0 mo) G RL l yX6_isPoint (ws_ yX6_isPoint cX6_isPoint 2 (some .boolean)) 0 0 finI [vr mo, .int x1] M (g_isPoint x1 M) := by
  refine Ct.of (Pl := Pl) [(0, vr mo), (1, .int x1)] (by decide) hL rfl (Nat.le_of_ble_eq_true rfl) ?_
  intro E C hn hf hlo e1 e2 e3 e4 e5
  subst e1; subst e2; subst e3; subst e4
  replace C : Cx E cX6_isPoint (some .boolean) RX6 := C
  unfold g_isPoint
  refine s_aload_n C dX6_isPoint_0 0 rfl rfl ?_
  refine sm_getA 21 C hM fo_X6_53_6 rfl (by decide) dX6_isPoint_1 ?_
  refine s_iload_n C dX6_isPoint_4 1 rfl rfl ?_
  refine sm_iald C hM dX6_isPoint_5 fun a1 => ?_
  refine s_aload_n C dX6_isPoint_6 0 rfl rfl ?_
  refine sm_getA 6 C hM fo_X6_33_6 rfl (by decide) dX6_isPoint_7 ?_
  refine s_iconst C (0 : Int32) dX6_isPoint_10 (by decide) ?_
  refine sm_iald C hM dX6_isPoint_11 fun a2 => ?_
  refine s_irem C dX6_isPoint_12 ?_
  have hj21 : ∀ (y0 : Int32) (M3 : Ms), Sim (plug h0 mo) E (QM (plug h0 mo) E finI) M3 21 [] [.int y0] (g_isPoint_j21 y0 M3) := by
    intro y0 M3
    exact s_zret 2 C (by decide) (by decide) rfl dX6_isPoint_21
  refine s_if_ne C 20 dX6_isPoint_13 (by decide) ?_ ?_
  · refine s_iconst C (0 : Int32) dX6_isPoint_20 (by decide) ?_
    refine Sim.keep [] rfl ?_
    exact hj21 _ _
  · refine s_iconst C (1 : Int32) dX6_isPoint_16 (by decide) ?_
    refine s_goto C 21 dX6_isPoint_17 (by decide) ?_
    refine Sim.keep [] rfl ?_
    exact hj21 _ _

def g_on_j33 (rec4 : (Int32 × Int32) → Ms → Option (Int32 × Ms)) (x1 : Int32) (x2 : Int32) (x3 : Int32) (M4 : Ms) : Option (Int32 × Ms) :=
  rec4 (x2, (x3 + (1 : Int32))) M4
def g_on_L4 (x1 : Int32) : (Int32 × Int32) → Ms → Option (Int32 × Ms) :=
  lp FU fun rec4 v4 M1 =>
    (aI 0 6 (2 : Int32) M1).bind fun a2 =>
    if a2 ≤ v4.2 then
      some (v4.1, M1)
    else
      (aI 0 6 ((12 : Int32) + v4.2) M1).bind fun a3 =>
      if a3 = x1 then
        bd ((v4.1 ||| ((1 : Int32) <<< (v4.2 &&& 31)))) fun a5 =>
        g_on_j33 rec4 x1 a5 v4.2 M1
      else
        g_on_j33 rec4 x1 v4.1 v4.2 M1
def g_on (x1 : Int32) (M : Ms) : Option (Int32 × Ms) :=
  g_on_L4 x1 ((0 : Int32), (0 : Int32)) M
theorem nd_X6_on : yX6_on.cls = RX6 ∧ yX6_on.cls ≠ "java/lang/invoke/MethodHandle" ∧ yX6_on.cls ≠ "java/lang/invoke/VarHandle" ∧ (parseMethodDescriptor yX6_on.desc).map (fun d => d.parameters.length) = some 1 := ⟨rfl, by decide +kernel, by decide +kernel, by decide +kernel⟩
theorem ct_X6_on {G : Gx} {RL : Lv} {Pl : Nat → Bool} {l : Launch} (hL : LvA G RL Pl) {h0 : Hp} {mo : Nat} (hM : MP Pl mo) (M : Ms) (x1 : Int32) : Ct (plug h0 mo) G RL l yX6_on (ws_ yX6_on cX6_on 4 (some .int)) 0 0 finI [vr mo, .int x1] M (g_on x1 M) := by
  refine Ct.of (Pl := Pl) [(0, vr mo), (1, .int x1)] (by decide) hL rfl (Nat.le_of_ble_eq_true rfl) ?_
  intro E C hn hf hlo e1 e2 e3 e4 e5
  subst e1; subst e2; subst e3; subst e4
  replace C : Cx E cX6_on (some .int) RX6 := C
  unfold g_on
  refine s_iconst C (0 : Int32) dX6_on_0 (by decide) ?_
  refine s_istore_n (la' := [(2, .int (0 : Int32)), (0, vr mo), (1, .int x1)]) C 2 dX6_on_1 rfl (lt_nl e5 rfl) rfl ?_
  refine s_iconst C (0 : Int32) dX6_on_2 (by decide) ?_
  have hL4 : ∀ (x1 : Int32) (v4 : (Int32 × Int32)) (M1 : Ms), Sim (plug h0 mo) E (QM (plug h0 mo) E finI) M1 4 [(0, vr mo), (1, .int x1), (2, .int v4.1), (3, .int v4.2)] [] (g_on_L4 x1 v4 M1) := by
    intro x1 v4 M1
    refine Sim.loop (fun v4 => [(0, vr mo), (1, .int x1), (2, .int v4.1), (3, .int v4.2)]) (fun _ => []) (fun rec4 hr4 v4 M1 => ?_) FU v4 M1
    refine s_iload_n C dX6_on_4 3 rfl rfl ?_
    refine s_aload_n C dX6_on_5 0 rfl rfl ?_
    refine sm_getA 6 C hM fo_X6_33_6 rfl (by decide) dX6_on_6 ?_
    refine s_iconst C (2 : Int32) dX6_on_9 (by decide) ?_
    refine sm_iald C hM dX6_on_10 fun a2 => ?_
    refine s_icmp_ge C 39 dX6_on_11 (by decide) ?_ ?_
    · refine s_iload_n C dX6_on_39 2 rfl rfl ?_
      exact s_iret C rfl dX6_on_40
    · refine s_aload_n C dX6_on_14 0 rfl rfl ?_
      refine sm_getA 6 C hM fo_X6_33_6 rfl (by decide) dX6_on_15 ?_
      refine s_bipush C (12 : Int32) dX6_on_18 (by decide) ?_
      refine s_iload_n C dX6_on_20 3 rfl rfl ?_
      refine s_iadd C dX6_on_21 ?_
      refine sm_iald C hM dX6_on_22 fun a3 => ?_
      refine s_iload_n C dX6_on_23 1 rfl rfl ?_
      have hj33 : ∀ (x2 : Int32) (x3 : Int32) (M4 : Ms), Sim (plug h0 mo) E (QM (plug h0 mo) E finI) M4 33 [(0, vr mo), (1, .int x1), (2, .int x2), (3, .int x3)] [] (g_on_j33 rec4 x1 x2 x3 M4) := by
        intro x2 x3 M4
        refine s_iinc (la' := [(3, .int (x3 + (1 : Int32))), (0, vr mo), (1, .int x1), (2, .int x2)]) C 3 dX6_on_33 rfl rfl (lt_nl e5 rfl) rfl ?_
        refine s_goto C 4 dX6_on_36 (by decide) ?_
        refine Sim.keep [1, 2, 3, 0] rfl ?_
        exact hr4 _ _
      refine s_icmp_ne C 33 dX6_on_24 (by decide) ?_ ?_
      · exact hj33 _ _ _
      · refine s_iload_n C dX6_on_27 2 rfl rfl ?_
        refine s_iconst C (1 : Int32) dX6_on_28 (by decide) ?_
        refine s_iload_n C dX6_on_29 3 rfl rfl ?_
        refine s_ishl C (v4.2 &&& 31) dX6_on_30 rfl ?_
        refine s_ior C dX6_on_31 ?_
        refine s_bdi fun a5 => ?_
        refine s_istore_n (la' := [(2, .int a5), (0, vr mo), (1, .int x1), (3, .int v4.2)]) C 2 dX6_on_32 rfl (lt_nl e5 rfl) rfl ?_
        refine Sim.keep [1, 2, 0, 3] rfl ?_
        exact hj33 _ _ _
  refine s_istore_n (la' := [(3, .int (0 : Int32)), (2, .int (0 : Int32)), (0, vr mo), (1, .int x1)]) C 3 dX6_on_3 rfl (lt_nl e5 rfl) rfl ?_
  refine Sim.keep [2, 3, 1, 0] rfl ?_
  exact hL4 _ _ _

def g_block_j114 (y0 : Int32) (M11 : Ms) : Option (Int32 × Ms) :=
  some (y0, M11)
def g_block_j24 (x1 : Int32) (x2 : Int32) (y1 : Int32) (M3 : Ms) : Option (Int32 × Ms) :=
  bn (g_throwsIf y1 M3) fun r5 M4 =>
  if r5 = 0 then
    bn (g_lays  M4) fun _ M6 =>
    swi x2 ((aI 0 24 x1 M6).bind fun a25 =>
      some (a25, M6)) [
      ((0 : Int32), (aI 0 6 ((12 : Int32) + x1) M6).bind fun a7 =>
      some (a7, M6)),
      ((1 : Int32), (aI 0 21 x1 M6).bind fun a8 =>
      some (a8, M6)),
      ((2 : Int32), bn (g_isPoint x1 M6) fun r10 M9 =>
      if r10 = 0 then
        g_block_j114 (-1 : Int32) M9
      else
        bn (g_level x1 M9) fun r13 M12 =>
        g_block_j114 r13 M12),
      ((3 : Int32), bn (g_on x1 M6) fun r15 M14 =>
      some (r15, M14)),
      ((4 : Int32), (aI 0 6 ((32 : Int32) + x1) M6).bind fun a16 =>
      some (a16, M6)),
      ((5 : Int32), bn (g_bitOf (M6.1 26) x1 M6) fun r18 M17 =>
      bn (g_truth r18 M17) fun r20 M19 =>
      some (r20, M19)),
      ((6 : Int32), bn (g_bitOf (M6.1 27) x1 M6) fun r22 M21 =>
      bn (g_truth r22 M21) fun r24 M23 =>
      some (r24, M23))]
  else
    some ((0 : Int32), M4)
def g_block_j19 (x1 : Int32) (x2 : Int32) (M26 : Ms) : Option (Int32 × Ms) :=
  g_block_j24 x1 x2 (1 : Int32) M26
def g_block (x1 : Int32) (x2 : Int32) (M : Ms) : Option (Int32 × Ms) :=
  bn (g_isBlock x1 M) fun r2 M1 =>
  if r2 = 0 then
    g_block_j19 x1 x2 M1
  else
    bn (g_isIn x2 (0 : Int32) (7 : Int32) M1) fun r28 M27 =>
    if r28 = 0 then
      g_block_j19 x1 x2 M27
    else
      g_block_j24 x1 x2 (0 : Int32) M27
theorem nd_X6_block : yX6_block.cls = RX6 ∧ yX6_block.cls ≠ "java/lang/invoke/MethodHandle" ∧ yX6_block.cls ≠ "java/lang/invoke/VarHandle" ∧ (parseMethodDescriptor yX6_block.desc).map (fun d => d.parameters.length) = some 2 := ⟨rfl, by decide +kernel, by decide +kernel, by decide +kernel⟩
theorem ct_X6_block {G : Gx} {RL : Lv} {Pl : Nat → Bool} {l : Launch} (hL : LvA G RL Pl) {h0 : Hp} {mo : Nat} (hM : MP Pl mo) (M : Ms) (x1 : Int32) (x2 : Int32) : Ct (plug h0 mo) G RL l yX6_block (ws_ yX6_block cX6_block 3 (some .int)) 7 163 finI [vr mo, .int x1, .int x2] M (g_block x1 x2 M) := by
  refine Ct.of (Pl := Pl) [(0, vr mo), (1, .int x1), (2, .int x2)] (by decide) hL rfl (Nat.le_of_ble_eq_true rfl) ?_
  intro E C hn hf hlo e1 e2 e3 e4 e5
  subst e1; subst e2; subst e3; subst e4
  replace C : Cx E cX6_block (some .int) RX6 := C
  unfold g_block
  refine s_aload_n C dX6_block_0 0 rfl rfl ?_
  refine s_aload_n C dX6_block_1 0 rfl rfl ?_
  refine s_iload_n C dX6_block_2 1 rfl rfl ?_
  refine sm_callI C 1 [vr mo] (ct_X6_isBlock hL hM M x1) (lw_V q3193 q3195 qs57 q147 q3196) nd_X6_isBlock rfl (le_fr hf rfl) (le_fr hlo rfl) rfl (Nat.le_of_ble_eq_true rfl) dX6_block_3 fun r2 M1 => ?_
  have hj24 : ∀ (x1 : Int32) (x2 : Int32) (y1 : Int32) (M3 : Ms), Sim (plug h0 mo) E (QM (plug h0 mo) E finI) M3 24 [(0, vr mo), (1, .int x1), (2, .int x2)] [.int y1, vr mo] (g_block_j24 x1 x2 y1 M3) := by
    intro x1 x2 y1 M3
    refine sm_callI C 1 [] (ct_X6_throwsIf hL hM M3 y1) (lw_V q3197 q3199 qs58 q147 q3200) nd_X6_throwsIf rfl (le_fr hf rfl) (le_fr hlo rfl) rfl (Nat.le_of_ble_eq_true rfl) dX6_block_24 fun r5 M4 => ?_
    refine s_if_eq C 32 dX6_block_27 (by decide) ?_ ?_
    · refine s_aload_n C dX6_block_32 0 rfl rfl ?_
      refine sm_callV C 0 [] (ct_X6_lays hL hM M4 ) (lw_V q3201 q3203 qs59 q147 q3204) nd_X6_lays rfl (le_fr hf rfl) (le_fr hlo rfl) rfl (Nat.le_of_ble_eq_true rfl) dX6_block_33 fun _ M6 => ?_
      refine s_iload_n C dX6_block_36 2 rfl rfl ?_
      refine s_tsw C 155 dX6_block_37 [(0 : Int32), (1 : Int32), (2 : Int32), (3 : Int32), (4 : Int32), (5 : Int32), (6 : Int32)] rfl (by decide +kernel) (by decide) (by decide) ⟨⟨80, by decide, ?_⟩, ⟨⟨90, by decide, ?_⟩, ⟨⟨97, by decide, ?_⟩, ⟨⟨115, by decide, ?_⟩, ⟨⟨121, by decide, ?_⟩, ⟨⟨131, by decide, ?_⟩, ⟨⟨143, by decide, ?_⟩, trivial⟩⟩⟩⟩⟩⟩⟩ ?_
      · refine s_aload_n C dX6_block_80 0 rfl rfl ?_
        refine sm_getA 6 C hM fo_X6_33_6 rfl (by decide) dX6_block_81 ?_
        refine s_bipush C (12 : Int32) dX6_block_84 (by decide) ?_
        refine s_iload_n C dX6_block_86 1 rfl rfl ?_
        refine s_iadd C dX6_block_87 ?_
        refine sm_iald C hM dX6_block_88 fun a7 => ?_
        exact s_iret C rfl dX6_block_89
      · refine s_aload_n C dX6_block_90 0 rfl rfl ?_
        refine sm_getA 21 C hM fo_X6_53_6 rfl (by decide) dX6_block_91 ?_
        refine s_iload_n C dX6_block_94 1 rfl rfl ?_
        refine sm_iald C hM dX6_block_95 fun a8 => ?_
        exact s_iret C rfl dX6_block_96
      · refine s_aload_n C dX6_block_97 0 rfl rfl ?_
        refine s_iload_n C dX6_block_98 1 rfl rfl ?_
        refine sm_callI C 1 [] (ct_X6_isPoint hL hM M6 x1) (lw_V q3260 q3262 qs73 q147 q3263) nd_X6_isPoint rfl (le_fr hf rfl) (le_fr hlo rfl) rfl (Nat.le_of_ble_eq_true rfl) dX6_block_99 fun r10 M9 => ?_
        have hj114 : ∀ (y0 : Int32) (M11 : Ms), Sim (plug h0 mo) E (QM (plug h0 mo) E finI) M11 114 [] [.int y0] (g_block_j114 y0 M11) := by
          intro y0 M11
          exact s_iret C rfl dX6_block_114
        refine s_if_eq C 113 dX6_block_102 (by decide) ?_ ?_
        · refine s_iconst C (-1 : Int32) dX6_block_113 (by decide) ?_
          refine Sim.keep [] rfl ?_
          exact hj114 _ _
        · refine s_aload_n C dX6_block_105 0 rfl rfl ?_
          refine s_iload_n C dX6_block_106 1 rfl rfl ?_
          refine sm_callI C 1 [] (ct_X6_level hL hM M9 x1) (lw_V q3221 q3223 qs64 q147 q3224) nd_X6_level rfl (le_fr hf rfl) (le_fr hlo rfl) rfl (Nat.le_of_ble_eq_true rfl) dX6_block_107 fun r13 M12 => ?_
          refine s_goto C 114 dX6_block_110 (by decide) ?_
          refine Sim.keep [] rfl ?_
          exact hj114 _ _
      · refine s_aload_n C dX6_block_115 0 rfl rfl ?_
        refine s_iload_n C dX6_block_116 1 rfl rfl ?_
        refine sm_callI C 1 [] (ct_X6_on hL hM M6 x1) (lw_V q3264 q3266 qs74 q147 q3267) nd_X6_on rfl (le_fr hf rfl) (le_fr hlo rfl) rfl (Nat.le_of_ble_eq_true rfl) dX6_block_117 fun r15 M14 => ?_
        exact s_iret C rfl dX6_block_120
      · refine s_aload_n C dX6_block_121 0 rfl rfl ?_
        refine sm_getA 6 C hM fo_X6_33_6 rfl (by decide) dX6_block_122 ?_
        refine s_bipush C (32 : Int32) dX6_block_125 (by decide) ?_
        refine s_iload_n C dX6_block_127 1 rfl rfl ?_
        refine s_iadd C dX6_block_128 ?_
        refine sm_iald C hM dX6_block_129 fun a16 => ?_
        exact s_iret C rfl dX6_block_130
      · refine s_aload_n C dX6_block_131 0 rfl rfl ?_
        refine sm_getI 26 C hM fo_X6_282_6 rfl dX6_block_132 ?_
        refine s_iload_n C dX6_block_135 1 rfl rfl ?_
        refine sm_callSI C 2 [] (ct_X6_bitOf hL hM M6 (M6.1 26) x1) (lw_S q3241 q3242 q147 q3243) nd_X6_bitOf rfl (le_fr hf rfl) (le_fr hlo rfl) rfl (Nat.le_of_ble_eq_true rfl) dX6_block_136 fun r18 M17 => ?_
        refine sm_callSI C 1 [] (ct_X6_truth hL hM M17 r18) (lw_S q3268 q3269 q147 q3270) nd_X6_truth rfl (le_fr hf rfl) (le_fr hlo rfl) rfl (Nat.le_of_ble_eq_true rfl) dX6_block_139 fun r20 M19 => ?_
        exact s_iret C rfl dX6_block_142
      · refine s_aload_n C dX6_block_143 0 rfl rfl ?_
        refine sm_getI 27 C hM fo_X6_285_6 rfl dX6_block_144 ?_
        refine s_iload_n C dX6_block_147 1 rfl rfl ?_
        refine sm_callSI C 2 [] (ct_X6_bitOf hL hM M6 (M6.1 27) x1) (lw_S q3241 q3242 q147 q3243) nd_X6_bitOf rfl (le_fr hf rfl) (le_fr hlo rfl) rfl (Nat.le_of_ble_eq_true rfl) dX6_block_148 fun r22 M21 => ?_
        refine sm_callSI C 1 [] (ct_X6_truth hL hM M21 r22) (lw_S q3268 q3269 q147 q3270) nd_X6_truth rfl (le_fr hf rfl) (le_fr hlo rfl) rfl (Nat.le_of_ble_eq_true rfl) dX6_block_151 fun r24 M23 => ?_
        exact s_iret C rfl dX6_block_154
      · refine s_aload_n C dX6_block_155 0 rfl rfl ?_
        refine sm_getA 24 C hM fo_X6_62_6 rfl (by decide) dX6_block_156 ?_
        refine s_iload_n C dX6_block_159 1 rfl rfl ?_
        refine sm_iald C hM dX6_block_160 fun a25 => ?_
        exact s_iret C rfl dX6_block_161
    · refine s_iconst C (0 : Int32) dX6_block_30 (by decide) ?_
      exact s_iret C rfl dX6_block_31
  have hj19 : ∀ (x1 : Int32) (x2 : Int32) (M26 : Ms), Sim (plug h0 mo) E (QM (plug h0 mo) E finI) M26 19 [(0, vr mo), (1, .int x1), (2, .int x2)] [vr mo] (g_block_j19 x1 x2 M26) := by
    intro x1 x2 M26
    refine s_iconst C (1 : Int32) dX6_block_19 (by decide) ?_
    refine s_goto C 24 dX6_block_20 (by decide) ?_
    exact hj24 _ _ _ _
  refine s_if_eq C 19 dX6_block_6 (by decide) ?_ ?_
  · exact hj19 _ _ _
  · refine s_iload_n C dX6_block_9 2 rfl rfl ?_
    refine s_iconst C (0 : Int32) dX6_block_10 (by decide) ?_
    refine s_bipush C (7 : Int32) dX6_block_11 (by decide) ?_
    refine sm_callSI C 3 [vr mo] (ct_X6_isIn hL hM M1 x2 (0 : Int32) (7 : Int32)) (lw_S q3150 q3151 q147 q3152) nd_X6_isIn rfl (le_fr hf rfl) (le_fr hlo rfl) rfl (Nat.le_of_ble_eq_true rfl) dX6_block_13 fun r28 M27 => ?_
    refine s_if_ne C 23 dX6_block_16 (by decide) ?_ ?_
    · refine s_iconst C (0 : Int32) dX6_block_23 (by decide) ?_
      exact hj24 _ _ _ _
    · exact hj19 _ _ _

def g_taken (x1 : Int32) (M : Ms) : Option (Unit × Ms) :=
  bd (mI 3 (M.1 2) M) fun M1 =>
  bd (mI 2 (0 : Int32) M1) fun M2 =>
  bd (mI 4 (0 : Int32) M2) fun M3 =>
  bd (mI 5 x1 M3) fun M4 =>
  some ((), M4)
theorem nd_X6_taken : yX6_taken.cls = RX6 ∧ yX6_taken.cls ≠ "java/lang/invoke/MethodHandle" ∧ yX6_taken.cls ≠ "java/lang/invoke/VarHandle" ∧ (parseMethodDescriptor yX6_taken.desc).map (fun d => d.parameters.length) = some 1 := ⟨rfl, by decide +kernel, by decide +kernel, by decide +kernel⟩
theorem ct_X6_taken {G : Gx} {RL : Lv} {Pl : Nat → Bool} {l : Launch} (hL : LvA G RL Pl) {h0 : Hp} {mo : Nat} (hM : MP Pl mo) (M : Ms) (x1 : Int32) : Ct (plug h0 mo) G RL l yX6_taken (ws_ yX6_taken cX6_taken 2 none) 0 0 finV [vr mo, .int x1] M (g_taken x1 M) := by
  refine Ct.of (Pl := Pl) [(0, vr mo), (1, .int x1)] (by decide) hL rfl (Nat.le_of_ble_eq_true rfl) ?_
  intro E C hn hf hlo e1 e2 e3 e4 e5
  subst e1; subst e2; subst e3; subst e4
  replace C : Cx E cX6_taken none RX6 := C
  unfold g_taken
  refine s_aload_n C dX6_taken_0 0 rfl rfl ?_
  refine s_aload_n C dX6_taken_1 0 rfl rfl ?_
  refine sm_getI 2 C hM fo_X6_7_6 rfl dX6_taken_2 ?_
  refine sm_putI 3 0 C hM fo_X6_18_6 rfl ⟨by decide, by decide, rfl⟩ rfl rfl dX6_taken_5 ?_
  refine s_bdh fun M1 => ?_
  refine s_aload_n C dX6_taken_8 0 rfl rfl ?_
  refine s_iconst C (0 : Int32) dX6_taken_9 (by decide) ?_
  refine sm_putI 2 0 C hM fo_X6_7_6 rfl ⟨by decide, by decide, rfl⟩ rfl rfl dX6_taken_10 ?_
  refine s_bdh fun M2 => ?_
  refine s_aload_n C dX6_taken_13 0 rfl rfl ?_
  refine s_iconst C (0 : Int32) dX6_taken_14 (by decide) ?_
  refine sm_putI 4 0 C hM fo_X6_21_6 rfl ⟨by decide, by decide, rfl⟩ rfl rfl dX6_taken_15 ?_
  refine s_bdh fun M3 => ?_
  refine s_aload_n C dX6_taken_18 0 rfl rfl ?_
  refine s_iload_n C dX6_taken_19 1 rfl rfl ?_
  refine sm_putI 5 0 C hM fo_X6_24_6 rfl ⟨by decide, by decide, rfl⟩ rfl rfl dX6_taken_20 ?_
  refine s_bdh fun M4 => ?_
  exact s_vret C rfl dX6_taken_23

def g_isName_j45 (rec16 : (Int32 × Int32) → Ms → Option (Int32 × Ms)) (x2 : Int32) (y0 : Int32) (M3 : Ms) : Option (Int32 × Ms) :=
  rec16 (y0, (x2 + (1 : Int32))) M3
def g_isName_j44 (rec16 : (Int32 × Int32) → Ms → Option (Int32 × Ms)) (x2 : Int32) (M4 : Ms) : Option (Int32 × Ms) :=
  g_isName_j45 rec16 x2 (0 : Int32) M4
def g_isName_L16  : (Int32 × Int32) → Ms → Option (Int32 × Ms) :=
  lp FU fun rec16 v16 M2 =>
    if (21 : Int32) ≤ v16.2 then
      if nrw 2 v16.1 = v16.1 then some (v16.1, M2) else none
    else
      if v16.1 = 0 then
        g_isName_j44 rec16 v16.2 M2
      else
        (aL 11 v16.2 M2).bind fun a5 =>
        if (lg_cmp M2.2.1 a5) = 0 then
          g_isName_j44 rec16 v16.2 M2
        else
          g_isName_j45 rec16 v16.2 (1 : Int32) M2
def g_isName_j13 (y0 : Int32) (M1 : Ms) : Option (Int32 × Ms) :=
  g_isName_L16 (y0, (0 : Int32)) M1
def g_isName  (M : Ms) : Option (Int32 × Ms) :=
  if (M.1 12) = (1 : Int32) then
    g_isName_j13 (1 : Int32) M
  else
    g_isName_j13 (0 : Int32) M
theorem nd_X6_isName : yX6_isName.cls = RX6 ∧ yX6_isName.cls ≠ "java/lang/invoke/MethodHandle" ∧ yX6_isName.cls ≠ "java/lang/invoke/VarHandle" ∧ (parseMethodDescriptor yX6_isName.desc).map (fun d => d.parameters.length) = some 0 := ⟨rfl, by decide +kernel, by decide +kernel, by decide +kernel⟩
theorem ct_X6_isName {G : Gx} {RL : Lv} {Pl : Nat → Bool} {l : Launch} (hL : LvA G RL Pl) {h0 : Hp} {mo : Nat} (hM : MP Pl mo) (M : Ms)  : Ct (plug h0 mo) G RL l yX6_isName (ws_ yX6_isName cX6_isName 3 (some .boolean)) 0 0 finI [vr mo] M (g_isName M) := by
  refine Ct.of (Pl := Pl) [(0, vr mo)] (by decide) hL rfl (Nat.le_of_ble_eq_true rfl) ?_
  intro E C hn hf hlo e1 e2 e3 e4 e5
  subst e1; subst e2; subst e3; subst e4
  replace C : Cx E cX6_isName (some .boolean) RX6 := C
  unfold g_isName
  refine s_aload_n C dX6_isName_0 0 rfl rfl ?_
  refine sm_getI 12 C hM fo_X6_157_6 rfl dX6_isName_1 ?_
  refine s_iconst C (1 : Int32) dX6_isName_4 (by decide) ?_
  have hj13 : ∀ (y0 : Int32) (M1 : Ms), Sim (plug h0 mo) E (QM (plug h0 mo) E finI) M1 13 [(0, vr mo)] [.int y0] (g_isName_j13 y0 M1) := by
    intro y0 M1
    refine s_istore_n (la' := [(1, .int y0), (0, vr mo)]) C 1 dX6_isName_13 rfl (lt_nl e5 rfl) rfl ?_
    refine s_iconst C (0 : Int32) dX6_isName_14 (by decide) ?_
    have hL16 : ∀  (v16 : (Int32 × Int32)) (M2 : Ms), Sim (plug h0 mo) E (QM (plug h0 mo) E finI) M2 16 [(0, vr mo), (1, .int v16.1), (2, .int v16.2)] [] (g_isName_L16  v16 M2) := by
      intro v16 M2
      refine Sim.loop (fun v16 => [(0, vr mo), (1, .int v16.1), (2, .int v16.2)]) (fun _ => []) (fun rec16 hr16 v16 M2 => ?_) FU v16 M2
      refine s_iload_n C dX6_isName_16 2 rfl rfl ?_
      refine s_bipush C (21 : Int32) dX6_isName_17 (by decide) ?_
      refine s_icmp_ge C 52 dX6_isName_19 (by decide) ?_ ?_
      · refine s_iload_n C dX6_isName_52 1 rfl rfl ?_
        exact s_zret 2 C (by decide) (by decide) rfl dX6_isName_53
      · refine s_iload_n C dX6_isName_22 1 rfl rfl ?_
        have hj45 : ∀ (x2 : Int32) (y0 : Int32) (M3 : Ms), Sim (plug h0 mo) E (QM (plug h0 mo) E finI) M3 45 [(0, vr mo), (2, .int x2)] [.int y0] (g_isName_j45 rec16 x2 y0 M3) := by
          intro x2 y0 M3
          refine s_istore_n (la' := [(1, .int y0), (0, vr mo), (2, .int x2)]) C 1 dX6_isName_45 rfl (lt_nl e5 rfl) rfl ?_
          refine s_iinc (la' := [(2, .int (x2 + (1 : Int32))), (1, .int y0), (0, vr mo)]) C 2 dX6_isName_46 rfl rfl (lt_nl e5 rfl) rfl ?_
          refine s_goto C 16 dX6_isName_49 (by decide) ?_
          refine Sim.keep [2, 1, 0] rfl ?_
          exact hr16 _ _
        have hj44 : ∀ (x2 : Int32) (M4 : Ms), Sim (plug h0 mo) E (QM (plug h0 mo) E finI) M4 44 [(0, vr mo), (2, .int x2)] [] (g_isName_j44 rec16 x2 M4) := by
          intro x2 M4
          refine s_iconst C (0 : Int32) dX6_isName_44 (by decide) ?_
          exact hj45 _ _ _
        refine s_if_eq C 44 dX6_isName_23 (by decide) ?_ ?_
        · refine Sim.keep [0, 2] rfl ?_
          exact hj44 _ _
        · refine s_aload_n C dX6_isName_26 0 rfl rfl ?_
          refine sm_getL C hM fo_X6_170_6 rfl dX6_isName_27 ?_
          refine s_aload_n C dX6_isName_30 0 rfl rfl ?_
          refine sm_getA 11 C hM fo_X6_50_6 rfl (by decide) dX6_isName_31 ?_
          refine s_iload_n C dX6_isName_34 2 rfl rfl ?_
          refine sm_lald C hM dX6_isName_35 fun a5 => ?_
          refine s_lcmp C dX6_isName_36 ?_
          refine s_if_eq C 44 dX6_isName_37 (by decide) ?_ ?_
          · refine Sim.keep [0, 2] rfl ?_
            exact hj44 _ _
          · refine s_iconst C (1 : Int32) dX6_isName_40 (by decide) ?_
            refine s_goto C 45 dX6_isName_41 (by decide) ?_
            refine Sim.keep [0, 2] rfl ?_
            exact hj45 _ _ _
    refine s_istore_n (la' := [(2, .int (0 : Int32)), (1, .int y0), (0, vr mo)]) C 2 dX6_isName_15 rfl (lt_nl e5 rfl) rfl ?_
    refine Sim.keep [2, 1, 0] rfl ?_
    exact hL16  _ _
  refine s_icmp_ne C 12 dX6_isName_5 (by decide) ?_ ?_
  · refine s_iconst C (0 : Int32) dX6_isName_12 (by decide) ?_
    exact hj13 _ _
  · refine s_iconst C (1 : Int32) dX6_isName_8 (by decide) ?_
    refine s_goto C 13 dX6_isName_9 (by decide) ?_
    exact hj13 _ _

def g_seek_L2 (x1 : Int32) (x2 : Int32) : Int32 → Ms → Option (Int32 × Ms) :=
  lp FU fun rec2 v2 M1 =>
    if x2 ≤ v2 then
      some ((-1 : Int32), M1)
    else
      (aL 10 (x1 + v2) M1).bind fun a2 =>
      if (lg_cmp a2 M1.2.1) = 0 then
        some (v2, M1)
      else
        rec2 (v2 + (1 : Int32)) M1
def g_seek (x1 : Int32) (x2 : Int32) (M : Ms) : Option (Int32 × Ms) :=
  g_seek_L2 x1 x2 (0 : Int32) M
theorem nd_X6_seek : yX6_seek.cls = RX6 ∧ yX6_seek.cls ≠ "java/lang/invoke/MethodHandle" ∧ yX6_seek.cls ≠ "java/lang/invoke/VarHandle" ∧ (parseMethodDescriptor yX6_seek.desc).map (fun d => d.parameters.length) = some 2 := ⟨rfl, by decide +kernel, by decide +kernel, by decide +kernel⟩
theorem ct_X6_seek {G : Gx} {RL : Lv} {Pl : Nat → Bool} {l : Launch} (hL : LvA G RL Pl) {h0 : Hp} {mo : Nat} (hM : MP Pl mo) (M : Ms) (x1 : Int32) (x2 : Int32) : Ct (plug h0 mo) G RL l yX6_seek (ws_ yX6_seek cX6_seek 4 (some .int)) 0 0 finI [vr mo, .int x1, .int x2] M (g_seek x1 x2 M) := by
  refine Ct.of (Pl := Pl) [(0, vr mo), (1, .int x1), (2, .int x2)] (by decide) hL rfl (Nat.le_of_ble_eq_true rfl) ?_
  intro E C hn hf hlo e1 e2 e3 e4 e5
  subst e1; subst e2; subst e3; subst e4
  replace C : Cx E cX6_seek (some .int) RX6 := C
  unfold g_seek
  refine s_iconst C (0 : Int32) dX6_seek_0 (by decide) ?_
  have hL2 : ∀ (x1 : Int32) (x2 : Int32) (v2 : Int32) (M1 : Ms), Sim (plug h0 mo) E (QM (plug h0 mo) E finI) M1 2 [(0, vr mo), (1, .int x1), (2, .int x2), (3, .int v2)] [] (g_seek_L2 x1 x2 v2 M1) := by
    intro x1 x2 v2 M1
    refine Sim.loop (fun v2 => [(0, vr mo), (1, .int x1), (2, .int x2), (3, .int v2)]) (fun _ => []) (fun rec2 hr2 v2 M1 => ?_) FU v2 M1
    refine s_iload_n C dX6_seek_2 3 rfl rfl ?_
    refine s_iload_n C dX6_seek_3 2 rfl rfl ?_
    refine s_icmp_ge C 31 dX6_seek_4 (by decide) ?_ ?_
    · refine s_iconst C (-1 : Int32) dX6_seek_31 (by decide) ?_
      exact s_iret C rfl dX6_seek_32
    · refine s_aload_n C dX6_seek_7 0 rfl rfl ?_
      refine sm_getA 10 C hM fo_X6_46_6 rfl (by decide) dX6_seek_8 ?_
      refine s_iload_n C dX6_seek_11 1 rfl rfl ?_
      refine s_iload_n C dX6_seek_12 3 rfl rfl ?_
      refine s_iadd C dX6_seek_13 ?_
      refine sm_lald C hM dX6_seek_14 fun a2 => ?_
      refine s_aload_n C dX6_seek_15 0 rfl rfl ?_
      refine sm_getL C hM fo_X6_170_6 rfl dX6_seek_16 ?_
      refine s_lcmp C dX6_seek_19 ?_
      refine s_if_ne C 25 dX6_seek_20 (by decide) ?_ ?_
      · refine s_iinc (la' := [(3, .int (v2 + (1 : Int32))), (0, vr mo), (1, .int x1), (2, .int x2)]) C 3 dX6_seek_25 rfl rfl (lt_nl e5 rfl) rfl ?_
        refine s_goto C 2 dX6_seek_28 (by decide) ?_
        refine Sim.keep [1, 2, 3, 0] rfl ?_
        exact hr2 _ _
      · refine s_iload_n C dX6_seek_23 3 rfl rfl ?_
        exact s_iret C rfl dX6_seek_24
  refine s_istore_n (la' := [(3, .int (0 : Int32)), (0, vr mo), (1, .int x1), (2, .int x2)]) C 3 dX6_seek_1 rfl (lt_nl e5 rfl) rfl ?_
  refine Sim.keep [1, 2, 3, 0] rfl ?_
  exact hL2 _ _ _ _

def g_takesName (x1 : Int32) (x2 : Int32) (M : Ms) : Option (Int32 × Ms) :=
  bn (g_isName  M) fun r2 M1 =>
  if r2 = 0 then
    bn (g_bad (1 : Int32) M1) fun r10 M9 =>
    if nrw 2 r10 = r10 then some (r10, M9) else none
  else
    bn (g_seek x1 x2 M1) fun r4 M3 =>
    bd (mI 19 r4 M3) fun M5 =>
    if 0 ≤ (M5.1 19) then
      bn (g_next  M5) fun _ M6 =>
      if nrw 2 (1 : Int32) = (1 : Int32) then some ((1 : Int32), M6) else none
    else
      bn (g_bad (3 : Int32) M5) fun r8 M7 =>
      if nrw 2 r8 = r8 then some (r8, M7) else none
theorem nd_X6_takesName : yX6_takesName.cls = RX6 ∧ yX6_takesName.cls ≠ "java/lang/invoke/MethodHandle" ∧ yX6_takesName.cls ≠ "java/lang/invoke/VarHandle" ∧ (parseMethodDescriptor yX6_takesName.desc).map (fun d => d.parameters.length) = some 2 := ⟨rfl, by decide +kernel, by decide +kernel, by decide +kernel⟩
theorem ct_X6_takesName {G : Gx} {RL : Lv} {Pl : Nat → Bool} {l : Launch} (hL : LvA G RL Pl) {h0 : Hp} {mo : Nat} (hM : MP Pl mo) (M : Ms) (x1 : Int32) (x2 : Int32) : Ct (plug h0 mo) G RL l yX6_takesName (ws_ yX6_takesName cX6_takesName 3 (some .boolean)) 2 43 finI [vr mo, .int x1, .int x2] M (g_takesName x1 x2 M) := by
  refine Ct.of (Pl := Pl) [(0, vr mo), (1, .int x1), (2, .int x2)] (by decide) hL rfl (Nat.le_of_ble_eq_true rfl) ?_
  intro E C hn hf hlo e1 e2 e3 e4 e5
  subst e1; subst e2; subst e3; subst e4
  replace C : Cx E cX6_takesName (some .boolean) RX6 := C
  unfold g_takesName
  refine s_aload_n C dX6_takesName_0 0 rfl rfl ?_
  refine sm_callI C 0 [] (ct_X6_isName hL hM M ) (lw_V q3161 q3163 qs51 q147 q3164) nd_X6_isName rfl (le_fr hf rfl) (le_fr hlo rfl) rfl (Nat.le_of_ble_eq_true rfl) dX6_takesName_1 fun r2 M1 => ?_
  refine s_if_ne C 13 dX6_takesName_4 (by decide) ?_ ?_
  · refine s_aload_n C dX6_takesName_13 0 rfl rfl ?_
    refine s_aload_n C dX6_takesName_14 0 rfl rfl ?_
    refine s_iload_n C dX6_takesName_15 1 rfl rfl ?_
    refine s_iload_n C dX6_takesName_16 2 rfl rfl ?_
    refine sm_callI C 2 [vr mo] (ct_X6_seek hL hM M1 x1 x2) (lw_V q3165 q3167 qs52 q147 q3168) nd_X6_seek rfl (le_fr hf rfl) (le_fr hlo rfl) rfl (Nat.le_of_ble_eq_true rfl) dX6_takesName_17 fun r4 M3 => ?_
    refine sm_putI 19 0 C hM fo_X6_193_6 rfl ⟨by decide, by decide, rfl⟩ rfl rfl dX6_takesName_20 ?_
    refine s_bdh fun M5 => ?_
    refine s_aload_n C dX6_takesName_23 0 rfl rfl ?_
    refine sm_getI 19 C hM fo_X6_193_6 rfl dX6_takesName_24 ?_
    refine s_if_ge C 36 dX6_takesName_27 (by decide) ?_ ?_
    · refine s_aload_n C dX6_takesName_36 0 rfl rfl ?_
      refine sm_callV C 0 [] (ct_X6_next hL hM M5 ) (lw_V q3116 q3118 qs42 q147 q3119) nd_X6_next rfl (le_fr hf rfl) (le_fr hlo rfl) rfl (Nat.le_of_ble_eq_true rfl) dX6_takesName_37 fun _ M6 => ?_
      refine s_iconst C (1 : Int32) dX6_takesName_40 (by decide) ?_
      exact s_zret 2 C (by decide) (by decide) rfl dX6_takesName_41
    · refine s_aload_n C dX6_takesName_30 0 rfl rfl ?_
      refine s_iconst C (3 : Int32) dX6_takesName_31 (by decide) ?_
      refine sm_callI C 1 [] (ct_X6_bad hL hM M5 (3 : Int32)) (lw_V q3142 q3144 qs47 q147 q3145) nd_X6_bad rfl (le_fr hf rfl) (le_fr hlo rfl) rfl (Nat.le_of_ble_eq_true rfl) dX6_takesName_32 fun r8 M7 => ?_
      exact s_zret 2 C (by decide) (by decide) rfl dX6_takesName_35
  · refine s_aload_n C dX6_takesName_7 0 rfl rfl ?_
    refine s_iconst C (1 : Int32) dX6_takesName_8 (by decide) ?_
    refine sm_callI C 1 [] (ct_X6_bad hL hM M1 (1 : Int32)) (lw_V q3142 q3144 qs47 q147 q3145) nd_X6_bad rfl (le_fr hf rfl) (le_fr hlo rfl) rfl (Nat.le_of_ble_eq_true rfl) dX6_takesName_9 fun r10 M9 => ?_
    exact s_zret 2 C (by decide) (by decide) rfl dX6_takesName_12

def g_bookLine_j128 (x1 : Int32) (M9 : Ms) : Option (Int32 × Ms) :=
  (aI 0 6 (2 : Int32) M9).bind fun a10 =>
  bn (g_takesName (8 : Int32) a10 M9) fun r12 M11 =>
  if r12 = 0 then
    if nrw 2 (0 : Int32) = (0 : Int32) then some ((0 : Int32), M11) else none
  else
    (sI 0 9 (x1 + (2 : Int32)) (M11.1 19) M11).bind fun M13 =>
    (aI 0 9 x1 M13).bind fun a14 =>
    if a14 ≤ 0 then
      (aI 0 6 (2 : Int32) M13).bind fun a15 =>
      bn (g_takesName (8 : Int32) a15 M13) fun r17 M16 =>
      if r17 = 0 then
        if nrw 2 (0 : Int32) = (0 : Int32) then some ((0 : Int32), M16) else none
      else
        (sI 0 9 (x1 + (3 : Int32)) (M16.1 19) M16).bind fun M18 =>
        if nrw 2 (1 : Int32) = (1 : Int32) then some ((1 : Int32), M18) else none
    else
      if nrw 2 (1 : Int32) = (1 : Int32) then some ((1 : Int32), M13) else none
def g_bookLine_j55 (x1 : Int32) (y1 : Int32) (y2 : Int32) (M4 : Ms) : Option (Int32 × Ms) :=
  (sI 0 9 y1 y2 M4).bind fun M5 =>
  (aI 0 9 x1 M5).bind fun a6 =>
  if 0 ≤ a6 then
    if (M5.1 45) = (40 : Int32) then
      bn (g_bad (4 : Int32) M5) fun r24 M23 =>
      if nrw 2 r24 = r24 then some (r24, M23) else none
    else
      bn (g_next  M5) fun _ M7 =>
      (aI 0 9 x1 M7).bind fun a8 =>
      if (2 : Int32) ≤ a8 then
        g_bookLine_j128 x1 M7
      else
        (aI 0 6 (1 : Int32) M7).bind fun a19 =>
        bn (g_takesName (0 : Int32) a19 M7) fun r21 M20 =>
        if r21 = 0 then
          if nrw 2 (0 : Int32) = (0 : Int32) then some ((0 : Int32), M20) else none
        else
          (sI 0 9 (x1 + (1 : Int32)) (M20.1 19) M20).bind fun M22 =>
          g_bookLine_j128 x1 M22
  else
    bn (g_bad (1 : Int32) M5) fun r26 M25 =>
    if nrw 2 r26 = r26 then some (r26, M25) else none
def g_bookLine  (M : Ms) : Option (Int32 × Ms) :=
  bd (((4 : Int32) * (M.1 45))) fun a1 =>
  bn (g_isWord (1987015781 : Int64) M) fun r3 M2 =>
  if r3 = 0 then
    bn (g_isWord (1819242347 : Int64) M2) fun r28 M27 =>
    if r28 = 0 then
      bn (g_isWord (1735552887 : Int64) M27) fun r30 M29 =>
      if r30 = 0 then
        g_bookLine_j55 a1 a1 (-1 : Int32) M29
      else
        g_bookLine_j55 a1 a1 (2 : Int32) M29
    else
      g_bookLine_j55 a1 a1 (1 : Int32) M27
  else
    g_bookLine_j55 a1 a1 (0 : Int32) M2
theorem nd_X6_bookLine : yX6_bookLine.cls = RX6 ∧ yX6_bookLine.cls ≠ "java/lang/invoke/MethodHandle" ∧ yX6_bookLine.cls ≠ "java/lang/invoke/VarHandle" ∧ (parseMethodDescriptor yX6_bookLine.desc).map (fun d => d.parameters.length) = some 0 := ⟨rfl, by decide +kernel, by decide +kernel, by decide +kernel⟩
theorem ct_X6_bookLine {G : Gx} {RL : Lv} {Pl : Nat → Bool} {l : Launch} (hL : LvA G RL Pl) {h0 : Hp} {mo : Nat} (hM : MP Pl mo) (M : Ms)  : Ct (plug h0 mo) G RL l yX6_bookLine (ws_ yX6_bookLine cX6_bookLine 2 (some .boolean)) 3 65 finI [vr mo] M (g_bookLine M) := by
  refine Ct.of (Pl := Pl) [(0, vr mo)] (by decide) hL rfl (Nat.le_of_ble_eq_true rfl) ?_
  intro E C hn hf hlo e1 e2 e3 e4 e5
  subst e1; subst e2; subst e3; subst e4
  replace C : Cx E cX6_bookLine (some .boolean) RX6 := C
  unfold g_bookLine
  refine s_iconst C (4 : Int32) dX6_bookLine_0 (by decide) ?_
  refine s_aload_n C dX6_bookLine_1 0 rfl rfl ?_
  refine sm_getI 45 C hM fo_X6_425_6 rfl dX6_bookLine_2 ?_
  refine s_imul C dX6_bookLine_5 ?_
  refine s_bdi fun a1 => ?_
  refine s_istore_n (la' := [(1, .int a1), (0, vr mo)]) C 1 dX6_bookLine_6 rfl (lt_nl e5 rfl) rfl ?_
  refine s_aload_n C dX6_bookLine_7 1 rfl rfl ?_
  refine sm_getA 9 C hM fo_X6_43_6 rfl (by decide) dX6_bookLine_8 ?_
  refine s_iload_n C dX6_bookLine_11 0 rfl rfl ?_
  refine s_aload_n C dX6_bookLine_12 1 rfl rfl ?_
  refine s_ldc2 C q2915 dX6_bookLine_13 ?_
  refine sm_callI C 1 [.int a1, vr (aid mo 9)] (ct_X6_isWord hL hM M (1987015781 : Int64)) (lw_V q3134 q3136 qs45 q147 q3137) nd_X6_isWord rfl (le_fr hf rfl) (le_fr hlo rfl) rfl (Nat.le_of_ble_eq_true rfl) dX6_bookLine_16 fun r3 M2 => ?_
  have hj55 : ∀ (x1 : Int32) (y1 : Int32) (y2 : Int32) (M4 : Ms), Sim (plug h0 mo) E (QM (plug h0 mo) E finI) M4 55 [(0, vr mo), (1, .int x1)] [.int y2, .int y1, vr (aid mo 9)] (g_bookLine_j55 x1 y1 y2 M4) := by
    intro x1 y1 y2 M4
    refine sm_iast C hM dX6_bookLine_55 fun M5 => ?_
    refine s_aload_n C dX6_bookLine_56 0 rfl rfl ?_
    refine sm_getA 9 C hM fo_X6_43_6 rfl (by decide) dX6_bookLine_57 ?_
    refine s_iload_n C dX6_bookLine_60 1 rfl rfl ?_
    refine sm_iald C hM dX6_bookLine_61 fun a6 => ?_
    refine s_if_ge C 71 dX6_bookLine_62 (by decide) ?_ ?_
    · refine s_aload_n C dX6_bookLine_71 0 rfl rfl ?_
      refine sm_getI 45 C hM fo_X6_425_6 rfl dX6_bookLine_72 ?_
      refine s_bipush C (40 : Int32) dX6_bookLine_75 (by decide) ?_
      refine s_icmp_ne C 86 dX6_bookLine_77 (by decide) ?_ ?_
      · refine s_aload_n C dX6_bookLine_86 0 rfl rfl ?_
        refine sm_callV C 0 [] (ct_X6_next hL hM M5 ) (lw_V q3116 q3118 qs42 q147 q3119) nd_X6_next rfl (le_fr hf rfl) (le_fr hlo rfl) rfl (Nat.le_of_ble_eq_true rfl) dX6_bookLine_87 fun _ M7 => ?_
        refine s_aload_n C dX6_bookLine_90 0 rfl rfl ?_
        refine sm_getA 9 C hM fo_X6_43_6 rfl (by decide) dX6_bookLine_91 ?_
        refine s_iload_n C dX6_bookLine_94 1 rfl rfl ?_
        refine sm_iald C hM dX6_bookLine_95 fun a8 => ?_
        refine s_iconst C (2 : Int32) dX6_bookLine_96 (by decide) ?_
        have hj128 : ∀ (x1 : Int32) (M9 : Ms), Sim (plug h0 mo) E (QM (plug h0 mo) E finI) M9 128 [(0, vr mo), (1, .int x1)] [] (g_bookLine_j128 x1 M9) := by
          intro x1 M9
          refine s_aload_n C dX6_bookLine_128 0 rfl rfl ?_
          refine s_bipush C (8 : Int32) dX6_bookLine_129 (by decide) ?_
          refine s_aload_n C dX6_bookLine_131 0 rfl rfl ?_
          refine sm_getA 6 C hM fo_X6_33_6 rfl (by decide) dX6_bookLine_132 ?_
          refine s_iconst C (2 : Int32) dX6_bookLine_135 (by decide) ?_
          refine sm_iald C hM dX6_bookLine_136 fun a10 => ?_
          refine sm_callI C 2 [] (ct_X6_takesName hL hM M9 (8 : Int32) a10) (lw_V q3173 q3175 qs54 q147 q3176) nd_X6_takesName rfl (le_fr hf rfl) (le_fr hlo rfl) rfl (Nat.le_of_ble_eq_true rfl) dX6_bookLine_137 fun r12 M11 => ?_
          refine s_if_ne C 145 dX6_bookLine_140 (by decide) ?_ ?_
          · refine s_aload_n C dX6_bookLine_145 0 rfl rfl ?_
            refine sm_getA 9 C hM fo_X6_43_6 rfl (by decide) dX6_bookLine_146 ?_
            refine s_iload_n C dX6_bookLine_149 1 rfl rfl ?_
            refine s_iconst C (2 : Int32) dX6_bookLine_150 (by decide) ?_
            refine s_iadd C dX6_bookLine_151 ?_
            refine s_aload_n C dX6_bookLine_152 0 rfl rfl ?_
            refine sm_getI 19 C hM fo_X6_193_6 rfl dX6_bookLine_153 ?_
            refine sm_iast C hM dX6_bookLine_156 fun M13 => ?_
            refine s_aload_n C dX6_bookLine_157 0 rfl rfl ?_
            refine sm_getA 9 C hM fo_X6_43_6 rfl (by decide) dX6_bookLine_158 ?_
            refine s_iload_n C dX6_bookLine_161 1 rfl rfl ?_
            refine sm_iald C hM dX6_bookLine_162 fun a14 => ?_
            refine s_if_le C 168 dX6_bookLine_163 (by decide) ?_ ?_
            · refine s_aload_n C dX6_bookLine_168 0 rfl rfl ?_
              refine s_bipush C (8 : Int32) dX6_bookLine_169 (by decide) ?_
              refine s_aload_n C dX6_bookLine_171 0 rfl rfl ?_
              refine sm_getA 6 C hM fo_X6_33_6 rfl (by decide) dX6_bookLine_172 ?_
              refine s_iconst C (2 : Int32) dX6_bookLine_175 (by decide) ?_
              refine sm_iald C hM dX6_bookLine_176 fun a15 => ?_
              refine sm_callI C 2 [] (ct_X6_takesName hL hM M13 (8 : Int32) a15) (lw_V q3173 q3175 qs54 q147 q3176) nd_X6_takesName rfl (le_fr hf rfl) (le_fr hlo rfl) rfl (Nat.le_of_ble_eq_true rfl) dX6_bookLine_177 fun r17 M16 => ?_
              refine s_if_ne C 185 dX6_bookLine_180 (by decide) ?_ ?_
              · refine s_aload_n C dX6_bookLine_185 0 rfl rfl ?_
                refine sm_getA 9 C hM fo_X6_43_6 rfl (by decide) dX6_bookLine_186 ?_
                refine s_iload_n C dX6_bookLine_189 1 rfl rfl ?_
                refine s_iconst C (3 : Int32) dX6_bookLine_190 (by decide) ?_
                refine s_iadd C dX6_bookLine_191 ?_
                refine s_aload_n C dX6_bookLine_192 0 rfl rfl ?_
                refine sm_getI 19 C hM fo_X6_193_6 rfl dX6_bookLine_193 ?_
                refine sm_iast C hM dX6_bookLine_196 fun M18 => ?_
                refine s_iconst C (1 : Int32) dX6_bookLine_197 (by decide) ?_
                exact s_zret 2 C (by decide) (by decide) rfl dX6_bookLine_198
              · refine s_iconst C (0 : Int32) dX6_bookLine_183 (by decide) ?_
                exact s_zret 2 C (by decide) (by decide) rfl dX6_bookLine_184
            · refine s_iconst C (1 : Int32) dX6_bookLine_166 (by decide) ?_
              exact s_zret 2 C (by decide) (by decide) rfl dX6_bookLine_167
          · refine s_iconst C (0 : Int32) dX6_bookLine_143 (by decide) ?_
            exact s_zret 2 C (by decide) (by decide) rfl dX6_bookLine_144
        refine s_icmp_ge C 128 dX6_bookLine_97 (by decide) ?_ ?_
        · exact hj128 _ _
        · refine s_aload_n C dX6_bookLine_100 0 rfl rfl ?_
          refine s_iconst C (0 : Int32) dX6_bookLine_101 (by decide) ?_
          refine s_aload_n C dX6_bookLine_102 0 rfl rfl ?_
          refine sm_getA 6 C hM fo_X6_33_6 rfl (by decide) dX6_bookLine_103 ?_
          refine s_iconst C (1 : Int32) dX6_bookLine_106 (by decide) ?_
          refine sm_iald C hM dX6_bookLine_107 fun a19 => ?_
          refine sm_callI C 2 [] (ct_X6_takesName hL hM M7 (0 : Int32) a19) (lw_V q3173 q3175 qs54 q147 q3176) nd_X6_takesName rfl (le_fr hf rfl) (le_fr hlo rfl) rfl (Nat.le_of_ble_eq_true rfl) dX6_bookLine_108 fun r21 M20 => ?_
          refine s_if_ne C 116 dX6_bookLine_111 (by decide) ?_ ?_
          · refine s_aload_n C dX6_bookLine_116 0 rfl rfl ?_
            refine sm_getA 9 C hM fo_X6_43_6 rfl (by decide) dX6_bookLine_117 ?_
            refine s_iload_n C dX6_bookLine_120 1 rfl rfl ?_
            refine s_iconst C (1 : Int32) dX6_bookLine_121 (by decide) ?_
            refine s_iadd C dX6_bookLine_122 ?_
            refine s_aload_n C dX6_bookLine_123 0 rfl rfl ?_
            refine sm_getI 19 C hM fo_X6_193_6 rfl dX6_bookLine_124 ?_
            refine sm_iast C hM dX6_bookLine_127 fun M22 => ?_
            exact hj128 _ _
          · refine s_iconst C (0 : Int32) dX6_bookLine_114 (by decide) ?_
            exact s_zret 2 C (by decide) (by decide) rfl dX6_bookLine_115
      · refine s_aload_n C dX6_bookLine_80 0 rfl rfl ?_
        refine s_iconst C (4 : Int32) dX6_bookLine_81 (by decide) ?_
        refine sm_callI C 1 [] (ct_X6_bad hL hM M5 (4 : Int32)) (lw_V q3142 q3144 qs47 q147 q3145) nd_X6_bad rfl (le_fr hf rfl) (le_fr hlo rfl) rfl (Nat.le_of_ble_eq_true rfl) dX6_bookLine_82 fun r24 M23 => ?_
        exact s_zret 2 C (by decide) (by decide) rfl dX6_bookLine_85
    · refine s_aload_n C dX6_bookLine_65 0 rfl rfl ?_
      refine s_iconst C (1 : Int32) dX6_bookLine_66 (by decide) ?_
      refine sm_callI C 1 [] (ct_X6_bad hL hM M5 (1 : Int32)) (lw_V q3142 q3144 qs47 q147 q3145) nd_X6_bad rfl (le_fr hf rfl) (le_fr hlo rfl) rfl (Nat.le_of_ble_eq_true rfl) dX6_bookLine_67 fun r26 M25 => ?_
      exact s_zret 2 C (by decide) (by decide) rfl dX6_bookLine_70
  refine s_if_eq C 26 dX6_bookLine_19 (by decide) ?_ ?_
  · refine s_aload_n C dX6_bookLine_26 1 rfl rfl ?_
    refine s_ldc2 C q2916 dX6_bookLine_27 ?_
    refine sm_callI C 1 [.int a1, vr (aid mo 9)] (ct_X6_isWord hL hM M2 (1819242347 : Int64)) (lw_V q3134 q3136 qs45 q147 q3137) nd_X6_isWord rfl (le_fr hf rfl) (le_fr hlo rfl) rfl (Nat.le_of_ble_eq_true rfl) dX6_bookLine_30 fun r28 M27 => ?_
    refine s_if_eq C 40 dX6_bookLine_33 (by decide) ?_ ?_
    · refine s_aload_n C dX6_bookLine_40 1 rfl rfl ?_
      refine s_ldc2 C q2917 dX6_bookLine_41 ?_
      refine sm_callI C 1 [.int a1, vr (aid mo 9)] (ct_X6_isWord hL hM M27 (1735552887 : Int64)) (lw_V q3134 q3136 qs45 q147 q3137) nd_X6_isWord rfl (le_fr hf rfl) (le_fr hlo rfl) rfl (Nat.le_of_ble_eq_true rfl) dX6_bookLine_44 fun r30 M29 => ?_
      refine s_if_eq C 54 dX6_bookLine_47 (by decide) ?_ ?_
      · refine s_iconst C (-1 : Int32) dX6_bookLine_54 (by decide) ?_
        refine Sim.keep [1, 0] rfl ?_
        exact hj55 _ _ _ _
      · refine s_iconst C (2 : Int32) dX6_bookLine_50 (by decide) ?_
        refine s_goto C 55 dX6_bookLine_51 (by decide) ?_
        refine Sim.keep [1, 0] rfl ?_
        exact hj55 _ _ _ _
    · refine s_iconst C (1 : Int32) dX6_bookLine_36 (by decide) ?_
      refine s_goto C 55 dX6_bookLine_37 (by decide) ?_
      refine Sim.keep [1, 0] rfl ?_
      exact hj55 _ _ _ _
  · refine s_iconst C (0 : Int32) dX6_bookLine_22 (by decide) ?_
    refine s_goto C 55 dX6_bookLine_23 (by decide) ?_
    refine Sim.keep [1, 0] rfl ?_
    exact hj55 _ _ _ _

def g_sign (x1 : Int32) (M : Ms) : Option (Int32 × Ms) :=
  bn (g_isSign x1 M) fun r2 M1 =>
  if r2 = 0 then
    bn (g_bad (1 : Int32) M1) fun r5 M4 =>
    if nrw 2 r5 = r5 then some (r5, M4) else none
  else
    bn (g_next  M1) fun _ M3 =>
    if nrw 2 (1 : Int32) = (1 : Int32) then some ((1 : Int32), M3) else none
theorem nd_X6_sign : yX6_sign.cls = RX6 ∧ yX6_sign.cls ≠ "java/lang/invoke/MethodHandle" ∧ yX6_sign.cls ≠ "java/lang/invoke/VarHandle" ∧ (parseMethodDescriptor yX6_sign.desc).map (fun d => d.parameters.length) = some 1 := ⟨rfl, by decide +kernel, by decide +kernel, by decide +kernel⟩
theorem ct_X6_sign {G : Gx} {RL : Lv} {Pl : Nat → Bool} {l : Launch} (hL : LvA G RL Pl) {h0 : Hp} {mo : Nat} (hM : MP Pl mo) (M : Ms) (x1 : Int32) : Ct (plug h0 mo) G RL l yX6_sign (ws_ yX6_sign cX6_sign 2 (some .boolean)) 2 43 finI [vr mo, .int x1] M (g_sign x1 M) := by
  refine Ct.of (Pl := Pl) [(0, vr mo), (1, .int x1)] (by decide) hL rfl (Nat.le_of_ble_eq_true rfl) ?_
  intro E C hn hf hlo e1 e2 e3 e4 e5
  subst e1; subst e2; subst e3; subst e4
  replace C : Cx E cX6_sign (some .boolean) RX6 := C
  unfold g_sign
  refine s_aload_n C dX6_sign_0 0 rfl rfl ?_
  refine s_iload_n C dX6_sign_1 1 rfl rfl ?_
  refine sm_callI C 1 [] (ct_X6_isSign hL hM M x1) (lw_V q3181 q3183 qs56 q147 q3184) nd_X6_isSign rfl (le_fr hf rfl) (le_fr hlo rfl) rfl (Nat.le_of_ble_eq_true rfl) dX6_sign_2 fun r2 M1 => ?_
  refine s_if_ne C 14 dX6_sign_5 (by decide) ?_ ?_
  · refine s_aload_n C dX6_sign_14 0 rfl rfl ?_
    refine sm_callV C 0 [] (ct_X6_next hL hM M1 ) (lw_V q3116 q3118 qs42 q147 q3119) nd_X6_next rfl (le_fr hf rfl) (le_fr hlo rfl) rfl (Nat.le_of_ble_eq_true rfl) dX6_sign_15 fun _ M3 => ?_
    refine s_iconst C (1 : Int32) dX6_sign_18 (by decide) ?_
    exact s_zret 2 C (by decide) (by decide) rfl dX6_sign_19
  · refine s_aload_n C dX6_sign_8 0 rfl rfl ?_
    refine s_iconst C (1 : Int32) dX6_sign_9 (by decide) ?_
    refine sm_callI C 1 [] (ct_X6_bad hL hM M1 (1 : Int32)) (lw_V q3142 q3144 qs47 q147 q3145) nd_X6_bad rfl (le_fr hf rfl) (le_fr hlo rfl) rfl (Nat.le_of_ble_eq_true rfl) dX6_sign_10 fun r5 M4 => ?_
    exact s_zret 2 C (by decide) (by decide) rfl dX6_sign_13

def g_copies_L2 (x1 : Nat) : Int32 → Ms → Option (Unit × Ms) :=
  lp FU fun rec2 v2 M1 =>
    if (222 : Int32) ≤ v2 then
      some ((), M1)
    else
      (aI 0 6 ((2 : Int32) + v2) M1).bind fun a2 =>
      (sI 0 x1 v2 a2 M1).bind fun M3 =>
      rec2 (v2 + (1 : Int32)) M3
def g_copies (x1 : Nat) (M : Ms) : Option (Unit × Ms) :=
  g_copies_L2 x1 (0 : Int32) M
theorem nd_X6_copies : yX6_copies.cls = RX6 ∧ yX6_copies.cls ≠ "java/lang/invoke/MethodHandle" ∧ yX6_copies.cls ≠ "java/lang/invoke/VarHandle" ∧ (parseMethodDescriptor yX6_copies.desc).map (fun d => d.parameters.length) = some 1 := ⟨rfl, by decide +kernel, by decide +kernel, by decide +kernel⟩
theorem ct_X6_copies {G : Gx} {RL : Lv} {Pl : Nat → Bool} {l : Launch} (hL : LvA G RL Pl) {h0 : Hp} {mo : Nat} (hM : MP Pl mo) (M : Ms) (x1 : Nat) : Ct (plug h0 mo) G RL l yX6_copies (ws_ yX6_copies cX6_copies 3 none) 0 0 finV [vr mo, vr (aid mo x1)] M (g_copies x1 M) := by
  refine Ct.of (Pl := Pl) [(0, vr mo), (1, vr (aid mo x1))] (by decide) hL rfl (Nat.le_of_ble_eq_true rfl) ?_
  intro E C hn hf hlo e1 e2 e3 e4 e5
  subst e1; subst e2; subst e3; subst e4
  replace C : Cx E cX6_copies none RX6 := C
  unfold g_copies
  refine s_iconst C (0 : Int32) dX6_copies_0 (by decide) ?_
  have hL2 : ∀ (x1 : Nat) (v2 : Int32) (M1 : Ms), Sim (plug h0 mo) E (QM (plug h0 mo) E finV) M1 2 [(0, vr mo), (1, vr (aid mo x1)), (2, .int v2)] [] (g_copies_L2 x1 v2 M1) := by
    intro x1 v2 M1
    refine Sim.loop (fun v2 => [(0, vr mo), (1, vr (aid mo x1)), (2, .int v2)]) (fun _ => []) (fun rec2 hr2 v2 M1 => ?_) FU v2 M1
    refine s_iload_n C dX6_copies_2 2 rfl rfl ?_
    refine s_sipush C (222 : Int32) dX6_copies_3 (by decide) ?_
    refine s_icmp_ge C 26 dX6_copies_6 (by decide) ?_ ?_
    · exact s_vret C rfl dX6_copies_26
    · refine s_aload_n C dX6_copies_9 1 rfl rfl ?_
      refine s_iload_n C dX6_copies_10 2 rfl rfl ?_
      refine s_aload_n C dX6_copies_11 0 rfl rfl ?_
      refine sm_getA 6 C hM fo_X6_33_6 rfl (by decide) dX6_copies_12 ?_
      refine s_iconst C (2 : Int32) dX6_copies_15 (by decide) ?_
      refine s_iload_n C dX6_copies_16 2 rfl rfl ?_
      refine s_iadd C dX6_copies_17 ?_
      refine sm_iald C hM dX6_copies_18 fun a2 => ?_
      refine sm_iast C hM dX6_copies_19 fun M3 => ?_
      refine s_iinc (la' := [(2, .int (v2 + (1 : Int32))), (0, vr mo), (1, vr (aid mo x1))]) C 2 dX6_copies_20 rfl rfl (lt_nl e5 rfl) rfl ?_
      refine s_goto C 2 dX6_copies_23 (by decide) ?_
      refine Sim.keep [1, 2, 0] rfl ?_
      exact hr2 _ _
  refine s_istore_n (la' := [(2, .int (0 : Int32)), (0, vr mo), (1, vr (aid mo x1))]) C 2 dX6_copies_1 rfl (lt_nl e5 rfl) rfl ?_
  refine Sim.keep [1, 2, 0] rfl ?_
  exact hL2 _ _ _

def g_whyVote_j20  (M4 : Ms) : Option (Int32 × Ms) :=
  some ((1 : Int32), M4)
def g_whyVote_j71 (y0 : Int32) (M12 : Ms) : Option (Int32 × Ms) :=
  some (y0, M12)
def g_whyVote (x1 : Int32) (x2 : Int32) (x3 : Int32) (M : Ms) : Option (Int32 × Ms) :=
  bn (g_lays  M) fun _ M1 =>
  bn (g_isPoint x2 M1) fun r3 M2 =>
  if r3 = 0 then
    g_whyVote_j20 M2
  else
    bn (g_isPoint x3 M2) fun r6 M5 =>
    if r6 = 0 then
      g_whyVote_j20 M5
    else
      bn (g_isAhead x2 x3 M5) fun r8 M7 =>
      if r8 = 0 then
        some ((2 : Int32), M7)
      else
        (aI 0 23 (((20 : Int32) * x2) + x3) M7).bind fun a9 =>
        bn (g_bitOf a9 x1 M7) fun r11 M10 =>
        if r11 = 0 then
          (aI 0 6 (3 : Int32) M10).bind fun a13 =>
          if a13 = (48 : Int32) then
            g_whyVote_j71 (4 : Int32) M10
          else
            g_whyVote_j71 (0 : Int32) M10
        else
          g_whyVote_j71 (3 : Int32) M10
theorem nd_X6_whyVote : yX6_whyVote.cls = RX6 ∧ yX6_whyVote.cls ≠ "java/lang/invoke/MethodHandle" ∧ yX6_whyVote.cls ≠ "java/lang/invoke/VarHandle" ∧ (parseMethodDescriptor yX6_whyVote.desc).map (fun d => d.parameters.length) = some 3 := ⟨rfl, by decide +kernel, by decide +kernel, by decide +kernel⟩
theorem ct_X6_whyVote {G : Gx} {RL : Lv} {Pl : Nat → Bool} {l : Launch} (hL : LvA G RL Pl) {h0 : Hp} {mo : Nat} (hM : MP Pl mo) (M : Ms) (x1 : Int32) (x2 : Int32) (x3 : Int32) : Ct (plug h0 mo) G RL l yX6_whyVote (ws_ yX6_whyVote cX6_whyVote 4 (some .int)) 7 163 finI [vr mo, .int x1, .int x2, .int x3] M (g_whyVote x1 x2 x3 M) := by
  refine Ct.of (Pl := Pl) [(0, vr mo), (1, .int x1), (2, .int x2), (3, .int x3)] (by decide) hL rfl (Nat.le_of_ble_eq_true rfl) ?_
  intro E C hn hf hlo e1 e2 e3 e4 e5
  subst e1; subst e2; subst e3; subst e4
  replace C : Cx E cX6_whyVote (some .int) RX6 := C
  unfold g_whyVote
  refine s_aload_n C dX6_whyVote_0 0 rfl rfl ?_
  refine sm_callV C 0 [] (ct_X6_lays hL hM M ) (lw_V q3201 q3203 qs59 q147 q3204) nd_X6_lays rfl (le_fr hf rfl) (le_fr hlo rfl) rfl (Nat.le_of_ble_eq_true rfl) dX6_whyVote_1 fun _ M1 => ?_
  refine s_aload_n C dX6_whyVote_4 0 rfl rfl ?_
  refine s_iload_n C dX6_whyVote_5 2 rfl rfl ?_
  refine sm_callI C 1 [] (ct_X6_isPoint hL hM M1 x2) (lw_V q3260 q3262 qs73 q147 q3263) nd_X6_isPoint rfl (le_fr hf rfl) (le_fr hlo rfl) rfl (Nat.le_of_ble_eq_true rfl) dX6_whyVote_6 fun r3 M2 => ?_
  have hj20 : ∀  (M4 : Ms), Sim (plug h0 mo) E (QM (plug h0 mo) E finI) M4 20 [] [] (g_whyVote_j20 M4) := by
    intro M4
    refine s_iconst C (1 : Int32) dX6_whyVote_20 (by decide) ?_
    exact s_iret C rfl dX6_whyVote_21
  refine s_if_eq C 20 dX6_whyVote_9 (by decide) ?_ ?_
  · refine Sim.keep [] rfl ?_
    exact hj20 _
  · refine s_aload_n C dX6_whyVote_12 0 rfl rfl ?_
    refine s_iload_n C dX6_whyVote_13 3 rfl rfl ?_
    refine sm_callI C 1 [] (ct_X6_isPoint hL hM M2 x3) (lw_V q3260 q3262 qs73 q147 q3263) nd_X6_isPoint rfl (le_fr hf rfl) (le_fr hlo rfl) rfl (Nat.le_of_ble_eq_true rfl) dX6_whyVote_14 fun r6 M5 => ?_
    refine s_if_ne C 22 dX6_whyVote_17 (by decide) ?_ ?_
    · refine s_aload_n C dX6_whyVote_22 0 rfl rfl ?_
      refine s_iload_n C dX6_whyVote_23 2 rfl rfl ?_
      refine s_iload_n C dX6_whyVote_24 3 rfl rfl ?_
      refine sm_callI C 2 [] (ct_X6_isAhead hL hM M5 x2 x3) (lw_V q3275 q3277 qs75 q147 q3278) nd_X6_isAhead rfl (le_fr hf rfl) (le_fr hlo rfl) rfl (Nat.le_of_ble_eq_true rfl) dX6_whyVote_25 fun r8 M7 => ?_
      refine s_if_ne C 33 dX6_whyVote_28 (by decide) ?_ ?_
      · refine s_aload_n C dX6_whyVote_33 0 rfl rfl ?_
        refine sm_getA 23 C hM fo_X6_59_6 rfl (by decide) dX6_whyVote_34 ?_
        refine s_bipush C (20 : Int32) dX6_whyVote_37 (by decide) ?_
        refine s_iload_n C dX6_whyVote_39 2 rfl rfl ?_
        refine s_imul C dX6_whyVote_40 ?_
        refine s_iload_n C dX6_whyVote_41 3 rfl rfl ?_
        refine s_iadd C dX6_whyVote_42 ?_
        refine sm_iald C hM dX6_whyVote_43 fun a9 => ?_
        refine s_iload_n C dX6_whyVote_44 1 rfl rfl ?_
        refine sm_callSI C 2 [] (ct_X6_bitOf hL hM M7 a9 x1) (lw_S q3241 q3242 q147 q3243) nd_X6_bitOf rfl (le_fr hf rfl) (le_fr hlo rfl) rfl (Nat.le_of_ble_eq_true rfl) dX6_whyVote_45 fun r11 M10 => ?_
        have hj71 : ∀ (y0 : Int32) (M12 : Ms), Sim (plug h0 mo) E (QM (plug h0 mo) E finI) M12 71 [] [.int y0] (g_whyVote_j71 y0 M12) := by
          intro y0 M12
          exact s_iret C rfl dX6_whyVote_71
        refine s_if_eq C 55 dX6_whyVote_48 (by decide) ?_ ?_
        · refine s_aload_n C dX6_whyVote_55 0 rfl rfl ?_
          refine sm_getA 6 C hM fo_X6_33_6 rfl (by decide) dX6_whyVote_56 ?_
          refine s_iconst C (3 : Int32) dX6_whyVote_59 (by decide) ?_
          refine sm_iald C hM dX6_whyVote_60 fun a13 => ?_
          refine s_bipush C (48 : Int32) dX6_whyVote_61 (by decide) ?_
          refine s_icmp_ne C 70 dX6_whyVote_63 (by decide) ?_ ?_
          · refine s_iconst C (0 : Int32) dX6_whyVote_70 (by decide) ?_
            refine Sim.keep [] rfl ?_
            exact hj71 _ _
          · refine s_iconst C (4 : Int32) dX6_whyVote_66 (by decide) ?_
            refine s_goto C 71 dX6_whyVote_67 (by decide) ?_
            refine Sim.keep [] rfl ?_
            exact hj71 _ _
        · refine s_iconst C (3 : Int32) dX6_whyVote_51 (by decide) ?_
          refine s_goto C 71 dX6_whyVote_52 (by decide) ?_
          refine Sim.keep [] rfl ?_
          exact hj71 _ _
      · refine s_iconst C (2 : Int32) dX6_whyVote_31 (by decide) ?_
        exact s_iret C rfl dX6_whyVote_32
    · refine Sim.keep [] rfl ?_
      exact hj20 _

def g_doesVote (x1 : Int32) (x2 : Int32) (x3 : Int32) (M : Ms) : Option (Unit × Ms) :=
  (aI 0 6 (3 : Int32) M).bind fun a1 =>
  (sI 0 6 ((72 : Int32) + a1) x1 M).bind fun M2 =>
  (sI 0 6 ((120 : Int32) + a1) x2 M2).bind fun M3 =>
  (sI 0 6 ((168 : Int32) + a1) x3 M3).bind fun M4 =>
  (aI 0 6 (3 : Int32) M4).bind fun a5 =>
  (sI 0 6 (3 : Int32) (a5 + (1 : Int32)) M4).bind fun M6 =>
  (pZ 34 (0 : Int32) M6).bind fun M7 =>
  some ((), M7)
theorem nd_X6_doesVote : yX6_doesVote.cls = RX6 ∧ yX6_doesVote.cls ≠ "java/lang/invoke/MethodHandle" ∧ yX6_doesVote.cls ≠ "java/lang/invoke/VarHandle" ∧ (parseMethodDescriptor yX6_doesVote.desc).map (fun d => d.parameters.length) = some 3 := ⟨rfl, by decide +kernel, by decide +kernel, by decide +kernel⟩
theorem ct_X6_doesVote {G : Gx} {RL : Lv} {Pl : Nat → Bool} {l : Launch} (hL : LvA G RL Pl) {h0 : Hp} {mo : Nat} (hM : MP Pl mo) (M : Ms) (x1 : Int32) (x2 : Int32) (x3 : Int32) : Ct (plug h0 mo) G RL l yX6_doesVote (ws_ yX6_doesVote cX6_doesVote 5 none) 0 0 finV [vr mo, .int x1, .int x2, .int x3] M (g_doesVote x1 x2 x3 M) := by
  refine Ct.of (Pl := Pl) [(0, vr mo), (1, .int x1), (2, .int x2), (3, .int x3)] (by decide) hL rfl (Nat.le_of_ble_eq_true rfl) ?_
  intro E C hn hf hlo e1 e2 e3 e4 e5
  subst e1; subst e2; subst e3; subst e4
  replace C : Cx E cX6_doesVote none RX6 := C
  unfold g_doesVote
  refine s_aload_n C dX6_doesVote_0 0 rfl rfl ?_
  refine sm_getA 6 C hM fo_X6_33_6 rfl (by decide) dX6_doesVote_1 ?_
  refine s_iconst C (3 : Int32) dX6_doesVote_4 (by decide) ?_
  refine sm_iald C hM dX6_doesVote_5 fun a1 => ?_
  refine s_istore (la' := [(4, .int a1), (0, vr mo), (1, .int x1), (2, .int x2), (3, .int x3)]) C dX6_doesVote_6 (lt_nl e5 rfl) rfl ?_
  refine s_aload_n C dX6_doesVote_8 1 rfl rfl ?_
  refine sm_getA 6 C hM fo_X6_33_6 rfl (by decide) dX6_doesVote_9 ?_
  refine s_bipush C (72 : Int32) dX6_doesVote_12 (by decide) ?_
  refine s_iload C dX6_doesVote_14 0 rfl ?_
  refine s_iadd C dX6_doesVote_16 ?_
  refine s_iload_n C dX6_doesVote_17 2 rfl rfl ?_
  refine sm_iast C hM dX6_doesVote_18 fun M2 => ?_
  refine s_aload_n C dX6_doesVote_19 1 rfl rfl ?_
  refine sm_getA 6 C hM fo_X6_33_6 rfl (by decide) dX6_doesVote_20 ?_
  refine s_bipush C (120 : Int32) dX6_doesVote_23 (by decide) ?_
  refine s_iload C dX6_doesVote_25 0 rfl ?_
  refine s_iadd C dX6_doesVote_27 ?_
  refine s_iload_n C dX6_doesVote_28 3 rfl rfl ?_
  refine sm_iast C hM dX6_doesVote_29 fun M3 => ?_
  refine s_aload_n C dX6_doesVote_30 1 rfl rfl ?_
  refine sm_getA 6 C hM fo_X6_33_6 rfl (by decide) dX6_doesVote_31 ?_
  refine s_sipush C (168 : Int32) dX6_doesVote_34 (by decide) ?_
  refine s_iload C dX6_doesVote_37 0 rfl ?_
  refine s_iadd C dX6_doesVote_39 ?_
  refine s_iload_n C dX6_doesVote_40 4 rfl rfl ?_
  refine sm_iast C hM dX6_doesVote_41 fun M4 => ?_
  refine s_aload_n C dX6_doesVote_42 1 rfl rfl ?_
  refine sm_getA 6 C hM fo_X6_33_6 rfl (by decide) dX6_doesVote_43 ?_
  refine s_iconst C (3 : Int32) dX6_doesVote_46 (by decide) ?_
  refine s_dup2 C dX6_doesVote_47 rfl rfl ?_
  refine sm_iald C hM dX6_doesVote_48 fun a5 => ?_
  refine s_iconst C (1 : Int32) dX6_doesVote_49 (by decide) ?_
  refine s_iadd C dX6_doesVote_50 ?_
  refine sm_iast C hM dX6_doesVote_51 fun M6 => ?_
  refine s_aload_n C dX6_doesVote_52 1 rfl rfl ?_
  refine s_iconst C (0 : Int32) dX6_doesVote_53 (by decide) ?_
  refine sm_putZ 34 C hM fo_X6_242_6 rfl rfl rfl dX6_doesVote_54 fun M7 => ?_
  exact s_vret C rfl dX6_doesVote_57

def g_doesLook (x1 : Int32) (x2 : Int32) (M : Ms) : Option (Unit × Ms) :=
  (sI 0 6 ((216 : Int32) + x1) x2 M).bind fun M1 =>
  (pZ 34 (0 : Int32) M1).bind fun M2 =>
  some ((), M2)
theorem nd_X6_doesLook : yX6_doesLook.cls = RX6 ∧ yX6_doesLook.cls ≠ "java/lang/invoke/MethodHandle" ∧ yX6_doesLook.cls ≠ "java/lang/invoke/VarHandle" ∧ (parseMethodDescriptor yX6_doesLook.desc).map (fun d => d.parameters.length) = some 2 := ⟨rfl, by decide +kernel, by decide +kernel, by decide +kernel⟩
theorem ct_X6_doesLook {G : Gx} {RL : Lv} {Pl : Nat → Bool} {l : Launch} (hL : LvA G RL Pl) {h0 : Hp} {mo : Nat} (hM : MP Pl mo) (M : Ms) (x1 : Int32) (x2 : Int32) : Ct (plug h0 mo) G RL l yX6_doesLook (ws_ yX6_doesLook cX6_doesLook 3 none) 0 0 finV [vr mo, .int x1, .int x2] M (g_doesLook x1 x2 M) := by
  refine Ct.of (Pl := Pl) [(0, vr mo), (1, .int x1), (2, .int x2)] (by decide) hL rfl (Nat.le_of_ble_eq_true rfl) ?_
  intro E C hn hf hlo e1 e2 e3 e4 e5
  subst e1; subst e2; subst e3; subst e4
  replace C : Cx E cX6_doesLook none RX6 := C
  unfold g_doesLook
  refine s_aload_n C dX6_doesLook_0 0 rfl rfl ?_
  refine sm_getA 6 C hM fo_X6_33_6 rfl (by decide) dX6_doesLook_1 ?_
  refine s_sipush C (216 : Int32) dX6_doesLook_4 (by decide) ?_
  refine s_iload_n C dX6_doesLook_7 1 rfl rfl ?_
  refine s_iadd C dX6_doesLook_8 ?_
  refine s_iload_n C dX6_doesLook_9 2 rfl rfl ?_
  refine sm_iast C hM dX6_doesLook_10 fun M1 => ?_
  refine s_aload_n C dX6_doesLook_11 0 rfl rfl ?_
  refine s_iconst C (0 : Int32) dX6_doesLook_12 (by decide) ?_
  refine sm_putZ 34 C hM fo_X6_242_6 rfl rfl rfl dX6_doesLook_13 fun M2 => ?_
  exact s_vret C rfl dX6_doesLook_16

def g_doesGrow (x1 : Int32) (M : Ms) : Option (Unit × Ms) :=
  (aI 0 6 (2 : Int32) M).bind fun a1 =>
  (sI 0 6 ((12 : Int32) + a1) x1 M).bind fun M2 =>
  (sI 0 6 ((32 : Int32) + a1) (-1 : Int32) M2).bind fun M3 =>
  (sI 0 6 ((52 : Int32) + a1) (0 : Int32) M3).bind fun M4 =>
  (aI 0 6 (2 : Int32) M4).bind fun a5 =>
  (sI 0 6 (2 : Int32) (a5 + (1 : Int32)) M4).bind fun M6 =>
  (pZ 34 (0 : Int32) M6).bind fun M7 =>
  some ((), M7)
theorem nd_X6_doesGrow : yX6_doesGrow.cls = RX6 ∧ yX6_doesGrow.cls ≠ "java/lang/invoke/MethodHandle" ∧ yX6_doesGrow.cls ≠ "java/lang/invoke/VarHandle" ∧ (parseMethodDescriptor yX6_doesGrow.desc).map (fun d => d.parameters.length) = some 1 := ⟨rfl, by decide +kernel, by decide +kernel, by decide +kernel⟩
theorem ct_X6_doesGrow {G : Gx} {RL : Lv} {Pl : Nat → Bool} {l : Launch} (hL : LvA G RL Pl) {h0 : Hp} {mo : Nat} (hM : MP Pl mo) (M : Ms) (x1 : Int32) : Ct (plug h0 mo) G RL l yX6_doesGrow (ws_ yX6_doesGrow cX6_doesGrow 3 none) 0 0 finV [vr mo, .int x1] M (g_doesGrow x1 M) := by
  refine Ct.of (Pl := Pl) [(0, vr mo), (1, .int x1)] (by decide) hL rfl (Nat.le_of_ble_eq_true rfl) ?_
  intro E C hn hf hlo e1 e2 e3 e4 e5
  subst e1; subst e2; subst e3; subst e4
  replace C : Cx E cX6_doesGrow none RX6 := C
  unfold g_doesGrow
  refine s_aload_n C dX6_doesGrow_0 0 rfl rfl ?_
  refine sm_getA 6 C hM fo_X6_33_6 rfl (by decide) dX6_doesGrow_1 ?_
  refine s_iconst C (2 : Int32) dX6_doesGrow_4 (by decide) ?_
  refine sm_iald C hM dX6_doesGrow_5 fun a1 => ?_
  refine s_istore_n (la' := [(2, .int a1), (0, vr mo), (1, .int x1)]) C 2 dX6_doesGrow_6 rfl (lt_nl e5 rfl) rfl ?_
  refine s_aload_n C dX6_doesGrow_7 1 rfl rfl ?_
  refine sm_getA 6 C hM fo_X6_33_6 rfl (by decide) dX6_doesGrow_8 ?_
  refine s_bipush C (12 : Int32) dX6_doesGrow_11 (by decide) ?_
  refine s_iload_n C dX6_doesGrow_13 0 rfl rfl ?_
  refine s_iadd C dX6_doesGrow_14 ?_
  refine s_iload_n C dX6_doesGrow_15 2 rfl rfl ?_
  refine sm_iast C hM dX6_doesGrow_16 fun M2 => ?_
  refine s_aload_n C dX6_doesGrow_17 1 rfl rfl ?_
  refine sm_getA 6 C hM fo_X6_33_6 rfl (by decide) dX6_doesGrow_18 ?_
  refine s_bipush C (32 : Int32) dX6_doesGrow_21 (by decide) ?_
  refine s_iload_n C dX6_doesGrow_23 0 rfl rfl ?_
  refine s_iadd C dX6_doesGrow_24 ?_
  refine s_iconst C (-1 : Int32) dX6_doesGrow_25 (by decide) ?_
  refine sm_iast C hM dX6_doesGrow_26 fun M3 => ?_
  refine s_aload_n C dX6_doesGrow_27 1 rfl rfl ?_
  refine sm_getA 6 C hM fo_X6_33_6 rfl (by decide) dX6_doesGrow_28 ?_
  refine s_bipush C (52 : Int32) dX6_doesGrow_31 (by decide) ?_
  refine s_iload_n C dX6_doesGrow_33 0 rfl rfl ?_
  refine s_iadd C dX6_doesGrow_34 ?_
  refine s_iconst C (0 : Int32) dX6_doesGrow_35 (by decide) ?_
  refine sm_iast C hM dX6_doesGrow_36 fun M4 => ?_
  refine s_aload_n C dX6_doesGrow_37 1 rfl rfl ?_
  refine sm_getA 6 C hM fo_X6_33_6 rfl (by decide) dX6_doesGrow_38 ?_
  refine s_iconst C (2 : Int32) dX6_doesGrow_41 (by decide) ?_
  refine s_dup2 C dX6_doesGrow_42 rfl rfl ?_
  refine sm_iald C hM dX6_doesGrow_43 fun a5 => ?_
  refine s_iconst C (1 : Int32) dX6_doesGrow_44 (by decide) ?_
  refine s_iadd C dX6_doesGrow_45 ?_
  refine sm_iast C hM dX6_doesGrow_46 fun M6 => ?_
  refine s_aload_n C dX6_doesGrow_47 1 rfl rfl ?_
  refine s_iconst C (0 : Int32) dX6_doesGrow_48 (by decide) ?_
  refine sm_putZ 34 C hM fo_X6_242_6 rfl rfl rfl dX6_doesGrow_49 fun M7 => ?_
  exact s_vret C rfl dX6_doesGrow_52

def g_does_j62 (x4 : Int32) (M12 : Ms) : Option (Int32 × Ms) :=
  some (x4, M12)
def g_does (x1 : Int32) (M : Ms) : Option (Int32 × Ms) :=
  (aI 0 9 (x1 + (1 : Int32)) M).bind fun a1 =>
  (aI 0 9 (x1 + (2 : Int32)) M).bind fun a2 =>
  (aI 0 9 x1 M).bind fun a3 =>
  if a3 = 0 then
    (aI 0 9 (x1 + (3 : Int32)) M).bind fun a9 =>
    bn (g_whyVote a1 a2 a9 M) fun r11 M10 =>
    if r11 = 0 then
      (aI 0 9 (x1 + (3 : Int32)) M10).bind fun a13 =>
      bn (g_doesVote a1 a2 a13 M10) fun _ M14 =>
      g_does_j62 r11 M14
    else
      g_does_j62 r11 M10
  else
    (aI 0 9 x1 M).bind fun a4 =>
    if a4 = (1 : Int32) then
      (aI 0 6 ((216 : Int32) + a1) M).bind fun a7 =>
      if a7 = a2 then
        some ((11 : Int32), M)
      else
        bn (g_doesLook a1 a2 M) fun _ M8 =>
        some ((0 : Int32), M8)
    else
      (aI 0 6 (2 : Int32) M).bind fun a5 =>
      if a5 = (20 : Int32) then
        some ((21 : Int32), M)
      else
        bn (g_doesGrow a2 M) fun _ M6 =>
        some ((0 : Int32), M6)
theorem nd_X6_does : yX6_does.cls = RX6 ∧ yX6_does.cls ≠ "java/lang/invoke/MethodHandle" ∧ yX6_does.cls ≠ "java/lang/invoke/VarHandle" ∧ (parseMethodDescriptor yX6_does.desc).map (fun d => d.parameters.length) = some 1 := ⟨rfl, by decide +kernel, by decide +kernel, by decide +kernel⟩
theorem ct_X6_does {G : Gx} {RL : Lv} {Pl : Nat → Bool} {l : Launch} (hL : LvA G RL Pl) {h0 : Hp} {mo : Nat} (hM : MP Pl mo) (M : Ms) (x1 : Int32) : Ct (plug h0 mo) G RL l yX6_does (ws_ yX6_does cX6_does 5 (some .int)) 8 186 finI [vr mo, .int x1] M (g_does x1 M) := by
  refine Ct.of (Pl := Pl) [(0, vr mo), (1, .int x1)] (by decide) hL rfl (Nat.le_of_ble_eq_true rfl) ?_
  intro E C hn hf hlo e1 e2 e3 e4 e5
  subst e1; subst e2; subst e3; subst e4
  replace C : Cx E cX6_does (some .int) RX6 := C
  unfold g_does
  refine s_aload_n C dX6_does_0 0 rfl rfl ?_
  refine sm_getA 9 C hM fo_X6_43_6 rfl (by decide) dX6_does_1 ?_
  refine s_iload_n C dX6_does_4 1 rfl rfl ?_
  refine s_iconst C (1 : Int32) dX6_does_5 (by decide) ?_
  refine s_iadd C dX6_does_6 ?_
  refine sm_iald C hM dX6_does_7 fun a1 => ?_
  refine s_istore_n (la' := [(2, .int a1), (0, vr mo), (1, .int x1)]) C 2 dX6_does_8 rfl (lt_nl e5 rfl) rfl ?_
  refine s_aload_n C dX6_does_9 1 rfl rfl ?_
  refine sm_getA 9 C hM fo_X6_43_6 rfl (by decide) dX6_does_10 ?_
  refine s_iload_n C dX6_does_13 2 rfl rfl ?_
  refine s_iconst C (2 : Int32) dX6_does_14 (by decide) ?_
  refine s_iadd C dX6_does_15 ?_
  refine sm_iald C hM dX6_does_16 fun a2 => ?_
  refine s_istore_n (la' := [(3, .int a2), (2, .int a1), (0, vr mo), (1, .int x1)]) C 3 dX6_does_17 rfl (lt_nl e5 rfl) rfl ?_
  refine s_aload_n C dX6_does_18 2 rfl rfl ?_
  refine sm_getA 9 C hM fo_X6_43_6 rfl (by decide) dX6_does_19 ?_
  refine s_iload_n C dX6_does_22 3 rfl rfl ?_
  refine sm_iald C hM dX6_does_23 fun a3 => ?_
  refine s_if_ne C 65 dX6_does_24 (by decide) ?_ ?_
  · refine s_aload_n C dX6_does_65 2 rfl rfl ?_
    refine sm_getA 9 C hM fo_X6_43_6 rfl (by decide) dX6_does_66 ?_
    refine s_iload_n C dX6_does_69 3 rfl rfl ?_
    refine sm_iald C hM dX6_does_70 fun a4 => ?_
    refine s_iconst C (1 : Int32) dX6_does_71 (by decide) ?_
    refine s_icmp_ne C 100 dX6_does_72 (by decide) ?_ ?_
    · refine s_aload_n C dX6_does_100 2 rfl rfl ?_
      refine sm_getA 6 C hM fo_X6_33_6 rfl (by decide) dX6_does_101 ?_
      refine s_iconst C (2 : Int32) dX6_does_104 (by decide) ?_
      refine sm_iald C hM dX6_does_105 fun a5 => ?_
      refine s_bipush C (20 : Int32) dX6_does_106 (by decide) ?_
      refine s_icmp_ne C 114 dX6_does_108 (by decide) ?_ ?_
      · refine s_aload_n C dX6_does_114 2 rfl rfl ?_
        refine s_iload_n C dX6_does_115 0 rfl rfl ?_
        refine sm_callV C 1 [] (ct_X6_doesGrow hL hM M a2) (lw_V q3347 q3349 qs85 q147 q3350) nd_X6_doesGrow rfl (le_fr hf rfl) (le_fr hlo rfl) rfl (Nat.le_of_ble_eq_true rfl) dX6_does_116 fun _ M6 => ?_
        refine s_iconst C (0 : Int32) dX6_does_119 (by decide) ?_
        exact s_iret C rfl dX6_does_120
      · refine s_bipush C (21 : Int32) dX6_does_111 (by decide) ?_
        exact s_iret C rfl dX6_does_113
    · refine s_aload_n C dX6_does_75 2 rfl rfl ?_
      refine sm_getA 6 C hM fo_X6_33_6 rfl (by decide) dX6_does_76 ?_
      refine s_sipush C (216 : Int32) dX6_does_79 (by decide) ?_
      refine s_iload_n C dX6_does_82 1 rfl rfl ?_
      refine s_iadd C dX6_does_83 ?_
      refine sm_iald C hM dX6_does_84 fun a7 => ?_
      refine s_iload_n C dX6_does_85 0 rfl rfl ?_
      refine s_icmp_ne C 92 dX6_does_86 (by decide) ?_ ?_
      · refine s_aload_n C dX6_does_92 2 rfl rfl ?_
        refine s_iload_n C dX6_does_93 1 rfl rfl ?_
        refine s_iload_n C dX6_does_94 0 rfl rfl ?_
        refine sm_callV C 2 [] (ct_X6_doesLook hL hM M a1 a2) (lw_V q3339 q3341 qs84 q147 q3342) nd_X6_doesLook rfl (le_fr hf rfl) (le_fr hlo rfl) rfl (Nat.le_of_ble_eq_true rfl) dX6_does_95 fun _ M8 => ?_
        refine s_iconst C (0 : Int32) dX6_does_98 (by decide) ?_
        exact s_iret C rfl dX6_does_99
      · refine s_bipush C (11 : Int32) dX6_does_89 (by decide) ?_
        exact s_iret C rfl dX6_does_91
  · refine s_aload_n C dX6_does_27 2 rfl rfl ?_
    refine s_iload_n C dX6_does_28 1 rfl rfl ?_
    refine s_iload_n C dX6_does_29 0 rfl rfl ?_
    refine s_aload_n C dX6_does_30 2 rfl rfl ?_
    refine sm_getA 9 C hM fo_X6_43_6 rfl (by decide) dX6_does_31 ?_
    refine s_iload_n C dX6_does_34 3 rfl rfl ?_
    refine s_iconst C (3 : Int32) dX6_does_35 (by decide) ?_
    refine s_iadd C dX6_does_36 ?_
    refine sm_iald C hM dX6_does_37 fun a9 => ?_
    refine sm_callI C 3 [] (ct_X6_whyVote hL hM M a1 a2 a9) (lw_V q3315 q3317 qs79 q147 q3318) nd_X6_whyVote rfl (le_fr hf rfl) (le_fr hlo rfl) rfl (Nat.le_of_ble_eq_true rfl) dX6_does_38 fun r11 M10 => ?_
    refine s_istore (la' := [(4, .int r11), (3, .int a2), (2, .int a1), (0, vr mo), (1, .int x1)]) C dX6_does_41 (lt_nl e5 rfl) rfl ?_
    refine s_iload C dX6_does_43 0 rfl ?_
    have hj62 : ∀ (x4 : Int32) (M12 : Ms), Sim (plug h0 mo) E (QM (plug h0 mo) E finI) M12 62 [(4, .int x4)] [] (g_does_j62 x4 M12) := by
      intro x4 M12
      refine s_iload C dX6_does_62 0 rfl ?_
      exact s_iret C rfl dX6_does_64
    refine s_if_ne C 62 dX6_does_45 (by decide) ?_ ?_
    · refine Sim.keep [0] rfl ?_
      exact hj62 _ _
    · refine s_aload_n C dX6_does_48 3 rfl rfl ?_
      refine s_iload_n C dX6_does_49 2 rfl rfl ?_
      refine s_iload_n C dX6_does_50 1 rfl rfl ?_
      refine s_aload_n C dX6_does_51 3 rfl rfl ?_
      refine sm_getA 9 C hM fo_X6_43_6 rfl (by decide) dX6_does_52 ?_
      refine s_iload_n C dX6_does_55 4 rfl rfl ?_
      refine s_iconst C (3 : Int32) dX6_does_56 (by decide) ?_
      refine s_iadd C dX6_does_57 ?_
      refine sm_iald C hM dX6_does_58 fun a13 => ?_
      refine sm_callV C 3 [] (ct_X6_doesVote hL hM M10 a1 a2 a13) (lw_V q3331 q3333 qs83 q147 q3334) nd_X6_doesVote rfl (le_fr hf rfl) (le_fr hlo rfl) rfl (Nat.le_of_ble_eq_true rfl) dX6_does_59 fun _ M14 => ?_
      refine Sim.keep [0] rfl ?_
      exact hj62 _ _

def g_brings_L2 (x1 : Nat) (x2 : Int32) : Int32 → Ms → Option (Unit × Ms) :=
  lp FU fun rec2 v2 M1 =>
    if (222 : Int32) ≤ v2 then
      (pZ 34 (0 : Int32) M1).bind fun M2 =>
      some ((), M2)
    else
      (aI 0 x1 (x2 + v2) M1).bind fun a3 =>
      (sI 0 6 ((2 : Int32) + v2) a3 M1).bind fun M4 =>
      rec2 (v2 + (1 : Int32)) M4
def g_brings (x1 : Nat) (x2 : Int32) (M : Ms) : Option (Unit × Ms) :=
  g_brings_L2 x1 x2 (0 : Int32) M
theorem nd_X6_brings : yX6_brings.cls = RX6 ∧ yX6_brings.cls ≠ "java/lang/invoke/MethodHandle" ∧ yX6_brings.cls ≠ "java/lang/invoke/VarHandle" ∧ (parseMethodDescriptor yX6_brings.desc).map (fun d => d.parameters.length) = some 2 := ⟨rfl, by decide +kernel, by decide +kernel, by decide +kernel⟩
theorem ct_X6_brings {G : Gx} {RL : Lv} {Pl : Nat → Bool} {l : Launch} (hL : LvA G RL Pl) {h0 : Hp} {mo : Nat} (hM : MP Pl mo) (M : Ms) (x1 : Nat) (x2 : Int32) : Ct (plug h0 mo) G RL l yX6_brings (ws_ yX6_brings cX6_brings 4 none) 0 0 finV [vr mo, vr (aid mo x1), .int x2] M (g_brings x1 x2 M) := by
  refine Ct.of (Pl := Pl) [(0, vr mo), (1, vr (aid mo x1)), (2, .int x2)] (by decide) hL rfl (Nat.le_of_ble_eq_true rfl) ?_
  intro E C hn hf hlo e1 e2 e3 e4 e5
  subst e1; subst e2; subst e3; subst e4
  replace C : Cx E cX6_brings none RX6 := C
  unfold g_brings
  refine s_iconst C (0 : Int32) dX6_brings_0 (by decide) ?_
  have hL2 : ∀ (x1 : Nat) (x2 : Int32) (v2 : Int32) (M1 : Ms), Sim (plug h0 mo) E (QM (plug h0 mo) E finV) M1 2 [(0, vr mo), (1, vr (aid mo x1)), (2, .int x2), (3, .int v2)] [] (g_brings_L2 x1 x2 v2 M1) := by
    intro x1 x2 v2 M1
    refine Sim.loop (fun v2 => [(0, vr mo), (1, vr (aid mo x1)), (2, .int x2), (3, .int v2)]) (fun _ => []) (fun rec2 hr2 v2 M1 => ?_) FU v2 M1
    refine s_iload_n C dX6_brings_2 3 rfl rfl ?_
    refine s_sipush C (222 : Int32) dX6_brings_3 (by decide) ?_
    refine s_icmp_ge C 28 dX6_brings_6 (by decide) ?_ ?_
    · refine s_aload_n C dX6_brings_28 0 rfl rfl ?_
      refine s_iconst C (0 : Int32) dX6_brings_29 (by decide) ?_
      refine sm_putZ 34 C hM fo_X6_242_6 rfl rfl rfl dX6_brings_30 fun M2 => ?_
      exact s_vret C rfl dX6_brings_33
    · refine s_aload_n C dX6_brings_9 0 rfl rfl ?_
      refine sm_getA 6 C hM fo_X6_33_6 rfl (by decide) dX6_brings_10 ?_
      refine s_iconst C (2 : Int32) dX6_brings_13 (by decide) ?_
      refine s_iload_n C dX6_brings_14 3 rfl rfl ?_
      refine s_iadd C dX6_brings_15 ?_
      refine s_aload_n C dX6_brings_16 1 rfl rfl ?_
      refine s_iload_n C dX6_brings_17 2 rfl rfl ?_
      refine s_iload_n C dX6_brings_18 3 rfl rfl ?_
      refine s_iadd C dX6_brings_19 ?_
      refine sm_iald C hM dX6_brings_20 fun a3 => ?_
      refine sm_iast C hM dX6_brings_21 fun M4 => ?_
      refine s_iinc (la' := [(3, .int (v2 + (1 : Int32))), (0, vr mo), (1, vr (aid mo x1)), (2, .int x2)]) C 3 dX6_brings_22 rfl rfl (lt_nl e5 rfl) rfl ?_
      refine s_goto C 2 dX6_brings_25 (by decide) ?_
      refine Sim.keep [1, 2, 3, 0] rfl ?_
      exact hr2 _ _
  refine s_istore_n (la' := [(3, .int (0 : Int32)), (0, vr mo), (1, vr (aid mo x1)), (2, .int x2)]) C 3 dX6_brings_1 rfl (lt_nl e5 rfl) rfl ?_
  refine Sim.keep [1, 2, 3, 0] rfl ?_
  exact hL2 _ _ _ _

def g_stores_L48 (x1 : Nat) : Int32 → Ms → Option (Unit × Ms) :=
  lp FU fun rec48 v48 M2 =>
    if (222 : Int32) ≤ v48 then
      bd (mI 38 ((M2.1 38) + (1 : Int32)) M2) fun M3 =>
      some ((), M3)
    else
      (aI 0 x1 v48 M2).bind fun a4 =>
      (sI 0 35 (((222 : Int32) * (M2.1 38)) + v48) a4 M2).bind fun M5 =>
      rec48 (v48 + (1 : Int32)) M5
def g_stores_j46 (x1 : Nat) (M1 : Ms) : Option (Unit × Ms) :=
  g_stores_L48 x1 (0 : Int32) M1
def g_stores_L11 (x1 : Nat) : Int32 → Ms → Option (Unit × Ms) :=
  lp FU fun rec11 v11 M6 =>
    if (1554 : Int32) ≤ v11 then
      bd (mI 38 (7 : Int32) M6) fun M7 =>
      g_stores_j46 x1 M7
    else
      (aI 0 35 (v11 + (222 : Int32)) M6).bind fun a8 =>
      (sI 0 35 v11 a8 M6).bind fun M9 =>
      rec11 (v11 + (1 : Int32)) M9
def g_stores (x1 : Nat) (M : Ms) : Option (Unit × Ms) :=
  if (M.1 38) = (8 : Int32) then
    g_stores_L11 x1 (0 : Int32) M
  else
    g_stores_j46 x1 M
theorem nd_X6_stores : yX6_stores.cls = RX6 ∧ yX6_stores.cls ≠ "java/lang/invoke/MethodHandle" ∧ yX6_stores.cls ≠ "java/lang/invoke/VarHandle" ∧ (parseMethodDescriptor yX6_stores.desc).map (fun d => d.parameters.length) = some 1 := ⟨rfl, by decide +kernel, by decide +kernel, by decide +kernel⟩
theorem ct_X6_stores {G : Gx} {RL : Lv} {Pl : Nat → Bool} {l : Launch} (hL : LvA G RL Pl) {h0 : Hp} {mo : Nat} (hM : MP Pl mo) (M : Ms) (x1 : Nat) : Ct (plug h0 mo) G RL l yX6_stores (ws_ yX6_stores cX6_stores 3 none) 0 0 finV [vr mo, vr (aid mo x1)] M (g_stores x1 M) := by
  refine Ct.of (Pl := Pl) [(0, vr mo), (1, vr (aid mo x1))] (by decide) hL rfl (Nat.le_of_ble_eq_true rfl) ?_
  intro E C hn hf hlo e1 e2 e3 e4 e5
  subst e1; subst e2; subst e3; subst e4
  replace C : Cx E cX6_stores none RX6 := C
  unfold g_stores
  refine s_aload_n C dX6_stores_0 0 rfl rfl ?_
  refine sm_getI 38 C hM fo_X6_239_6 rfl dX6_stores_1 ?_
  refine s_bipush C (8 : Int32) dX6_stores_4 (by decide) ?_
  have hj46 : ∀ (x1 : Nat) (M1 : Ms), Sim (plug h0 mo) E (QM (plug h0 mo) E finV) M1 46 [(0, vr mo), (1, vr (aid mo x1))] [] (g_stores_j46 x1 M1) := by
    intro x1 M1
    refine s_iconst C (0 : Int32) dX6_stores_46 (by decide) ?_
    have hL48 : ∀ (x1 : Nat) (v48 : Int32) (M2 : Ms), Sim (plug h0 mo) E (QM (plug h0 mo) E finV) M2 48 [(0, vr mo), (1, vr (aid mo x1)), (2, .int v48)] [] (g_stores_L48 x1 v48 M2) := by
      intro x1 v48 M2
      refine Sim.loop (fun v48 => [(0, vr mo), (1, vr (aid mo x1)), (2, .int v48)]) (fun _ => []) (fun rec48 hr48 v48 M2 => ?_) FU v48 M2
      refine s_iload_n C dX6_stores_48 2 rfl rfl ?_
      refine s_sipush C (222 : Int32) dX6_stores_49 (by decide) ?_
      refine s_icmp_ge C 79 dX6_stores_52 (by decide) ?_ ?_
      · refine s_aload_n C dX6_stores_79 0 rfl rfl ?_
        refine s_dup C dX6_stores_80 rfl ?_
        refine sm_getI 38 C hM fo_X6_239_6 rfl dX6_stores_81 ?_
        refine s_iconst C (1 : Int32) dX6_stores_84 (by decide) ?_
        refine s_iadd C dX6_stores_85 ?_
        refine sm_putI 38 0 C hM fo_X6_239_6 rfl ⟨by decide, by decide, rfl⟩ rfl rfl dX6_stores_86 ?_
        refine s_bdh fun M3 => ?_
        exact s_vret C rfl dX6_stores_89
      · refine s_aload_n C dX6_stores_55 0 rfl rfl ?_
        refine sm_getA 35 C hM fo_X6_68_6 rfl (by decide) dX6_stores_56 ?_
        refine s_sipush C (222 : Int32) dX6_stores_59 (by decide) ?_
        refine s_aload_n C dX6_stores_62 0 rfl rfl ?_
        refine sm_getI 38 C hM fo_X6_239_6 rfl dX6_stores_63 ?_
        refine s_imul C dX6_stores_66 ?_
        refine s_iload_n C dX6_stores_67 2 rfl rfl ?_
        refine s_iadd C dX6_stores_68 ?_
        refine s_aload_n C dX6_stores_69 1 rfl rfl ?_
        refine s_iload_n C dX6_stores_70 2 rfl rfl ?_
        refine sm_iald C hM dX6_stores_71 fun a4 => ?_
        refine sm_iast C hM dX6_stores_72 fun M5 => ?_
        refine s_iinc (la' := [(2, .int (v48 + (1 : Int32))), (0, vr mo), (1, vr (aid mo x1))]) C 2 dX6_stores_73 rfl rfl (lt_nl e5 rfl) rfl ?_
        refine s_goto C 48 dX6_stores_76 (by decide) ?_
        refine Sim.keep [1, 2, 0] rfl ?_
        exact hr48 _ _
    refine s_istore_n (la' := [(2, .int (0 : Int32)), (0, vr mo), (1, vr (aid mo x1))]) C 2 dX6_stores_47 rfl (lt_nl e5 rfl) rfl ?_
    refine Sim.keep [1, 2, 0] rfl ?_
    exact hL48 _ _ _
  refine s_icmp_ne C 46 dX6_stores_6 (by decide) ?_ ?_
  · exact hj46 _ _
  · refine s_iconst C (0 : Int32) dX6_stores_9 (by decide) ?_
    have hL11 : ∀ (x1 : Nat) (v11 : Int32) (M6 : Ms), Sim (plug h0 mo) E (QM (plug h0 mo) E finV) M6 11 [(0, vr mo), (1, vr (aid mo x1)), (2, .int v11)] [] (g_stores_L11 x1 v11 M6) := by
      intro x1 v11 M6
      refine Sim.loop (fun v11 => [(0, vr mo), (1, vr (aid mo x1)), (2, .int v11)]) (fun _ => []) (fun rec11 hr11 v11 M6 => ?_) FU v11 M6
      refine s_iload_n C dX6_stores_11 2 rfl rfl ?_
      refine s_sipush C (1554 : Int32) dX6_stores_12 (by decide) ?_
      refine s_icmp_ge C 40 dX6_stores_15 (by decide) ?_ ?_
      · refine s_aload_n C dX6_stores_40 0 rfl rfl ?_
        refine s_bipush C (7 : Int32) dX6_stores_41 (by decide) ?_
        refine sm_putI 38 0 C hM fo_X6_239_6 rfl ⟨by decide, by decide, rfl⟩ rfl rfl dX6_stores_43 ?_
        refine s_bdh fun M7 => ?_
        refine Sim.keep [0, 1] rfl ?_
        exact hj46 _ _
      · refine s_aload_n C dX6_stores_18 0 rfl rfl ?_
        refine sm_getA 35 C hM fo_X6_68_6 rfl (by decide) dX6_stores_19 ?_
        refine s_iload_n C dX6_stores_22 2 rfl rfl ?_
        refine s_aload_n C dX6_stores_23 0 rfl rfl ?_
        refine sm_getA 35 C hM fo_X6_68_6 rfl (by decide) dX6_stores_24 ?_
        refine s_iload_n C dX6_stores_27 2 rfl rfl ?_
        refine s_sipush C (222 : Int32) dX6_stores_28 (by decide) ?_
        refine s_iadd C dX6_stores_31 ?_
        refine sm_iald C hM dX6_stores_32 fun a8 => ?_
        refine sm_iast C hM dX6_stores_33 fun M9 => ?_
        refine s_iinc (la' := [(2, .int (v11 + (1 : Int32))), (0, vr mo), (1, vr (aid mo x1))]) C 2 dX6_stores_34 rfl rfl (lt_nl e5 rfl) rfl ?_
        refine s_goto C 11 dX6_stores_37 (by decide) ?_
        refine Sim.keep [1, 2, 0] rfl ?_
        exact hr11 _ _
    refine s_istore_n (la' := [(2, .int (0 : Int32)), (0, vr mo), (1, vr (aid mo x1))]) C 2 dX6_stores_10 rfl (lt_nl e5 rfl) rfl ?_
    refine Sim.keep [1, 2, 0] rfl ?_
    exact hL11 _ _ _

def g_book_j242 (x2 : Int32) (M19 : Ms) : Option (Int32 × Ms) :=
  some (x2, M19)
def g_book_j203 (x1 : Int32) (x2 : Int32) (y1 : Int32) (y2 : Int32) (M16 : Ms) : Option (Int32 × Ms) :=
  (sI 0 46 y1 y2 M16).bind fun M17 =>
  (pZ 47 (1 : Int32) M17).bind fun M18 =>
  if x1 = 0 then
    bn (g_brings 37 (0 : Int32) M18) fun _ M22 =>
    g_book_j242 x2 M22
  else
    (aI 0 46 (1 : Int32) M18).bind fun a20 =>
    if a20 ≤ 0 then
      g_book_j242 x2 M18
    else
      bn (g_stores 37 M18) fun _ M21 =>
      g_book_j242 x2 M21
def g_book_j165 (x1 : Int32) (x2 : Int32) (y1 : Int32) (y2 : Int32) (M13 : Ms) : Option (Int32 × Ms) :=
  (sI 0 46 y1 y2 M13).bind fun M14 =>
  (sI 0 46 (2 : Int32) (M14.1 27) M14).bind fun M15 =>
  if (M15.1 30) = 0 then
    g_book_j203 x1 x2 (3 : Int32) (-1 : Int32) M15
  else
    (aI 0 25 ((M15.1 30) - (1 : Int32)) M15).bind fun a23 =>
    g_book_j203 x1 x2 (3 : Int32) a23 M15
def g_book_j144 (x1 : Int32) (x2 : Int32) (M11 : Ms) : Option (Int32 × Ms) :=
  bn (g_lays  M11) fun _ M12 =>
  if 0 ≤ x2 then
    g_book_j165 x1 x2 (1 : Int32) x2 M12
  else
    g_book_j165 x1 x2 (1 : Int32) (M12.1 45) M12
def g_book_j138 (rec102 : (Int32 × Int32) → Ms → Option (Int32 × Ms)) (x1 : Int32) (x2 : Int32) (x3 : Int32) (M28 : Ms) : Option (Int32 × Ms) :=
  rec102 (x2, (x3 + (1 : Int32))) M28
def g_book_L102 (x1 : Int32) : (Int32 × Int32) → Ms → Option (Int32 × Ms) :=
  lp FU fun rec102 v102 M10 =>
    if (M10.1 45) ≤ v102.2 then
      g_book_j144 x1 v102.1 M10
    else
      if 0 ≤ v102.1 then
        g_book_j144 x1 v102.1 M10
      else
        bn (g_does ((4 : Int32) * v102.2) M10) fun r25 M24 =>
        (sI 0 46 (0 : Int32) r25 M24).bind fun M26 =>
        (aI 0 46 (0 : Int32) M26).bind fun a27 =>
        if a27 ≤ 0 then
          g_book_j138 rec102 x1 v102.1 v102.2 M26
        else
          g_book_j138 rec102 x1 v102.2 v102.2 M26
def g_book_j62  (M31 : Ms) : Option (Int32 × Ms) :=
  some (((-2 : Int32) - (M31.1 17)), M31)
def g_book_L39 (x1 : Int32) : Unit → Ms → Option (Int32 × Ms) :=
  lp FU fun rec39 v39 M7 =>
    if (M7.1 12) = 0 then
      bn (g_copies 37 M7) fun _ M8 =>
      (sI 0 46 (0 : Int32) (0 : Int32) M8).bind fun M9 =>
      g_book_L102 x1 ((-1 : Int32), (0 : Int32)) M9
    else
      bn (g_bookLine  M7) fun r30 M29 =>
      if r30 = 0 then
        g_book_j62 M29
      else
        bn (g_sign (59 : Int32) M29) fun r33 M32 =>
        if r33 = 0 then
          g_book_j62 M32
        else
          bd (mI 45 ((M32.1 45) + (1 : Int32)) M32) fun M34 =>
          rec39 () M34
def g_book (x1 : Int32) (M : Ms) : Option (Int32 × Ms) :=
  bd (mI 0 (0 : Int32) M) fun M1 =>
  bn (g_isIn x1 (0 : Int32) (1 : Int32) M1) fun r3 M2 =>
  if r3 = 0 then
    some ((-1000 : Int32), M2)
  else
    bn (g_taken (400 : Int32) M2) fun _ M4 =>
    bd (mI 16 (0 : Int32) M4) fun M5 =>
    bd (mI 45 (0 : Int32) M5) fun M6 =>
    bn (g_next  M6) fun _ M35 =>
    g_book_L39 x1 () M35
theorem nd_X6_book : yX6_book.cls = RX6 ∧ yX6_book.cls ≠ "java/lang/invoke/MethodHandle" ∧ yX6_book.cls ≠ "java/lang/invoke/VarHandle" ∧ (parseMethodDescriptor yX6_book.desc).map (fun d => d.parameters.length) = some 1 := ⟨rfl, by decide +kernel, by decide +kernel, by decide +kernel⟩
theorem ct_X6_book {G : Gx} {RL : Lv} {Pl : Nat → Bool} {l : Launch} (hL : LvA G RL Pl) {h0 : Hp} {mo : Nat} (hM : MP Pl mo) (M : Ms) (x1 : Int32) : Ct (plug h0 mo) G RL l yX6_book (ws_ yX6_book cX6_book 4 (some .int)) 9 210 finI [vr mo, .int x1] M (g_book x1 M) := by
  refine Ct.of (Pl := Pl) [(0, vr mo), (1, .int x1)] (by decide) hL rfl (Nat.le_of_ble_eq_true rfl) ?_
  intro E C hn hf hlo e1 e2 e3 e4 e5
  subst e1; subst e2; subst e3; subst e4
  replace C : Cx E cX6_book (some .int) RX6 := C
  unfold g_book
  refine s_aload_n C dX6_book_0 0 rfl rfl ?_
  refine s_iconst C (0 : Int32) dX6_book_1 (by decide) ?_
  refine sm_putI 0 0 C hM fo_X6_1_6 rfl ⟨by decide, by decide, rfl⟩ rfl rfl dX6_book_2 ?_
  refine s_bdh fun M1 => ?_
  refine s_iload_n C dX6_book_5 1 rfl rfl ?_
  refine s_iconst C (0 : Int32) dX6_book_6 (by decide) ?_
  refine s_iconst C (1 : Int32) dX6_book_7 (by decide) ?_
  refine sm_callSI C 3 [] (ct_X6_isIn hL hM M1 x1 (0 : Int32) (1 : Int32)) (lw_S q3150 q3151 q147 q3152) nd_X6_isIn rfl (le_fr hf rfl) (le_fr hlo rfl) rfl (Nat.le_of_ble_eq_true rfl) dX6_book_8 fun r3 M2 => ?_
  refine s_if_ne C 18 dX6_book_11 (by decide) ?_ ?_
  · refine s_aload_n C dX6_book_18 0 rfl rfl ?_
    refine s_sipush C (400 : Int32) dX6_book_19 (by decide) ?_
    refine sm_callV C 1 [] (ct_X6_taken hL hM M2 (400 : Int32)) (lw_V q3112 q3114 qs41 q147 q3115) nd_X6_taken rfl (le_fr hf rfl) (le_fr hlo rfl) rfl (Nat.le_of_ble_eq_true rfl) dX6_book_22 fun _ M4 => ?_
    refine s_aload_n C dX6_book_25 0 rfl rfl ?_
    refine s_iconst C (0 : Int32) dX6_book_26 (by decide) ?_
    refine sm_putI 16 0 C hM fo_X6_174_6 rfl ⟨by decide, by decide, rfl⟩ rfl rfl dX6_book_27 ?_
    refine s_bdh fun M5 => ?_
    refine s_aload_n C dX6_book_30 0 rfl rfl ?_
    refine s_iconst C (0 : Int32) dX6_book_31 (by decide) ?_
    refine sm_putI 45 0 C hM fo_X6_425_6 rfl ⟨by decide, by decide, rfl⟩ rfl rfl dX6_book_32 ?_
    refine s_bdh fun M6 => ?_
    refine s_aload_n C dX6_book_35 0 rfl rfl ?_
    have hL39 : ∀ (x1 : Int32) (v39 : Unit) (M7 : Ms), Sim (plug h0 mo) E (QM (plug h0 mo) E finI) M7 39 [(0, vr mo), (1, .int x1)] [] (g_book_L39 x1 v39 M7) := by
      intro x1 v39 M7
      refine Sim.loop (fun v39 => [(0, vr mo), (1, .int x1)]) (fun _ => []) (fun rec39 hr39 v39 M7 => ?_) FU v39 M7
      refine s_aload_n C dX6_book_39 0 rfl rfl ?_
      refine sm_getI 12 C hM fo_X6_157_6 rfl dX6_book_40 ?_
      refine s_if_eq C 83 dX6_book_43 (by decide) ?_ ?_
      · refine s_aload_n C dX6_book_83 0 rfl rfl ?_
        refine s_aload_n C dX6_book_84 0 rfl rfl ?_
        refine sm_getA 37 C hM fo_X6_74_6 rfl (by decide) dX6_book_85 ?_
        refine sm_callV C 1 [] (ct_X6_copies hL hM M7 37) (lw_V q3323 q3325 qs81 q147 q3326) nd_X6_copies rfl (le_fr hf rfl) (le_fr hlo rfl) rfl (Nat.le_of_ble_eq_true rfl) dX6_book_88 fun _ M8 => ?_
        refine s_iconst C (-1 : Int32) dX6_book_91 (by decide) ?_
        refine s_istore_n (la' := [(2, .int (-1 : Int32)), (0, vr mo), (1, .int x1)]) C 2 dX6_book_92 rfl (lt_nl e5 rfl) rfl ?_
        refine s_aload_n C dX6_book_93 1 rfl rfl ?_
        refine sm_getA 46 C hM fo_X6_86_6 rfl (by decide) dX6_book_94 ?_
        refine s_iconst C (0 : Int32) dX6_book_97 (by decide) ?_
        refine s_iconst C (0 : Int32) dX6_book_98 (by decide) ?_
        refine sm_iast C hM dX6_book_99 fun M9 => ?_
        refine s_iconst C (0 : Int32) dX6_book_100 (by decide) ?_
        have hL102 : ∀ (x1 : Int32) (v102 : (Int32 × Int32)) (M10 : Ms), Sim (plug h0 mo) E (QM (plug h0 mo) E finI) M10 102 [(0, vr mo), (1, .int x1), (2, .int v102.1), (3, .int v102.2)] [] (g_book_L102 x1 v102 M10) := by
          intro x1 v102 M10
          refine Sim.loop (fun v102 => [(0, vr mo), (1, .int x1), (2, .int v102.1), (3, .int v102.2)]) (fun _ => []) (fun rec102 hr102 v102 M10 => ?_) FU v102 M10
          refine s_iload_n C dX6_book_102 3 rfl rfl ?_
          refine s_aload_n C dX6_book_103 0 rfl rfl ?_
          refine sm_getI 45 C hM fo_X6_425_6 rfl dX6_book_104 ?_
          have hj144 : ∀ (x1 : Int32) (x2 : Int32) (M11 : Ms), Sim (plug h0 mo) E (QM (plug h0 mo) E finI) M11 144 [(0, vr mo), (1, .int x1), (2, .int x2)] [] (g_book_j144 x1 x2 M11) := by
            intro x1 x2 M11
            refine s_aload_n C dX6_book_144 0 rfl rfl ?_
            refine sm_callV C 0 [] (ct_X6_lays hL hM M11 ) (lw_V q3201 q3203 qs59 q147 q3204) nd_X6_lays rfl (le_fr hf rfl) (le_fr hlo rfl) rfl (Nat.le_of_ble_eq_true rfl) dX6_book_145 fun _ M12 => ?_
            refine s_aload_n C dX6_book_148 0 rfl rfl ?_
            refine sm_getA 46 C hM fo_X6_86_6 rfl (by decide) dX6_book_149 ?_
            refine s_iconst C (1 : Int32) dX6_book_152 (by decide) ?_
            refine s_iload_n C dX6_book_153 2 rfl rfl ?_
            have hj165 : ∀ (x1 : Int32) (x2 : Int32) (y1 : Int32) (y2 : Int32) (M13 : Ms), Sim (plug h0 mo) E (QM (plug h0 mo) E finI) M13 165 [(0, vr mo), (1, .int x1), (2, .int x2)] [.int y2, .int y1, vr (aid mo 46)] (g_book_j165 x1 x2 y1 y2 M13) := by
              intro x1 x2 y1 y2 M13
              refine sm_iast C hM dX6_book_165 fun M14 => ?_
              refine s_aload_n C dX6_book_166 0 rfl rfl ?_
              refine sm_getA 46 C hM fo_X6_86_6 rfl (by decide) dX6_book_167 ?_
              refine s_iconst C (2 : Int32) dX6_book_170 (by decide) ?_
              refine s_aload_n C dX6_book_171 0 rfl rfl ?_
              refine sm_getI 27 C hM fo_X6_285_6 rfl dX6_book_172 ?_
              refine sm_iast C hM dX6_book_175 fun M15 => ?_
              refine s_aload_n C dX6_book_176 0 rfl rfl ?_
              refine sm_getA 46 C hM fo_X6_86_6 rfl (by decide) dX6_book_177 ?_
              refine s_iconst C (3 : Int32) dX6_book_180 (by decide) ?_
              refine s_aload_n C dX6_book_181 0 rfl rfl ?_
              refine sm_getI 30 C hM fo_X6_297_6 rfl dX6_book_182 ?_
              have hj203 : ∀ (x1 : Int32) (x2 : Int32) (y1 : Int32) (y2 : Int32) (M16 : Ms), Sim (plug h0 mo) E (QM (plug h0 mo) E finI) M16 203 [(0, vr mo), (1, .int x1), (2, .int x2)] [.int y2, .int y1, vr (aid mo 46)] (g_book_j203 x1 x2 y1 y2 M16) := by
                intro x1 x2 y1 y2 M16
                refine sm_iast C hM dX6_book_203 fun M17 => ?_
                refine s_aload_n C dX6_book_204 0 rfl rfl ?_
                refine s_iconst C (1 : Int32) dX6_book_205 (by decide) ?_
                refine sm_putZ 47 C hM fo_X6_434_6 rfl rfl rfl dX6_book_206 fun M18 => ?_
                refine s_iload_n C dX6_book_209 1 rfl rfl ?_
                have hj242 : ∀ (x2 : Int32) (M19 : Ms), Sim (plug h0 mo) E (QM (plug h0 mo) E finI) M19 242 [(2, .int x2)] [] (g_book_j242 x2 M19) := by
                  intro x2 M19
                  refine s_iload_n C dX6_book_242 0 rfl rfl ?_
                  exact s_iret C rfl dX6_book_243
                refine s_if_ne C 225 dX6_book_210 (by decide) ?_ ?_
                · refine s_aload_n C dX6_book_225 0 rfl rfl ?_
                  refine sm_getA 46 C hM fo_X6_86_6 rfl (by decide) dX6_book_226 ?_
                  refine s_iconst C (1 : Int32) dX6_book_229 (by decide) ?_
                  refine sm_iald C hM dX6_book_230 fun a20 => ?_
                  refine s_if_le C 242 dX6_book_231 (by decide) ?_ ?_
                  · refine Sim.keep [2] rfl ?_
                    exact hj242 _ _
                  · refine s_aload_n C dX6_book_234 0 rfl rfl ?_
                    refine s_aload_n C dX6_book_235 0 rfl rfl ?_
                    refine sm_getA 37 C hM fo_X6_74_6 rfl (by decide) dX6_book_236 ?_
                    refine sm_callV C 1 [] (ct_X6_stores hL hM M18 37) (lw_V q3327 q3329 qs82 q147 q3330) nd_X6_stores rfl (le_fr hf rfl) (le_fr hlo rfl) rfl (Nat.le_of_ble_eq_true rfl) dX6_book_239 fun _ M21 => ?_
                    refine Sim.keep [2] rfl ?_
                    exact hj242 _ _
                · refine s_aload_n C dX6_book_213 0 rfl rfl ?_
                  refine s_aload_n C dX6_book_214 0 rfl rfl ?_
                  refine sm_getA 37 C hM fo_X6_74_6 rfl (by decide) dX6_book_215 ?_
                  refine s_iconst C (0 : Int32) dX6_book_218 (by decide) ?_
                  refine sm_callV C 2 [] (ct_X6_brings hL hM M18 37 (0 : Int32)) (lw_V q3355 q3357 qs86 q147 q3358) nd_X6_brings rfl (le_fr hf rfl) (le_fr hlo rfl) rfl (Nat.le_of_ble_eq_true rfl) dX6_book_219 fun _ M22 => ?_
                  refine s_goto C 242 dX6_book_222 (by decide) ?_
                  refine Sim.keep [2] rfl ?_
                  exact hj242 _ _
              refine s_if_ne C 192 dX6_book_185 (by decide) ?_ ?_
              · refine s_aload_n C dX6_book_192 0 rfl rfl ?_
                refine sm_getA 25 C hM fo_X6_65_6 rfl (by decide) dX6_book_193 ?_
                refine s_aload_n C dX6_book_196 0 rfl rfl ?_
                refine sm_getI 30 C hM fo_X6_297_6 rfl dX6_book_197 ?_
                refine s_iconst C (1 : Int32) dX6_book_200 (by decide) ?_
                refine s_isub C dX6_book_201 ?_
                refine sm_iald C hM dX6_book_202 fun a23 => ?_
                exact hj203 _ _ _ _ _
              · refine s_iconst C (-1 : Int32) dX6_book_188 (by decide) ?_
                refine s_goto C 203 dX6_book_189 (by decide) ?_
                exact hj203 _ _ _ _ _
            refine s_if_ge C 164 dX6_book_154 (by decide) ?_ ?_
            · refine s_iload_n C dX6_book_164 2 rfl rfl ?_
              exact hj165 _ _ _ _ _
            · refine s_aload_n C dX6_book_157 0 rfl rfl ?_
              refine sm_getI 45 C hM fo_X6_425_6 rfl dX6_book_158 ?_
              refine s_goto C 165 dX6_book_161 (by decide) ?_
              exact hj165 _ _ _ _ _
          refine s_icmp_ge C 144 dX6_book_107 (by decide) ?_ ?_
          · refine Sim.keep [0, 1, 2] rfl ?_
            exact hj144 _ _ _
          · refine s_iload_n C dX6_book_110 2 rfl rfl ?_
            refine s_if_ge C 144 dX6_book_111 (by decide) ?_ ?_
            · refine Sim.keep [0, 1, 2] rfl ?_
              exact hj144 _ _ _
            · refine s_aload_n C dX6_book_114 0 rfl rfl ?_
              refine sm_getA 46 C hM fo_X6_86_6 rfl (by decide) dX6_book_115 ?_
              refine s_iconst C (0 : Int32) dX6_book_118 (by decide) ?_
              refine s_aload_n C dX6_book_119 0 rfl rfl ?_
              refine s_iconst C (4 : Int32) dX6_book_120 (by decide) ?_
              refine s_iload_n C dX6_book_121 3 rfl rfl ?_
              refine s_imul C dX6_book_122 ?_
              refine sm_callI C 1 [.int (0 : Int32), vr (aid mo 46)] (ct_X6_does hL hM M10 ((4 : Int32) * v102.2)) (lw_V q3477 q3479 qs97 q147 q3480) nd_X6_does rfl (le_fr hf rfl) (le_fr hlo rfl) rfl (Nat.le_of_ble_eq_true rfl) dX6_book_123 fun r25 M24 => ?_
              refine sm_iast C hM dX6_book_126 fun M26 => ?_
              refine s_aload_n C dX6_book_127 0 rfl rfl ?_
              refine sm_getA 46 C hM fo_X6_86_6 rfl (by decide) dX6_book_128 ?_
              refine s_iconst C (0 : Int32) dX6_book_131 (by decide) ?_
              refine sm_iald C hM dX6_book_132 fun a27 => ?_
              have hj138 : ∀ (x2 : Int32) (x3 : Int32) (M28 : Ms), Sim (plug h0 mo) E (QM (plug h0 mo) E finI) M28 138 [(0, vr mo), (1, .int x1), (2, .int x2), (3, .int x3)] [] (g_book_j138 rec102 x1 x2 x3 M28) := by
                intro x2 x3 M28
                refine s_iinc (la' := [(3, .int (x3 + (1 : Int32))), (0, vr mo), (1, .int x1), (2, .int x2)]) C 3 dX6_book_138 rfl rfl (lt_nl e5 rfl) rfl ?_
                refine s_goto C 102 dX6_book_141 (by decide) ?_
                refine Sim.keep [1, 2, 3, 0] rfl ?_
                exact hr102 _ _
              refine s_if_le C 138 dX6_book_133 (by decide) ?_ ?_
              · exact hj138 _ _ _
              · refine s_iload_n C dX6_book_136 3 rfl rfl ?_
                refine s_istore_n (la' := [(2, .int v102.2), (0, vr mo), (1, .int x1), (3, .int v102.2)]) C 2 dX6_book_137 rfl (lt_nl e5 rfl) rfl ?_
                refine Sim.keep [1, 2, 0, 3] rfl ?_
                exact hj138 _ _ _
        refine s_istore_n (la' := [(3, .int (0 : Int32)), (2, .int (-1 : Int32)), (0, vr mo), (1, .int x1)]) C 3 dX6_book_101 rfl (lt_nl e5 rfl) rfl ?_
        refine Sim.keep [2, 3, 1, 0] rfl ?_
        exact hL102 _ _ _
      · refine s_aload_n C dX6_book_46 0 rfl rfl ?_
        refine sm_callI C 0 [] (ct_X6_bookLine hL hM M7 ) (lw_V q3473 q3475 qs96 q147 q3476) nd_X6_bookLine rfl (le_fr hf rfl) (le_fr hlo rfl) rfl (Nat.le_of_ble_eq_true rfl) dX6_book_47 fun r30 M29 => ?_
        have hj62 : ∀  (M31 : Ms), Sim (plug h0 mo) E (QM (plug h0 mo) E finI) M31 62 [(0, vr mo)] [] (g_book_j62 M31) := by
          intro M31
          refine s_bipush C (-2 : Int32) dX6_book_62 (by decide) ?_
          refine s_aload_n C dX6_book_64 0 rfl rfl ?_
          refine sm_getI 17 C hM fo_X6_177_6 rfl dX6_book_65 ?_
          refine s_isub C dX6_book_68 ?_
          exact s_iret C rfl dX6_book_69
        refine s_if_eq C 62 dX6_book_50 (by decide) ?_ ?_
        · refine Sim.keep [0] rfl ?_
          exact hj62 _
        · refine s_aload_n C dX6_book_53 0 rfl rfl ?_
          refine s_bipush C (59 : Int32) dX6_book_54 (by decide) ?_
          refine sm_callI C 1 [] (ct_X6_sign hL hM M29 (59 : Int32)) (lw_V q3177 q3179 qs55 q147 q3180) nd_X6_sign rfl (le_fr hf rfl) (le_fr hlo rfl) rfl (Nat.le_of_ble_eq_true rfl) dX6_book_56 fun r33 M32 => ?_
          refine s_if_ne C 70 dX6_book_59 (by decide) ?_ ?_
          · refine s_aload_n C dX6_book_70 0 rfl rfl ?_
            refine s_dup C dX6_book_71 rfl ?_
            refine sm_getI 45 C hM fo_X6_425_6 rfl dX6_book_72 ?_
            refine s_iconst C (1 : Int32) dX6_book_75 (by decide) ?_
            refine s_iadd C dX6_book_76 ?_
            refine sm_putI 45 0 C hM fo_X6_425_6 rfl ⟨by decide, by decide, rfl⟩ rfl rfl dX6_book_77 ?_
            refine s_bdh fun M34 => ?_
            refine s_goto C 39 dX6_book_80 (by decide) ?_
            exact hr39 _ _
          · refine Sim.keep [0] rfl ?_
            exact hj62 _
    refine sm_callV C 0 [] (ct_X6_next hL hM M6 ) (lw_V q3116 q3118 qs42 q147 q3119) nd_X6_next rfl (le_fr hf rfl) (le_fr hlo rfl) rfl (Nat.le_of_ble_eq_true rfl) dX6_book_36 fun _ M35 => ?_
    exact hL39 _ _ _
  · refine s_sipush C (-1000 : Int32) dX6_book_14 (by decide) ?_
    exact s_iret C rfl dX6_book_17

def g_byteAt_j29 (y0 : Int32) (M4 : Ms) : Option (Int32 × Ms) :=
  some (y0, M4)
def g_byteAt (x1 : Int32) (M : Ms) : Option (Int32 × Ms) :=
  bd (mI 0 (0 : Int32) M) fun M1 =>
  bn (g_isIn x1 (0 : Int32) ((M1.1 43) - (1 : Int32)) M1) fun r3 M2 =>
  if r3 = 0 then
    g_byteAt_j29 (-1 : Int32) M2
  else
    (aI 1 42 x1 M2).bind fun a5 =>
    g_byteAt_j29 a5 M2
theorem nd_X6_byteAt : yX6_byteAt.cls = RX6 ∧ yX6_byteAt.cls ≠ "java/lang/invoke/MethodHandle" ∧ yX6_byteAt.cls ≠ "java/lang/invoke/VarHandle" ∧ (parseMethodDescriptor yX6_byteAt.desc).map (fun d => d.parameters.length) = some 1 := ⟨rfl, by decide +kernel, by decide +kernel, by decide +kernel⟩
theorem ct_X6_byteAt {G : Gx} {RL : Lv} {Pl : Nat → Bool} {l : Launch} (hL : LvA G RL Pl) {h0 : Hp} {mo : Nat} (hM : MP Pl mo) (M : Ms) (x1 : Int32) : Ct (plug h0 mo) G RL l yX6_byteAt (ws_ yX6_byteAt cX6_byteAt 2 (some .int)) 1 22 finI [vr mo, .int x1] M (g_byteAt x1 M) := by
  refine Ct.of (Pl := Pl) [(0, vr mo), (1, .int x1)] (by decide) hL rfl (Nat.le_of_ble_eq_true rfl) ?_
  intro E C hn hf hlo e1 e2 e3 e4 e5
  subst e1; subst e2; subst e3; subst e4
  replace C : Cx E cX6_byteAt (some .int) RX6 := C
  unfold g_byteAt
  refine s_aload_n C dX6_byteAt_0 0 rfl rfl ?_
  refine s_iconst C (0 : Int32) dX6_byteAt_1 (by decide) ?_
  refine sm_putI 0 0 C hM fo_X6_1_6 rfl ⟨by decide, by decide, rfl⟩ rfl rfl dX6_byteAt_2 ?_
  refine s_bdh fun M1 => ?_
  refine s_iload_n C dX6_byteAt_5 1 rfl rfl ?_
  refine s_iconst C (0 : Int32) dX6_byteAt_6 (by decide) ?_
  refine s_aload_n C dX6_byteAt_7 0 rfl rfl ?_
  refine sm_getI 43 C hM fo_X6_393_6 rfl dX6_byteAt_8 ?_
  refine s_iconst C (1 : Int32) dX6_byteAt_11 (by decide) ?_
  refine s_isub C dX6_byteAt_12 ?_
  refine sm_callSI C 3 [] (ct_X6_isIn hL hM M1 x1 (0 : Int32) ((M1.1 43) - (1 : Int32))) (lw_S q3150 q3151 q147 q3152) nd_X6_isIn rfl (le_fr hf rfl) (le_fr hlo rfl) rfl (Nat.le_of_ble_eq_true rfl) dX6_byteAt_13 fun r3 M2 => ?_
  have hj29 : ∀ (y0 : Int32) (M4 : Ms), Sim (plug h0 mo) E (QM (plug h0 mo) E finI) M4 29 [] [.int y0] (g_byteAt_j29 y0 M4) := by
    intro y0 M4
    exact s_iret C rfl dX6_byteAt_29
  refine s_if_eq C 28 dX6_byteAt_16 (by decide) ?_ ?_
  · refine s_iconst C (-1 : Int32) dX6_byteAt_28 (by decide) ?_
    refine Sim.keep [] rfl ?_
    exact hj29 _ _
  · refine s_aload_n C dX6_byteAt_19 0 rfl rfl ?_
    refine sm_getA 42 C hM fo_X6_83_6 rfl (by decide) dX6_byteAt_20 ?_
    refine s_iload_n C dX6_byteAt_23 1 rfl rfl ?_
    refine sm_bald C hM dX6_byteAt_24 fun a5 => ?_
    refine s_goto C 29 dX6_byteAt_25 (by decide) ?_
    refine Sim.keep [] rfl ?_
    exact hj29 _ _

def g_takes (x1 : Int32) (x2 : Int32) (M : Ms) : Option (Int32 × Ms) :=
  if (M.1 12) = (2 : Int32) then
    bn (g_isIn (M.1 15) x1 x2 M) fun r2 M1 =>
    if r2 = 0 then
      bn (g_bad (2 : Int32) M1) fun r6 M5 =>
      if nrw 2 r6 = r6 then some (r6, M5) else none
    else
      bd (mI 19 (M1.1 15) M1) fun M3 =>
      bn (g_next  M3) fun _ M4 =>
      if nrw 2 (1 : Int32) = (1 : Int32) then some ((1 : Int32), M4) else none
  else
    bn (g_bad (1 : Int32) M) fun r8 M7 =>
    if nrw 2 r8 = r8 then some (r8, M7) else none
theorem nd_X6_takes : yX6_takes.cls = RX6 ∧ yX6_takes.cls ≠ "java/lang/invoke/MethodHandle" ∧ yX6_takes.cls ≠ "java/lang/invoke/VarHandle" ∧ (parseMethodDescriptor yX6_takes.desc).map (fun d => d.parameters.length) = some 2 := ⟨rfl, by decide +kernel, by decide +kernel, by decide +kernel⟩
theorem ct_X6_takes {G : Gx} {RL : Lv} {Pl : Nat → Bool} {l : Launch} (hL : LvA G RL Pl) {h0 : Hp} {mo : Nat} (hM : MP Pl mo) (M : Ms) (x1 : Int32) (x2 : Int32) : Ct (plug h0 mo) G RL l yX6_takes (ws_ yX6_takes cX6_takes 3 (some .boolean)) 2 43 finI [vr mo, .int x1, .int x2] M (g_takes x1 x2 M) := by
  refine Ct.of (Pl := Pl) [(0, vr mo), (1, .int x1), (2, .int x2)] (by decide) hL rfl (Nat.le_of_ble_eq_true rfl) ?_
  intro E C hn hf hlo e1 e2 e3 e4 e5
  subst e1; subst e2; subst e3; subst e4
  replace C : Cx E cX6_takes (some .boolean) RX6 := C
  unfold g_takes
  refine s_aload_n C dX6_takes_0 0 rfl rfl ?_
  refine sm_getI 12 C hM fo_X6_157_6 rfl dX6_takes_1 ?_
  refine s_iconst C (2 : Int32) dX6_takes_4 (by decide) ?_
  refine s_icmp_eq C 14 dX6_takes_5 (by decide) ?_ ?_
  · refine s_aload_n C dX6_takes_14 0 rfl rfl ?_
    refine sm_getI 15 C hM fo_X6_167_6 rfl dX6_takes_15 ?_
    refine s_iload_n C dX6_takes_18 1 rfl rfl ?_
    refine s_iload_n C dX6_takes_19 2 rfl rfl ?_
    refine sm_callSI C 3 [] (ct_X6_isIn hL hM M (M.1 15) x1 x2) (lw_S q3150 q3151 q147 q3152) nd_X6_isIn rfl (le_fr hf rfl) (le_fr hlo rfl) rfl (Nat.le_of_ble_eq_true rfl) dX6_takes_20 fun r2 M1 => ?_
    refine s_if_ne C 32 dX6_takes_23 (by decide) ?_ ?_
    · refine s_aload_n C dX6_takes_32 0 rfl rfl ?_
      refine s_aload_n C dX6_takes_33 0 rfl rfl ?_
      refine sm_getI 15 C hM fo_X6_167_6 rfl dX6_takes_34 ?_
      refine sm_putI 19 0 C hM fo_X6_193_6 rfl ⟨by decide, by decide, rfl⟩ rfl rfl dX6_takes_37 ?_
      refine s_bdh fun M3 => ?_
      refine s_aload_n C dX6_takes_40 0 rfl rfl ?_
      refine sm_callV C 0 [] (ct_X6_next hL hM M3 ) (lw_V q3116 q3118 qs42 q147 q3119) nd_X6_next rfl (le_fr hf rfl) (le_fr hlo rfl) rfl (Nat.le_of_ble_eq_true rfl) dX6_takes_41 fun _ M4 => ?_
      refine s_iconst C (1 : Int32) dX6_takes_44 (by decide) ?_
      exact s_zret 2 C (by decide) (by decide) rfl dX6_takes_45
    · refine s_aload_n C dX6_takes_26 0 rfl rfl ?_
      refine s_iconst C (2 : Int32) dX6_takes_27 (by decide) ?_
      refine sm_callI C 1 [] (ct_X6_bad hL hM M1 (2 : Int32)) (lw_V q3142 q3144 qs47 q147 q3145) nd_X6_bad rfl (le_fr hf rfl) (le_fr hlo rfl) rfl (Nat.le_of_ble_eq_true rfl) dX6_takes_28 fun r6 M5 => ?_
      exact s_zret 2 C (by decide) (by decide) rfl dX6_takes_31
  · refine s_aload_n C dX6_takes_8 0 rfl rfl ?_
    refine s_iconst C (1 : Int32) dX6_takes_9 (by decide) ?_
    refine sm_callI C 1 [] (ct_X6_bad hL hM M (1 : Int32)) (lw_V q3142 q3144 qs47 q147 q3145) nd_X6_bad rfl (le_fr hf rfl) (le_fr hlo rfl) rfl (Nat.le_of_ble_eq_true rfl) dX6_takes_10 fun r8 M7 => ?_
    exact s_zret 2 C (by decide) (by decide) rfl dX6_takes_13

def g_readEpoch  (M : Ms) : Option (Int32 × Ms) :=
  if (M.1 20) ≤ 0 then
    bn (g_next  M) fun _ M1 =>
    bn (g_takes (1 : Int32) (4 : Int32) M1) fun r3 M2 =>
    if r3 = 0 then
      if nrw 2 (0 : Int32) = (0 : Int32) then some ((0 : Int32), M2) else none
    else
      (sI 0 7 (0 : Int32) (M2.1 19) M2).bind fun M4 =>
      if nrw 2 (1 : Int32) = (1 : Int32) then some ((1 : Int32), M4) else none
  else
    bn (g_bad (3 : Int32) M) fun r6 M5 =>
    if nrw 2 r6 = r6 then some (r6, M5) else none
theorem nd_X6_readEpoch : yX6_readEpoch.cls = RX6 ∧ yX6_readEpoch.cls ≠ "java/lang/invoke/MethodHandle" ∧ yX6_readEpoch.cls ≠ "java/lang/invoke/VarHandle" ∧ (parseMethodDescriptor yX6_readEpoch.desc).map (fun d => d.parameters.length) = some 0 := ⟨rfl, by decide +kernel, by decide +kernel, by decide +kernel⟩
theorem ct_X6_readEpoch {G : Gx} {RL : Lv} {Pl : Nat → Bool} {l : Launch} (hL : LvA G RL Pl) {h0 : Hp} {mo : Nat} (hM : MP Pl mo) (M : Ms)  : Ct (plug h0 mo) G RL l yX6_readEpoch (ws_ yX6_readEpoch cX6_readEpoch 1 (some .boolean)) 3 65 finI [vr mo] M (g_readEpoch M) := by
  refine Ct.of (Pl := Pl) [(0, vr mo)] (by decide) hL rfl (Nat.le_of_ble_eq_true rfl) ?_
  intro E C hn hf hlo e1 e2 e3 e4 e5
  subst e1; subst e2; subst e3; subst e4
  replace C : Cx E cX6_readEpoch (some .boolean) RX6 := C
  unfold g_readEpoch
  refine s_aload_n C dX6_readEpoch_0 0 rfl rfl ?_
  refine sm_getI 20 C hM fo_X6_204_6 rfl dX6_readEpoch_1 ?_
  refine s_if_le C 13 dX6_readEpoch_4 (by decide) ?_ ?_
  · refine s_aload_n C dX6_readEpoch_13 0 rfl rfl ?_
    refine sm_callV C 0 [] (ct_X6_next hL hM M ) (lw_V q3116 q3118 qs42 q147 q3119) nd_X6_next rfl (le_fr hf rfl) (le_fr hlo rfl) rfl (Nat.le_of_ble_eq_true rfl) dX6_readEpoch_14 fun _ M1 => ?_
    refine s_aload_n C dX6_readEpoch_17 0 rfl rfl ?_
    refine s_iconst C (1 : Int32) dX6_readEpoch_18 (by decide) ?_
    refine s_iconst C (4 : Int32) dX6_readEpoch_19 (by decide) ?_
    refine sm_callI C 2 [] (ct_X6_takes hL hM M1 (1 : Int32) (4 : Int32)) (lw_V q3146 q3148 qs48 q147 q3149) nd_X6_takes rfl (le_fr hf rfl) (le_fr hlo rfl) rfl (Nat.le_of_ble_eq_true rfl) dX6_readEpoch_20 fun r3 M2 => ?_
    refine s_if_ne C 28 dX6_readEpoch_23 (by decide) ?_ ?_
    · refine s_aload_n C dX6_readEpoch_28 0 rfl rfl ?_
      refine sm_getA 7 C hM fo_X6_37_6 rfl (by decide) dX6_readEpoch_29 ?_
      refine s_iconst C (0 : Int32) dX6_readEpoch_32 (by decide) ?_
      refine s_aload_n C dX6_readEpoch_33 0 rfl rfl ?_
      refine sm_getI 19 C hM fo_X6_193_6 rfl dX6_readEpoch_34 ?_
      refine sm_iast C hM dX6_readEpoch_37 fun M4 => ?_
      refine s_iconst C (1 : Int32) dX6_readEpoch_38 (by decide) ?_
      exact s_zret 2 C (by decide) (by decide) rfl dX6_readEpoch_39
    · refine s_iconst C (0 : Int32) dX6_readEpoch_26 (by decide) ?_
      exact s_zret 2 C (by decide) (by decide) rfl dX6_readEpoch_27
  · refine s_aload_n C dX6_readEpoch_7 0 rfl rfl ?_
    refine s_iconst C (3 : Int32) dX6_readEpoch_8 (by decide) ?_
    refine sm_callI C 1 [] (ct_X6_bad hL hM M (3 : Int32)) (lw_V q3142 q3144 qs47 q147 q3145) nd_X6_bad rfl (le_fr hf rfl) (le_fr hlo rfl) rfl (Nat.le_of_ble_eq_true rfl) dX6_readEpoch_9 fun r6 M5 => ?_
    exact s_zret 2 C (by decide) (by decide) rfl dX6_readEpoch_12

def g_isNew_j56 (y0 : Int32) (M6 : Ms) : Option (Int32 × Ms) :=
  if nrw 2 y0 = y0 then some (y0, M6) else none
def g_isNew_j51  (M7 : Ms) : Option (Int32 × Ms) :=
  g_isNew_j56 (1 : Int32) M7
def g_isNew_j43  (M8 : Ms) : Option (Int32 × Ms) :=
  bn (g_bad (3 : Int32) M8) fun r10 M9 =>
  if r10 = 0 then
    g_isNew_j56 (0 : Int32) M9
  else
    g_isNew_j51 M9
def g_isNew  (M : Ms) : Option (Int32 × Ms) :=
  bn (g_isName  M) fun r2 M1 =>
  if r2 = 0 then
    bn (g_bad (1 : Int32) M1) fun r15 M14 =>
    if nrw 2 r15 = r15 then some (r15, M14) else none
  else
    (aI 0 7 (1 : Int32) M1).bind fun a3 =>
    bn (g_seek (28 : Int32) a3 M1) fun r5 M4 =>
    if 0 ≤ r5 then
      g_isNew_j43 M4
    else
      (aI 0 7 (2 : Int32) M4).bind fun a11 =>
      bn (g_seek (36 : Int32) a11 M4) fun r13 M12 =>
      if r13 < 0 then
        g_isNew_j51 M12
      else
        g_isNew_j43 M12
theorem nd_X6_isNew : yX6_isNew.cls = RX6 ∧ yX6_isNew.cls ≠ "java/lang/invoke/MethodHandle" ∧ yX6_isNew.cls ≠ "java/lang/invoke/VarHandle" ∧ (parseMethodDescriptor yX6_isNew.desc).map (fun d => d.parameters.length) = some 0 := ⟨rfl, by decide +kernel, by decide +kernel, by decide +kernel⟩
theorem ct_X6_isNew {G : Gx} {RL : Lv} {Pl : Nat → Bool} {l : Launch} (hL : LvA G RL Pl) {h0 : Hp} {mo : Nat} (hM : MP Pl mo) (M : Ms)  : Ct (plug h0 mo) G RL l yX6_isNew (ws_ yX6_isNew cX6_isNew 1 (some .boolean)) 1 23 finI [vr mo] M (g_isNew M) := by
  refine Ct.of (Pl := Pl) [(0, vr mo)] (by decide) hL rfl (Nat.le_of_ble_eq_true rfl) ?_
  intro E C hn hf hlo e1 e2 e3 e4 e5
  subst e1; subst e2; subst e3; subst e4
  replace C : Cx E cX6_isNew (some .boolean) RX6 := C
  unfold g_isNew
  refine s_aload_n C dX6_isNew_0 0 rfl rfl ?_
  refine sm_callI C 0 [] (ct_X6_isName hL hM M ) (lw_V q3161 q3163 qs51 q147 q3164) nd_X6_isName rfl (le_fr hf rfl) (le_fr hlo rfl) rfl (Nat.le_of_ble_eq_true rfl) dX6_isNew_1 fun r2 M1 => ?_
  refine s_if_ne C 13 dX6_isNew_4 (by decide) ?_ ?_
  · refine s_aload_n C dX6_isNew_13 0 rfl rfl ?_
    refine s_bipush C (28 : Int32) dX6_isNew_14 (by decide) ?_
    refine s_aload_n C dX6_isNew_16 0 rfl rfl ?_
    refine sm_getA 7 C hM fo_X6_37_6 rfl (by decide) dX6_isNew_17 ?_
    refine s_iconst C (1 : Int32) dX6_isNew_20 (by decide) ?_
    refine sm_iald C hM dX6_isNew_21 fun a3 => ?_
    refine sm_callI C 2 [] (ct_X6_seek hL hM M1 (28 : Int32) a3) (lw_V q3165 q3167 qs52 q147 q3168) nd_X6_seek rfl (le_fr hf rfl) (le_fr hlo rfl) rfl (Nat.le_of_ble_eq_true rfl) dX6_isNew_22 fun r5 M4 => ?_
    have hj56 : ∀ (y0 : Int32) (M6 : Ms), Sim (plug h0 mo) E (QM (plug h0 mo) E finI) M6 56 [] [.int y0] (g_isNew_j56 y0 M6) := by
      intro y0 M6
      exact s_zret 2 C (by decide) (by decide) rfl dX6_isNew_56
    have hj51 : ∀  (M7 : Ms), Sim (plug h0 mo) E (QM (plug h0 mo) E finI) M7 51 [] [] (g_isNew_j51 M7) := by
      intro M7
      refine s_iconst C (1 : Int32) dX6_isNew_51 (by decide) ?_
      refine s_goto C 56 dX6_isNew_52 (by decide) ?_
      exact hj56 _ _
    have hj43 : ∀  (M8 : Ms), Sim (plug h0 mo) E (QM (plug h0 mo) E finI) M8 43 [(0, vr mo)] [] (g_isNew_j43 M8) := by
      intro M8
      refine s_aload_n C dX6_isNew_43 0 rfl rfl ?_
      refine s_iconst C (3 : Int32) dX6_isNew_44 (by decide) ?_
      refine sm_callI C 1 [] (ct_X6_bad hL hM M8 (3 : Int32)) (lw_V q3142 q3144 qs47 q147 q3145) nd_X6_bad rfl (le_fr hf rfl) (le_fr hlo rfl) rfl (Nat.le_of_ble_eq_true rfl) dX6_isNew_45 fun r10 M9 => ?_
      refine s_if_eq C 55 dX6_isNew_48 (by decide) ?_ ?_
      · refine s_iconst C (0 : Int32) dX6_isNew_55 (by decide) ?_
        refine Sim.keep [] rfl ?_
        exact hj56 _ _
      · refine Sim.keep [] rfl ?_
        exact hj51 _
    refine s_if_ge C 43 dX6_isNew_25 (by decide) ?_ ?_
    · exact hj43 _
    · refine s_aload_n C dX6_isNew_28 0 rfl rfl ?_
      refine s_bipush C (36 : Int32) dX6_isNew_29 (by decide) ?_
      refine s_aload_n C dX6_isNew_31 0 rfl rfl ?_
      refine sm_getA 7 C hM fo_X6_37_6 rfl (by decide) dX6_isNew_32 ?_
      refine s_iconst C (2 : Int32) dX6_isNew_35 (by decide) ?_
      refine sm_iald C hM dX6_isNew_36 fun a11 => ?_
      refine sm_callI C 2 [] (ct_X6_seek hL hM M4 (36 : Int32) a11) (lw_V q3165 q3167 qs52 q147 q3168) nd_X6_seek rfl (le_fr hf rfl) (le_fr hlo rfl) rfl (Nat.le_of_ble_eq_true rfl) dX6_isNew_37 fun r13 M12 => ?_
      refine s_if_lt C 51 dX6_isNew_40 (by decide) ?_ ?_
      · refine Sim.keep [] rfl ?_
        exact hj51 _
      · exact hj43 _
  · refine s_aload_n C dX6_isNew_7 0 rfl rfl ?_
    refine s_iconst C (1 : Int32) dX6_isNew_8 (by decide) ?_
    refine sm_callI C 1 [] (ct_X6_bad hL hM M1 (1 : Int32)) (lw_V q3142 q3144 qs47 q147 q3145) nd_X6_bad rfl (le_fr hf rfl) (le_fr hlo rfl) rfl (Nat.le_of_ble_eq_true rfl) dX6_isNew_9 fun r15 M14 => ?_
    exact s_zret 2 C (by decide) (by decide) rfl dX6_isNew_12

def g_readVoter  (M : Ms) : Option (Int32 × Ms) :=
  (aI 0 7 (1 : Int32) M).bind fun a1 =>
  if a1 = (8 : Int32) then
    bn (g_bad (4 : Int32) M) fun r13 M12 =>
    if nrw 2 r13 = r13 then some (r13, M12) else none
  else
    bn (g_next  M) fun _ M2 =>
    bn (g_isNew  M2) fun r4 M3 =>
    if r4 = 0 then
      if nrw 2 (0 : Int32) = (0 : Int32) then some ((0 : Int32), M3) else none
    else
      (sL 10 ((28 : Int32) + a1) M3.2.1 M3).bind fun M5 =>
      bn (g_next  M5) fun _ M6 =>
      bn (g_takes (0 : Int32) (9 : Int32) M6) fun r8 M7 =>
      if r8 = 0 then
        if nrw 2 (0 : Int32) = (0 : Int32) then some ((0 : Int32), M7) else none
      else
        (sI 0 7 ((4 : Int32) + a1) (M7.1 19) M7).bind fun M9 =>
        (aI 0 7 (1 : Int32) M9).bind fun a10 =>
        (sI 0 7 (1 : Int32) (a10 + (1 : Int32)) M9).bind fun M11 =>
        if nrw 2 (1 : Int32) = (1 : Int32) then some ((1 : Int32), M11) else none
theorem nd_X6_readVoter : yX6_readVoter.cls = RX6 ∧ yX6_readVoter.cls ≠ "java/lang/invoke/MethodHandle" ∧ yX6_readVoter.cls ≠ "java/lang/invoke/VarHandle" ∧ (parseMethodDescriptor yX6_readVoter.desc).map (fun d => d.parameters.length) = some 0 := ⟨rfl, by decide +kernel, by decide +kernel, by decide +kernel⟩
theorem ct_X6_readVoter {G : Gx} {RL : Lv} {Pl : Nat → Bool} {l : Launch} (hL : LvA G RL Pl) {h0 : Hp} {mo : Nat} (hM : MP Pl mo) (M : Ms)  : Ct (plug h0 mo) G RL l yX6_readVoter (ws_ yX6_readVoter cX6_readVoter 2 (some .boolean)) 3 65 finI [vr mo] M (g_readVoter M) := by
  refine Ct.of (Pl := Pl) [(0, vr mo)] (by decide) hL rfl (Nat.le_of_ble_eq_true rfl) ?_
  intro E C hn hf hlo e1 e2 e3 e4 e5
  subst e1; subst e2; subst e3; subst e4
  replace C : Cx E cX6_readVoter (some .boolean) RX6 := C
  unfold g_readVoter
  refine s_aload_n C dX6_readVoter_0 0 rfl rfl ?_
  refine sm_getA 7 C hM fo_X6_37_6 rfl (by decide) dX6_readVoter_1 ?_
  refine s_iconst C (1 : Int32) dX6_readVoter_4 (by decide) ?_
  refine sm_iald C hM dX6_readVoter_5 fun a1 => ?_
  refine s_istore_n (la' := [(1, .int a1), (0, vr mo)]) C 1 dX6_readVoter_6 rfl (lt_nl e5 rfl) rfl ?_
  refine s_iload_n C dX6_readVoter_7 0 rfl rfl ?_
  refine s_bipush C (8 : Int32) dX6_readVoter_8 (by decide) ?_
  refine s_icmp_ne C 19 dX6_readVoter_10 (by decide) ?_ ?_
  · refine s_aload_n C dX6_readVoter_19 1 rfl rfl ?_
    refine sm_callV C 0 [] (ct_X6_next hL hM M ) (lw_V q3116 q3118 qs42 q147 q3119) nd_X6_next rfl (le_fr hf rfl) (le_fr hlo rfl) rfl (Nat.le_of_ble_eq_true rfl) dX6_readVoter_20 fun _ M2 => ?_
    refine s_aload_n C dX6_readVoter_23 1 rfl rfl ?_
    refine sm_callI C 0 [] (ct_X6_isNew hL hM M2 ) (lw_V q3157 q3159 qs50 q147 q3160) nd_X6_isNew rfl (le_fr hf rfl) (le_fr hlo rfl) rfl (Nat.le_of_ble_eq_true rfl) dX6_readVoter_24 fun r4 M3 => ?_
    refine s_if_ne C 32 dX6_readVoter_27 (by decide) ?_ ?_
    · refine s_aload_n C dX6_readVoter_32 1 rfl rfl ?_
      refine sm_getA 10 C hM fo_X6_46_6 rfl (by decide) dX6_readVoter_33 ?_
      refine s_bipush C (28 : Int32) dX6_readVoter_36 (by decide) ?_
      refine s_iload_n C dX6_readVoter_38 0 rfl rfl ?_
      refine s_iadd C dX6_readVoter_39 ?_
      refine s_aload_n C dX6_readVoter_40 1 rfl rfl ?_
      refine sm_getL C hM fo_X6_170_6 rfl dX6_readVoter_41 ?_
      refine sm_last C hM dX6_readVoter_44 fun M5 => ?_
      refine s_aload_n C dX6_readVoter_45 1 rfl rfl ?_
      refine sm_callV C 0 [] (ct_X6_next hL hM M5 ) (lw_V q3116 q3118 qs42 q147 q3119) nd_X6_next rfl (le_fr hf rfl) (le_fr hlo rfl) rfl (Nat.le_of_ble_eq_true rfl) dX6_readVoter_46 fun _ M6 => ?_
      refine s_aload_n C dX6_readVoter_49 1 rfl rfl ?_
      refine s_iconst C (0 : Int32) dX6_readVoter_50 (by decide) ?_
      refine s_bipush C (9 : Int32) dX6_readVoter_51 (by decide) ?_
      refine sm_callI C 2 [] (ct_X6_takes hL hM M6 (0 : Int32) (9 : Int32)) (lw_V q3146 q3148 qs48 q147 q3149) nd_X6_takes rfl (le_fr hf rfl) (le_fr hlo rfl) rfl (Nat.le_of_ble_eq_true rfl) dX6_readVoter_53 fun r8 M7 => ?_
      refine s_if_ne C 61 dX6_readVoter_56 (by decide) ?_ ?_
      · refine s_aload_n C dX6_readVoter_61 1 rfl rfl ?_
        refine sm_getA 7 C hM fo_X6_37_6 rfl (by decide) dX6_readVoter_62 ?_
        refine s_iconst C (4 : Int32) dX6_readVoter_65 (by decide) ?_
        refine s_iload_n C dX6_readVoter_66 0 rfl rfl ?_
        refine s_iadd C dX6_readVoter_67 ?_
        refine s_aload_n C dX6_readVoter_68 1 rfl rfl ?_
        refine sm_getI 19 C hM fo_X6_193_6 rfl dX6_readVoter_69 ?_
        refine sm_iast C hM dX6_readVoter_72 fun M9 => ?_
        refine s_aload_n C dX6_readVoter_73 1 rfl rfl ?_
        refine sm_getA 7 C hM fo_X6_37_6 rfl (by decide) dX6_readVoter_74 ?_
        refine s_iconst C (1 : Int32) dX6_readVoter_77 (by decide) ?_
        refine s_dup2 C dX6_readVoter_78 rfl rfl ?_
        refine sm_iald C hM dX6_readVoter_79 fun a10 => ?_
        refine s_iconst C (1 : Int32) dX6_readVoter_80 (by decide) ?_
        refine s_iadd C dX6_readVoter_81 ?_
        refine sm_iast C hM dX6_readVoter_82 fun M11 => ?_
        refine s_iconst C (1 : Int32) dX6_readVoter_83 (by decide) ?_
        exact s_zret 2 C (by decide) (by decide) rfl dX6_readVoter_84
      · refine s_iconst C (0 : Int32) dX6_readVoter_59 (by decide) ?_
        exact s_zret 2 C (by decide) (by decide) rfl dX6_readVoter_60
    · refine s_iconst C (0 : Int32) dX6_readVoter_30 (by decide) ?_
      exact s_zret 2 C (by decide) (by decide) rfl dX6_readVoter_31
  · refine s_aload_n C dX6_readVoter_13 1 rfl rfl ?_
    refine s_iconst C (4 : Int32) dX6_readVoter_14 (by decide) ?_
    refine sm_callI C 1 [] (ct_X6_bad hL hM M (4 : Int32)) (lw_V q3142 q3144 qs47 q147 q3145) nd_X6_bad rfl (le_fr hf rfl) (le_fr hlo rfl) rfl (Nat.le_of_ble_eq_true rfl) dX6_readVoter_15 fun r13 M12 => ?_
    exact s_zret 2 C (by decide) (by decide) rfl dX6_readVoter_18

def g_readBlock_j189 (x1 : Int32) (x2 : Int64) (M12 : Ms) : Option (Int32 × Ms) :=
  (sL 10 ((36 : Int32) + x1) x2 M12).bind fun M13 =>
  (aI 0 7 (2 : Int32) M13).bind fun a14 =>
  (sI 0 7 (2 : Int32) (a14 + (1 : Int32)) M13).bind fun M15 =>
  if nrw 2 (1 : Int32) = (1 : Int32) then some ((1 : Int32), M15) else none
def g_readBlock_j100 (x1 : Int32) (x2 : Int64) (M7 : Ms) : Option (Int32 × Ms) :=
  (sI 0 7 ((32 : Int32) + x1) (-1 : Int32) M7).bind fun M8 =>
  (sI 0 7 ((52 : Int32) + x1) (0 : Int32) M8).bind fun M9 =>
  bn (g_isWord (109299962373989 : Int64) M9) fun r11 M10 =>
  if r11 = 0 then
    g_readBlock_j189 x1 x2 M10
  else
    bn (g_next  M10) fun _ M16 =>
    (aI 0 7 (1 : Int32) M16).bind fun a17 =>
    bn (g_takesName (28 : Int32) a17 M16) fun r19 M18 =>
    if r19 = 0 then
      if nrw 2 (0 : Int32) = (0 : Int32) then some ((0 : Int32), M18) else none
    else
      (sI 0 7 ((32 : Int32) + x1) (M18.1 19) M18).bind fun M20 =>
      bn (g_takes (0 : Int32) (9 : Int32) M20) fun r22 M21 =>
      if r22 = 0 then
        if nrw 2 (0 : Int32) = (0 : Int32) then some ((0 : Int32), M21) else none
      else
        (sI 0 7 ((52 : Int32) + x1) (M21.1 19) M21).bind fun M23 =>
        g_readBlock_j189 x1 x2 M23
def g_readBlock  (M : Ms) : Option (Int32 × Ms) :=
  (aI 0 7 (2 : Int32) M).bind fun a1 =>
  if a1 = (20 : Int32) then
    bn (g_bad (4 : Int32) M) fun r33 M32 =>
    if nrw 2 r33 = r33 then some (r33, M32) else none
  else
    bn (g_next  M) fun _ M2 =>
    bn (g_isNew  M2) fun r4 M3 =>
    if r4 = 0 then
      if nrw 2 (0 : Int32) = (0 : Int32) then some ((0 : Int32), M3) else none
    else
      bn (g_next  M3) fun _ M5 =>
      (sI 0 7 ((12 : Int32) + a1) (-1 : Int32) M5).bind fun M6 =>
      if a1 ≤ 0 then
        g_readBlock_j100 a1 M3.2.1 M6
      else
        bn (g_isWord (28526 : Int64) M6) fun r25 M24 =>
        if r25 = 0 then
          bn (g_bad (1 : Int32) M24) fun r31 M30 =>
          if nrw 2 r31 = r31 then some (r31, M30) else none
        else
          bn (g_next  M24) fun _ M26 =>
          bn (g_takesName (36 : Int32) a1 M26) fun r28 M27 =>
          if r28 = 0 then
            if nrw 2 (0 : Int32) = (0 : Int32) then some ((0 : Int32), M27) else none
          else
            (sI 0 7 ((12 : Int32) + a1) (M27.1 19) M27).bind fun M29 =>
            g_readBlock_j100 a1 M3.2.1 M29
theorem nd_X6_readBlock : yX6_readBlock.cls = RX6 ∧ yX6_readBlock.cls ≠ "java/lang/invoke/MethodHandle" ∧ yX6_readBlock.cls ≠ "java/lang/invoke/VarHandle" ∧ (parseMethodDescriptor yX6_readBlock.desc).map (fun d => d.parameters.length) = some 0 := ⟨rfl, by decide +kernel, by decide +kernel, by decide +kernel⟩
theorem ct_X6_readBlock {G : Gx} {RL : Lv} {Pl : Nat → Bool} {l : Launch} (hL : LvA G RL Pl) {h0 : Hp} {mo : Nat} (hM : MP Pl mo) (M : Ms)  : Ct (plug h0 mo) G RL l yX6_readBlock (ws_ yX6_readBlock cX6_readBlock 4 (some .boolean)) 3 65 finI [vr mo] M (g_readBlock M) := by
  refine Ct.of (Pl := Pl) [(0, vr mo)] (by decide) hL rfl (Nat.le_of_ble_eq_true rfl) ?_
  intro E C hn hf hlo e1 e2 e3 e4 e5
  subst e1; subst e2; subst e3; subst e4
  replace C : Cx E cX6_readBlock (some .boolean) RX6 := C
  unfold g_readBlock
  refine s_aload_n C dX6_readBlock_0 0 rfl rfl ?_
  refine sm_getA 7 C hM fo_X6_37_6 rfl (by decide) dX6_readBlock_1 ?_
  refine s_iconst C (2 : Int32) dX6_readBlock_4 (by decide) ?_
  refine sm_iald C hM dX6_readBlock_5 fun a1 => ?_
  refine s_istore_n (la' := [(1, .int a1), (0, vr mo)]) C 1 dX6_readBlock_6 rfl (lt_nl e5 rfl) rfl ?_
  refine s_iload_n C dX6_readBlock_7 0 rfl rfl ?_
  refine s_bipush C (20 : Int32) dX6_readBlock_8 (by decide) ?_
  refine s_icmp_ne C 19 dX6_readBlock_10 (by decide) ?_ ?_
  · refine s_aload_n C dX6_readBlock_19 1 rfl rfl ?_
    refine sm_callV C 0 [] (ct_X6_next hL hM M ) (lw_V q3116 q3118 qs42 q147 q3119) nd_X6_next rfl (le_fr hf rfl) (le_fr hlo rfl) rfl (Nat.le_of_ble_eq_true rfl) dX6_readBlock_20 fun _ M2 => ?_
    refine s_aload_n C dX6_readBlock_23 1 rfl rfl ?_
    refine sm_callI C 0 [] (ct_X6_isNew hL hM M2 ) (lw_V q3157 q3159 qs50 q147 q3160) nd_X6_isNew rfl (le_fr hf rfl) (le_fr hlo rfl) rfl (Nat.le_of_ble_eq_true rfl) dX6_readBlock_24 fun r4 M3 => ?_
    refine s_if_ne C 32 dX6_readBlock_27 (by decide) ?_ ?_
    · refine s_aload_n C dX6_readBlock_32 1 rfl rfl ?_
      refine sm_getL C hM fo_X6_170_6 rfl dX6_readBlock_33 ?_
      refine s_lstore_n (la' := [(2, .long M3.2.1), (1, .int a1), (0, vr mo)]) C 2 dX6_readBlock_36 rfl (lt_nl e5 rfl) rfl ?_
      refine s_aload_n C dX6_readBlock_37 2 rfl rfl ?_
      refine sm_callV C 0 [] (ct_X6_next hL hM M3 ) (lw_V q3116 q3118 qs42 q147 q3119) nd_X6_next rfl (le_fr hf rfl) (le_fr hlo rfl) rfl (Nat.le_of_ble_eq_true rfl) dX6_readBlock_38 fun _ M5 => ?_
      refine s_aload_n C dX6_readBlock_41 2 rfl rfl ?_
      refine sm_getA 7 C hM fo_X6_37_6 rfl (by decide) dX6_readBlock_42 ?_
      refine s_bipush C (12 : Int32) dX6_readBlock_45 (by decide) ?_
      refine s_iload_n C dX6_readBlock_47 1 rfl rfl ?_
      refine s_iadd C dX6_readBlock_48 ?_
      refine s_iconst C (-1 : Int32) dX6_readBlock_49 (by decide) ?_
      refine sm_iast C hM dX6_readBlock_50 fun M6 => ?_
      refine s_iload_n C dX6_readBlock_51 1 rfl rfl ?_
      have hj100 : ∀ (x1 : Int32) (x2 : Int64) (M7 : Ms), Sim (plug h0 mo) E (QM (plug h0 mo) E finI) M7 100 [(0, vr mo), (1, .int x1), (2, .long x2)] [] (g_readBlock_j100 x1 x2 M7) := by
        intro x1 x2 M7
        refine s_aload_n C dX6_readBlock_100 0 rfl rfl ?_
        refine sm_getA 7 C hM fo_X6_37_6 rfl (by decide) dX6_readBlock_101 ?_
        refine s_bipush C (32 : Int32) dX6_readBlock_104 (by decide) ?_
        refine s_iload_n C dX6_readBlock_106 1 rfl rfl ?_
        refine s_iadd C dX6_readBlock_107 ?_
        refine s_iconst C (-1 : Int32) dX6_readBlock_108 (by decide) ?_
        refine sm_iast C hM dX6_readBlock_109 fun M8 => ?_
        refine s_aload_n C dX6_readBlock_110 0 rfl rfl ?_
        refine sm_getA 7 C hM fo_X6_37_6 rfl (by decide) dX6_readBlock_111 ?_
        refine s_bipush C (52 : Int32) dX6_readBlock_114 (by decide) ?_
        refine s_iload_n C dX6_readBlock_116 1 rfl rfl ?_
        refine s_iadd C dX6_readBlock_117 ?_
        refine s_iconst C (0 : Int32) dX6_readBlock_118 (by decide) ?_
        refine sm_iast C hM dX6_readBlock_119 fun M9 => ?_
        refine s_aload_n C dX6_readBlock_120 0 rfl rfl ?_
        refine s_ldc2 C q2914 dX6_readBlock_121 ?_
        refine sm_callI C 1 [] (ct_X6_isWord hL hM M9 (109299962373989 : Int64)) (lw_V q3134 q3136 qs45 q147 q3137) nd_X6_isWord rfl (le_fr hf rfl) (le_fr hlo rfl) rfl (Nat.le_of_ble_eq_true rfl) dX6_readBlock_124 fun r11 M10 => ?_
        have hj189 : ∀ (x1 : Int32) (x2 : Int64) (M12 : Ms), Sim (plug h0 mo) E (QM (plug h0 mo) E finI) M12 189 [(0, vr mo), (1, .int x1), (2, .long x2)] [] (g_readBlock_j189 x1 x2 M12) := by
          intro x1 x2 M12
          refine s_aload_n C dX6_readBlock_189 0 rfl rfl ?_
          refine sm_getA 10 C hM fo_X6_46_6 rfl (by decide) dX6_readBlock_190 ?_
          refine s_bipush C (36 : Int32) dX6_readBlock_193 (by decide) ?_
          refine s_iload_n C dX6_readBlock_195 1 rfl rfl ?_
          refine s_iadd C dX6_readBlock_196 ?_
          refine s_lload_n C dX6_readBlock_197 2 rfl rfl ?_
          refine sm_last C hM dX6_readBlock_198 fun M13 => ?_
          refine s_aload_n C dX6_readBlock_199 0 rfl rfl ?_
          refine sm_getA 7 C hM fo_X6_37_6 rfl (by decide) dX6_readBlock_200 ?_
          refine s_iconst C (2 : Int32) dX6_readBlock_203 (by decide) ?_
          refine s_dup2 C dX6_readBlock_204 rfl rfl ?_
          refine sm_iald C hM dX6_readBlock_205 fun a14 => ?_
          refine s_iconst C (1 : Int32) dX6_readBlock_206 (by decide) ?_
          refine s_iadd C dX6_readBlock_207 ?_
          refine sm_iast C hM dX6_readBlock_208 fun M15 => ?_
          refine s_iconst C (1 : Int32) dX6_readBlock_209 (by decide) ?_
          exact s_zret 2 C (by decide) (by decide) rfl dX6_readBlock_210
        refine s_if_eq C 189 dX6_readBlock_127 (by decide) ?_ ?_
        · exact hj189 _ _ _
        · refine s_aload_n C dX6_readBlock_130 0 rfl rfl ?_
          refine sm_callV C 0 [] (ct_X6_next hL hM M10 ) (lw_V q3116 q3118 qs42 q147 q3119) nd_X6_next rfl (le_fr hf rfl) (le_fr hlo rfl) rfl (Nat.le_of_ble_eq_true rfl) dX6_readBlock_131 fun _ M16 => ?_
          refine s_aload_n C dX6_readBlock_134 0 rfl rfl ?_
          refine s_bipush C (28 : Int32) dX6_readBlock_135 (by decide) ?_
          refine s_aload_n C dX6_readBlock_137 0 rfl rfl ?_
          refine sm_getA 7 C hM fo_X6_37_6 rfl (by decide) dX6_readBlock_138 ?_
          refine s_iconst C (1 : Int32) dX6_readBlock_141 (by decide) ?_
          refine sm_iald C hM dX6_readBlock_142 fun a17 => ?_
          refine sm_callI C 2 [] (ct_X6_takesName hL hM M16 (28 : Int32) a17) (lw_V q3173 q3175 qs54 q147 q3176) nd_X6_takesName rfl (le_fr hf rfl) (le_fr hlo rfl) rfl (Nat.le_of_ble_eq_true rfl) dX6_readBlock_143 fun r19 M18 => ?_
          refine s_if_ne C 151 dX6_readBlock_146 (by decide) ?_ ?_
          · refine s_aload_n C dX6_readBlock_151 0 rfl rfl ?_
            refine sm_getA 7 C hM fo_X6_37_6 rfl (by decide) dX6_readBlock_152 ?_
            refine s_bipush C (32 : Int32) dX6_readBlock_155 (by decide) ?_
            refine s_iload_n C dX6_readBlock_157 1 rfl rfl ?_
            refine s_iadd C dX6_readBlock_158 ?_
            refine s_aload_n C dX6_readBlock_159 0 rfl rfl ?_
            refine sm_getI 19 C hM fo_X6_193_6 rfl dX6_readBlock_160 ?_
            refine sm_iast C hM dX6_readBlock_163 fun M20 => ?_
            refine s_aload_n C dX6_readBlock_164 0 rfl rfl ?_
            refine s_iconst C (0 : Int32) dX6_readBlock_165 (by decide) ?_
            refine s_bipush C (9 : Int32) dX6_readBlock_166 (by decide) ?_
            refine sm_callI C 2 [] (ct_X6_takes hL hM M20 (0 : Int32) (9 : Int32)) (lw_V q3146 q3148 qs48 q147 q3149) nd_X6_takes rfl (le_fr hf rfl) (le_fr hlo rfl) rfl (Nat.le_of_ble_eq_true rfl) dX6_readBlock_168 fun r22 M21 => ?_
            refine s_if_ne C 176 dX6_readBlock_171 (by decide) ?_ ?_
            · refine s_aload_n C dX6_readBlock_176 0 rfl rfl ?_
              refine sm_getA 7 C hM fo_X6_37_6 rfl (by decide) dX6_readBlock_177 ?_
              refine s_bipush C (52 : Int32) dX6_readBlock_180 (by decide) ?_
              refine s_iload_n C dX6_readBlock_182 1 rfl rfl ?_
              refine s_iadd C dX6_readBlock_183 ?_
              refine s_aload_n C dX6_readBlock_184 0 rfl rfl ?_
              refine sm_getI 19 C hM fo_X6_193_6 rfl dX6_readBlock_185 ?_
              refine sm_iast C hM dX6_readBlock_188 fun M23 => ?_
              exact hj189 _ _ _
            · refine s_iconst C (0 : Int32) dX6_readBlock_174 (by decide) ?_
              exact s_zret 2 C (by decide) (by decide) rfl dX6_readBlock_175
          · refine s_iconst C (0 : Int32) dX6_readBlock_149 (by decide) ?_
            exact s_zret 2 C (by decide) (by decide) rfl dX6_readBlock_150
      refine s_if_le C 100 dX6_readBlock_52 (by decide) ?_ ?_
      · refine Sim.keep [2, 1, 0] rfl ?_
        exact hj100 _ _ _
      · refine s_aload_n C dX6_readBlock_55 2 rfl rfl ?_
        refine s_ldc2 C q2913 dX6_readBlock_56 ?_
        refine sm_callI C 1 [] (ct_X6_isWord hL hM M6 (28526 : Int64)) (lw_V q3134 q3136 qs45 q147 q3137) nd_X6_isWord rfl (le_fr hf rfl) (le_fr hlo rfl) rfl (Nat.le_of_ble_eq_true rfl) dX6_readBlock_59 fun r25 M24 => ?_
        refine s_if_ne C 71 dX6_readBlock_62 (by decide) ?_ ?_
        · refine s_aload_n C dX6_readBlock_71 2 rfl rfl ?_
          refine sm_callV C 0 [] (ct_X6_next hL hM M24 ) (lw_V q3116 q3118 qs42 q147 q3119) nd_X6_next rfl (le_fr hf rfl) (le_fr hlo rfl) rfl (Nat.le_of_ble_eq_true rfl) dX6_readBlock_72 fun _ M26 => ?_
          refine s_aload_n C dX6_readBlock_75 2 rfl rfl ?_
          refine s_bipush C (36 : Int32) dX6_readBlock_76 (by decide) ?_
          refine s_iload_n C dX6_readBlock_78 1 rfl rfl ?_
          refine sm_callI C 2 [] (ct_X6_takesName hL hM M26 (36 : Int32) a1) (lw_V q3173 q3175 qs54 q147 q3176) nd_X6_takesName rfl (le_fr hf rfl) (le_fr hlo rfl) rfl (Nat.le_of_ble_eq_true rfl) dX6_readBlock_79 fun r28 M27 => ?_
          refine s_if_ne C 87 dX6_readBlock_82 (by decide) ?_ ?_
          · refine s_aload_n C dX6_readBlock_87 2 rfl rfl ?_
            refine sm_getA 7 C hM fo_X6_37_6 rfl (by decide) dX6_readBlock_88 ?_
            refine s_bipush C (12 : Int32) dX6_readBlock_91 (by decide) ?_
            refine s_iload_n C dX6_readBlock_93 1 rfl rfl ?_
            refine s_iadd C dX6_readBlock_94 ?_
            refine s_aload_n C dX6_readBlock_95 2 rfl rfl ?_
            refine sm_getI 19 C hM fo_X6_193_6 rfl dX6_readBlock_96 ?_
            refine sm_iast C hM dX6_readBlock_99 fun M29 => ?_
            refine Sim.keep [2, 1, 0] rfl ?_
            exact hj100 _ _ _
          · refine s_iconst C (0 : Int32) dX6_readBlock_85 (by decide) ?_
            exact s_zret 2 C (by decide) (by decide) rfl dX6_readBlock_86
        · refine s_aload_n C dX6_readBlock_65 2 rfl rfl ?_
          refine s_iconst C (1 : Int32) dX6_readBlock_66 (by decide) ?_
          refine sm_callI C 1 [] (ct_X6_bad hL hM M24 (1 : Int32)) (lw_V q3142 q3144 qs47 q147 q3145) nd_X6_bad rfl (le_fr hf rfl) (le_fr hlo rfl) rfl (Nat.le_of_ble_eq_true rfl) dX6_readBlock_67 fun r31 M30 => ?_
          exact s_zret 2 C (by decide) (by decide) rfl dX6_readBlock_70
    · refine s_iconst C (0 : Int32) dX6_readBlock_30 (by decide) ?_
      exact s_zret 2 C (by decide) (by decide) rfl dX6_readBlock_31
  · refine s_aload_n C dX6_readBlock_13 1 rfl rfl ?_
    refine s_iconst C (4 : Int32) dX6_readBlock_14 (by decide) ?_
    refine sm_callI C 1 [] (ct_X6_bad hL hM M (4 : Int32)) (lw_V q3142 q3144 qs47 q147 q3145) nd_X6_bad rfl (le_fr hf rfl) (le_fr hlo rfl) rfl (Nat.le_of_ble_eq_true rfl) dX6_readBlock_15 fun r33 M32 => ?_
    exact s_zret 2 C (by decide) (by decide) rfl dX6_readBlock_18

def g_readLine_j56 (y0 : Int32) (M3 : Ms) : Option (Int32 × Ms) :=
  if nrw 2 y0 = y0 then some (y0, M3) else none
def g_readLine  (M : Ms) : Option (Int32 × Ms) :=
  bn (g_isWord (435678045032 : Int64) M) fun r2 M1 =>
  if r2 = 0 then
    bn (g_isWord (508676040050 : Int64) M1) fun r5 M4 =>
    if r5 = 0 then
      bn (g_isWord (422726034283 : Int64) M4) fun r7 M6 =>
      if r7 = 0 then
        bn (g_bad (1 : Int32) M6) fun r9 M8 =>
        g_readLine_j56 r9 M8
      else
        bn (g_readBlock  M6) fun r11 M10 =>
        g_readLine_j56 r11 M10
    else
      bn (g_readVoter  M4) fun r13 M12 =>
      g_readLine_j56 r13 M12
  else
    bn (g_readEpoch  M1) fun r15 M14 =>
    g_readLine_j56 r15 M14
theorem nd_X6_readLine : yX6_readLine.cls = RX6 ∧ yX6_readLine.cls ≠ "java/lang/invoke/MethodHandle" ∧ yX6_readLine.cls ≠ "java/lang/invoke/VarHandle" ∧ (parseMethodDescriptor yX6_readLine.desc).map (fun d => d.parameters.length) = some 0 := ⟨rfl, by decide +kernel, by decide +kernel, by decide +kernel⟩
theorem ct_X6_readLine {G : Gx} {RL : Lv} {Pl : Nat → Bool} {l : Launch} (hL : LvA G RL Pl) {h0 : Hp} {mo : Nat} (hM : MP Pl mo) (M : Ms)  : Ct (plug h0 mo) G RL l yX6_readLine (ws_ yX6_readLine cX6_readLine 1 (some .boolean)) 4 88 finI [vr mo] M (g_readLine M) := by
  refine Ct.of (Pl := Pl) [(0, vr mo)] (by decide) hL rfl (Nat.le_of_ble_eq_true rfl) ?_
  intro E C hn hf hlo e1 e2 e3 e4 e5
  subst e1; subst e2; subst e3; subst e4
  replace C : Cx E cX6_readLine (some .boolean) RX6 := C
  unfold g_readLine
  refine s_aload_n C dX6_readLine_0 0 rfl rfl ?_
  refine s_ldc2 C q2910 dX6_readLine_1 ?_
  refine sm_callI C 1 [] (ct_X6_isWord hL hM M (435678045032 : Int64)) (lw_V q3134 q3136 qs45 q147 q3137) nd_X6_isWord rfl (le_fr hf rfl) (le_fr hlo rfl) rfl (Nat.le_of_ble_eq_true rfl) dX6_readLine_4 fun r2 M1 => ?_
  have hj56 : ∀ (y0 : Int32) (M3 : Ms), Sim (plug h0 mo) E (QM (plug h0 mo) E finI) M3 56 [] [.int y0] (g_readLine_j56 y0 M3) := by
    intro y0 M3
    exact s_zret 2 C (by decide) (by decide) rfl dX6_readLine_56
  refine s_if_eq C 17 dX6_readLine_7 (by decide) ?_ ?_
  · refine s_aload_n C dX6_readLine_17 0 rfl rfl ?_
    refine s_ldc2 C q2911 dX6_readLine_18 ?_
    refine sm_callI C 1 [] (ct_X6_isWord hL hM M1 (508676040050 : Int64)) (lw_V q3134 q3136 qs45 q147 q3137) nd_X6_isWord rfl (le_fr hf rfl) (le_fr hlo rfl) rfl (Nat.le_of_ble_eq_true rfl) dX6_readLine_21 fun r5 M4 => ?_
    refine s_if_eq C 34 dX6_readLine_24 (by decide) ?_ ?_
    · refine s_aload_n C dX6_readLine_34 0 rfl rfl ?_
      refine s_ldc2 C q2912 dX6_readLine_35 ?_
      refine sm_callI C 1 [] (ct_X6_isWord hL hM M4 (422726034283 : Int64)) (lw_V q3134 q3136 qs45 q147 q3137) nd_X6_isWord rfl (le_fr hf rfl) (le_fr hlo rfl) rfl (Nat.le_of_ble_eq_true rfl) dX6_readLine_38 fun r7 M6 => ?_
      refine s_if_eq C 51 dX6_readLine_41 (by decide) ?_ ?_
      · refine s_aload_n C dX6_readLine_51 0 rfl rfl ?_
        refine s_iconst C (1 : Int32) dX6_readLine_52 (by decide) ?_
        refine sm_callI C 1 [] (ct_X6_bad hL hM M6 (1 : Int32)) (lw_V q3142 q3144 qs47 q147 q3145) nd_X6_bad rfl (le_fr hf rfl) (le_fr hlo rfl) rfl (Nat.le_of_ble_eq_true rfl) dX6_readLine_53 fun r9 M8 => ?_
        refine Sim.keep [] rfl ?_
        exact hj56 _ _
      · refine s_aload_n C dX6_readLine_44 0 rfl rfl ?_
        refine sm_callI C 0 [] (ct_X6_readBlock hL hM M6 ) (lw_V q3169 q3171 qs53 q147 q3172) nd_X6_readBlock rfl (le_fr hf rfl) (le_fr hlo rfl) rfl (Nat.le_of_ble_eq_true rfl) dX6_readLine_45 fun r11 M10 => ?_
        refine s_goto C 56 dX6_readLine_48 (by decide) ?_
        refine Sim.keep [] rfl ?_
        exact hj56 _ _
    · refine s_aload_n C dX6_readLine_27 0 rfl rfl ?_
      refine sm_callI C 0 [] (ct_X6_readVoter hL hM M4 ) (lw_V q3153 q3155 qs49 q147 q3156) nd_X6_readVoter rfl (le_fr hf rfl) (le_fr hlo rfl) rfl (Nat.le_of_ble_eq_true rfl) dX6_readLine_28 fun r13 M12 => ?_
      refine s_goto C 56 dX6_readLine_31 (by decide) ?_
      refine Sim.keep [] rfl ?_
      exact hj56 _ _
  · refine s_aload_n C dX6_readLine_10 0 rfl rfl ?_
    refine sm_callI C 0 [] (ct_X6_readEpoch hL hM M1 ) (lw_V q3138 q3140 qs46 q147 q3141) nd_X6_readEpoch rfl (le_fr hf rfl) (le_fr hlo rfl) rfl (Nat.le_of_ble_eq_true rfl) dX6_readLine_11 fun r15 M14 => ?_
    refine s_goto C 56 dX6_readLine_14 (by decide) ?_
    refine Sim.keep [] rfl ?_
    exact hj56 _ _

def g_chain_j227 (rec190 : Int32 → Ms → Option (Int32 × Ms)) (x1 : Int32) (y1 : Int32) (y2 : Int64) (M14 : Ms) : Option (Int32 × Ms) :=
  (sL 10 y1 y2 M14).bind fun M15 =>
  rec190 (x1 + (1 : Int32)) M15
def g_chain_L190  : Int32 → Ms → Option (Int32 × Ms) :=
  lp FU fun rec190 v190 M10 =>
    if (20 : Int32) ≤ v190 then
      bd (mI 38 (0 : Int32) M10) fun M11 =>
      (pZ 34 (0 : Int32) M11).bind fun M12 =>
      some ((M12.1 20), M12)
    else
      (aI 0 6 (2 : Int32) M10).bind fun a13 =>
      if a13 ≤ v190 then
        g_chain_j227 rec190 v190 ((8 : Int32) + v190) (0 : Int64) M10
      else
        (aL 10 ((36 : Int32) + v190) M10).bind fun a16 =>
        g_chain_j227 rec190 v190 ((8 : Int32) + v190) a16 M10
def g_chain_j181 (rec136 : Int32 → Ms → Option (Int32 × Ms)) (x1 : Int32) (y1 : Int32) (y2 : Int64) (M19 : Ms) : Option (Int32 × Ms) :=
  (sL 10 y1 y2 M19).bind fun M20 =>
  rec136 (x1 + (1 : Int32)) M20
def g_chain_L136  : Int32 → Ms → Option (Int32 × Ms) :=
  lp FU fun rec136 v136 M9 =>
    if (8 : Int32) ≤ v136 then
      g_chain_L190 (0 : Int32) M9
    else
      (sI 0 6 ((216 : Int32) + v136) (-1 : Int32) M9).bind fun M17 =>
      (aI 0 6 (1 : Int32) M17).bind fun a18 =>
      if a18 ≤ v136 then
        g_chain_j181 rec136 v136 v136 (0 : Int64) M17
      else
        (aL 10 ((28 : Int32) + v136) M17).bind fun a21 =>
        g_chain_j181 rec136 v136 v136 a21 M17
def g_chain_j127 (rec99 : Int32 → Ms → Option (Int32 × Ms)) (x1 : Int32) (y1 : Int32) (y2 : Int32) (M22 : Ms) : Option (Int32 × Ms) :=
  (sI 0 6 y1 y2 M22).bind fun M23 =>
  rec99 (x1 + (1 : Int32)) M23
def g_chain_L99  : Int32 → Ms → Option (Int32 × Ms) :=
  lp FU fun rec99 v99 M8 =>
    if (360 : Int32) ≤ v99 then
      g_chain_L136 (0 : Int32) M8
    else
      if (72 : Int32) ≤ v99 then
        g_chain_j127 rec99 v99 v99 (0 : Int32) M8
      else
        (aI 0 7 v99 M8).bind fun a24 =>
        g_chain_j127 rec99 v99 v99 a24 M8
def g_chain_j77  (M27 : Ms) : Option (Int32 × Ms) :=
  some (((-1 : Int32) - (M27.1 17)), M27)
def g_chain_L54  : Unit → Ms → Option (Int32 × Ms) :=
  lp FU fun rec54 v54 M7 =>
    if (M7.1 12) = 0 then
      g_chain_L99 (0 : Int32) M7
    else
      bn (g_readLine  M7) fun r26 M25 =>
      if r26 = 0 then
        g_chain_j77 M25
      else
        bn (g_sign (59 : Int32) M25) fun r29 M28 =>
        if r29 = 0 then
          g_chain_j77 M28
        else
          bd (mI 20 ((M28.1 20) + (1 : Int32)) M28) fun M30 =>
          rec54 () M30
def g_chain_L24  : Int32 → Ms → Option (Int32 × Ms) :=
  lp FU fun rec24 v24 M5 =>
    if (72 : Int32) ≤ v24 then
      (sI 0 7 (0 : Int32) (1 : Int32) M5).bind fun M6 =>
      bn (g_next  M6) fun _ M31 =>
      g_chain_L54 () M31
    else
      (sI 0 7 v24 (0 : Int32) M5).bind fun M32 =>
      rec24 (v24 + (1 : Int32)) M32
def g_chain  (M : Ms) : Option (Int32 × Ms) :=
  bd (mI 0 (0 : Int32) M) fun M1 =>
  bn (g_taken (900 : Int32) M1) fun _ M2 =>
  bd (mI 16 (0 : Int32) M2) fun M3 =>
  bd (mI 20 (0 : Int32) M3) fun M4 =>
  g_chain_L24 (0 : Int32) M4
theorem nd_X6_chain : yX6_chain.cls = RX6 ∧ yX6_chain.cls ≠ "java/lang/invoke/MethodHandle" ∧ yX6_chain.cls ≠ "java/lang/invoke/VarHandle" ∧ (parseMethodDescriptor yX6_chain.desc).map (fun d => d.parameters.length) = some 0 := ⟨rfl, by decide +kernel, by decide +kernel, by decide +kernel⟩
theorem ct_X6_chain {G : Gx} {RL : Lv} {Pl : Nat → Bool} {l : Launch} (hL : LvA G RL Pl) {h0 : Hp} {mo : Nat} (hM : MP Pl mo) (M : Ms)  : Ct (plug h0 mo) G RL l yX6_chain (ws_ yX6_chain cX6_chain 2 (some .int)) 5 108 finI [vr mo] M (g_chain M) := by
  refine Ct.of (Pl := Pl) [(0, vr mo)] (by decide) hL rfl (Nat.le_of_ble_eq_true rfl) ?_
  intro E C hn hf hlo e1 e2 e3 e4 e5
  subst e1; subst e2; subst e3; subst e4
  replace C : Cx E cX6_chain (some .int) RX6 := C
  unfold g_chain
  refine s_aload_n C dX6_chain_0 0 rfl rfl ?_
  refine s_iconst C (0 : Int32) dX6_chain_1 (by decide) ?_
  refine sm_putI 0 0 C hM fo_X6_1_6 rfl ⟨by decide, by decide, rfl⟩ rfl rfl dX6_chain_2 ?_
  refine s_bdh fun M1 => ?_
  refine s_aload_n C dX6_chain_5 0 rfl rfl ?_
  refine s_sipush C (900 : Int32) dX6_chain_6 (by decide) ?_
  refine sm_callV C 1 [] (ct_X6_taken hL hM M1 (900 : Int32)) (lw_V q3112 q3114 qs41 q147 q3115) nd_X6_taken rfl (le_fr hf rfl) (le_fr hlo rfl) rfl (Nat.le_of_ble_eq_true rfl) dX6_chain_9 fun _ M2 => ?_
  refine s_aload_n C dX6_chain_12 0 rfl rfl ?_
  refine s_iconst C (0 : Int32) dX6_chain_13 (by decide) ?_
  refine sm_putI 16 0 C hM fo_X6_174_6 rfl ⟨by decide, by decide, rfl⟩ rfl rfl dX6_chain_14 ?_
  refine s_bdh fun M3 => ?_
  refine s_aload_n C dX6_chain_17 0 rfl rfl ?_
  refine s_iconst C (0 : Int32) dX6_chain_18 (by decide) ?_
  refine sm_putI 20 0 C hM fo_X6_204_6 rfl ⟨by decide, by decide, rfl⟩ rfl rfl dX6_chain_19 ?_
  refine s_bdh fun M4 => ?_
  refine s_iconst C (0 : Int32) dX6_chain_22 (by decide) ?_
  have hL24 : ∀  (v24 : Int32) (M5 : Ms), Sim (plug h0 mo) E (QM (plug h0 mo) E finI) M5 24 [(0, vr mo), (1, .int v24)] [] (g_chain_L24  v24 M5) := by
    intro v24 M5
    refine Sim.loop (fun v24 => [(0, vr mo), (1, .int v24)]) (fun _ => []) (fun rec24 hr24 v24 M5 => ?_) FU v24 M5
    refine s_iload_n C dX6_chain_24 1 rfl rfl ?_
    refine s_bipush C (72 : Int32) dX6_chain_25 (by decide) ?_
    refine s_icmp_ge C 43 dX6_chain_27 (by decide) ?_ ?_
    · refine s_aload_n C dX6_chain_43 0 rfl rfl ?_
      refine sm_getA 7 C hM fo_X6_37_6 rfl (by decide) dX6_chain_44 ?_
      refine s_iconst C (0 : Int32) dX6_chain_47 (by decide) ?_
      refine s_iconst C (1 : Int32) dX6_chain_48 (by decide) ?_
      refine sm_iast C hM dX6_chain_49 fun M6 => ?_
      refine s_aload_n C dX6_chain_50 0 rfl rfl ?_
      have hL54 : ∀  (v54 : Unit) (M7 : Ms), Sim (plug h0 mo) E (QM (plug h0 mo) E finI) M7 54 [(0, vr mo)] [] (g_chain_L54  v54 M7) := by
        intro v54 M7
        refine Sim.loop (fun v54 => [(0, vr mo)]) (fun _ => []) (fun rec54 hr54 v54 M7 => ?_) FU v54 M7
        refine s_aload_n C dX6_chain_54 0 rfl rfl ?_
        refine sm_getI 12 C hM fo_X6_157_6 rfl dX6_chain_55 ?_
        refine s_if_eq C 97 dX6_chain_58 (by decide) ?_ ?_
        · refine s_iconst C (0 : Int32) dX6_chain_97 (by decide) ?_
          have hL99 : ∀  (v99 : Int32) (M8 : Ms), Sim (plug h0 mo) E (QM (plug h0 mo) E finI) M8 99 [(0, vr mo), (1, .int v99)] [] (g_chain_L99  v99 M8) := by
            intro v99 M8
            refine Sim.loop (fun v99 => [(0, vr mo), (1, .int v99)]) (fun _ => []) (fun rec99 hr99 v99 M8 => ?_) FU v99 M8
            refine s_iload_n C dX6_chain_99 1 rfl rfl ?_
            refine s_sipush C (360 : Int32) dX6_chain_100 (by decide) ?_
            refine s_icmp_ge C 134 dX6_chain_103 (by decide) ?_ ?_
            · refine s_iconst C (0 : Int32) dX6_chain_134 (by decide) ?_
              have hL136 : ∀  (v136 : Int32) (M9 : Ms), Sim (plug h0 mo) E (QM (plug h0 mo) E finI) M9 136 [(0, vr mo), (1, .int v136)] [] (g_chain_L136  v136 M9) := by
                intro v136 M9
                refine Sim.loop (fun v136 => [(0, vr mo), (1, .int v136)]) (fun _ => []) (fun rec136 hr136 v136 M9 => ?_) FU v136 M9
                refine s_iload_n C dX6_chain_136 1 rfl rfl ?_
                refine s_bipush C (8 : Int32) dX6_chain_137 (by decide) ?_
                refine s_icmp_ge C 188 dX6_chain_139 (by decide) ?_ ?_
                · refine s_iconst C (0 : Int32) dX6_chain_188 (by decide) ?_
                  have hL190 : ∀  (v190 : Int32) (M10 : Ms), Sim (plug h0 mo) E (QM (plug h0 mo) E finI) M10 190 [(0, vr mo), (1, .int v190)] [] (g_chain_L190  v190 M10) := by
                    intro v190 M10
                    refine Sim.loop (fun v190 => [(0, vr mo), (1, .int v190)]) (fun _ => []) (fun rec190 hr190 v190 M10 => ?_) FU v190 M10
                    refine s_iload_n C dX6_chain_190 1 rfl rfl ?_
                    refine s_bipush C (20 : Int32) dX6_chain_191 (by decide) ?_
                    refine s_icmp_ge C 234 dX6_chain_193 (by decide) ?_ ?_
                    · refine s_aload_n C dX6_chain_234 0 rfl rfl ?_
                      refine s_iconst C (0 : Int32) dX6_chain_235 (by decide) ?_
                      refine sm_putI 38 0 C hM fo_X6_239_6 rfl ⟨by decide, by decide, rfl⟩ rfl rfl dX6_chain_236 ?_
                      refine s_bdh fun M11 => ?_
                      refine s_aload_n C dX6_chain_239 0 rfl rfl ?_
                      refine s_iconst C (0 : Int32) dX6_chain_240 (by decide) ?_
                      refine sm_putZ 34 C hM fo_X6_242_6 rfl rfl rfl dX6_chain_241 fun M12 => ?_
                      refine s_aload_n C dX6_chain_244 0 rfl rfl ?_
                      refine sm_getI 20 C hM fo_X6_204_6 rfl dX6_chain_245 ?_
                      exact s_iret C rfl dX6_chain_248
                    · refine s_aload_n C dX6_chain_196 0 rfl rfl ?_
                      refine sm_getA 10 C hM fo_X6_46_6 rfl (by decide) dX6_chain_197 ?_
                      refine s_bipush C (8 : Int32) dX6_chain_200 (by decide) ?_
                      refine s_iload_n C dX6_chain_202 1 rfl rfl ?_
                      refine s_iadd C dX6_chain_203 ?_
                      refine s_iload_n C dX6_chain_204 1 rfl rfl ?_
                      refine s_aload_n C dX6_chain_205 0 rfl rfl ?_
                      refine sm_getA 6 C hM fo_X6_33_6 rfl (by decide) dX6_chain_206 ?_
                      refine s_iconst C (2 : Int32) dX6_chain_209 (by decide) ?_
                      refine sm_iald C hM dX6_chain_210 fun a13 => ?_
                      have hj227 : ∀ (x1 : Int32) (y1 : Int32) (y2 : Int64) (M14 : Ms), Sim (plug h0 mo) E (QM (plug h0 mo) E finI) M14 227 [(0, vr mo), (1, .int x1)] [.long y2, .int y1, vr (aid mo 10)] (g_chain_j227 rec190 x1 y1 y2 M14) := by
                        intro x1 y1 y2 M14
                        refine sm_last C hM dX6_chain_227 fun M15 => ?_
                        refine s_iinc (la' := [(1, .int (x1 + (1 : Int32))), (0, vr mo)]) C 1 dX6_chain_228 rfl rfl (lt_nl e5 rfl) rfl ?_
                        refine s_goto C 190 dX6_chain_231 (by decide) ?_
                        refine Sim.keep [1, 0] rfl ?_
                        exact hr190 _ _
                      refine s_icmp_ge C 226 dX6_chain_211 (by decide) ?_ ?_
                      · refine s_lconst C (0 : Int64) dX6_chain_226 (by decide) ?_
                        exact hj227 _ _ _ _
                      · refine s_aload_n C dX6_chain_214 0 rfl rfl ?_
                        refine sm_getA 10 C hM fo_X6_46_6 rfl (by decide) dX6_chain_215 ?_
                        refine s_bipush C (36 : Int32) dX6_chain_218 (by decide) ?_
                        refine s_iload_n C dX6_chain_220 1 rfl rfl ?_
                        refine s_iadd C dX6_chain_221 ?_
                        refine sm_lald C hM dX6_chain_222 fun a16 => ?_
                        refine s_goto C 227 dX6_chain_223 (by decide) ?_
                        exact hj227 _ _ _ _
                  refine s_istore_n (la' := [(1, .int (0 : Int32)), (0, vr mo)]) C 1 dX6_chain_189 rfl (lt_nl e5 rfl) rfl ?_
                  refine Sim.keep [1, 0] rfl ?_
                  exact hL190  _ _
                · refine s_aload_n C dX6_chain_142 0 rfl rfl ?_
                  refine sm_getA 6 C hM fo_X6_33_6 rfl (by decide) dX6_chain_143 ?_
                  refine s_sipush C (216 : Int32) dX6_chain_146 (by decide) ?_
                  refine s_iload_n C dX6_chain_149 1 rfl rfl ?_
                  refine s_iadd C dX6_chain_150 ?_
                  refine s_iconst C (-1 : Int32) dX6_chain_151 (by decide) ?_
                  refine sm_iast C hM dX6_chain_152 fun M17 => ?_
                  refine s_aload_n C dX6_chain_153 0 rfl rfl ?_
                  refine sm_getA 10 C hM fo_X6_46_6 rfl (by decide) dX6_chain_154 ?_
                  refine s_iload_n C dX6_chain_157 1 rfl rfl ?_
                  refine s_iload_n C dX6_chain_158 1 rfl rfl ?_
                  refine s_aload_n C dX6_chain_159 0 rfl rfl ?_
                  refine sm_getA 6 C hM fo_X6_33_6 rfl (by decide) dX6_chain_160 ?_
                  refine s_iconst C (1 : Int32) dX6_chain_163 (by decide) ?_
                  refine sm_iald C hM dX6_chain_164 fun a18 => ?_
                  have hj181 : ∀ (x1 : Int32) (y1 : Int32) (y2 : Int64) (M19 : Ms), Sim (plug h0 mo) E (QM (plug h0 mo) E finI) M19 181 [(0, vr mo), (1, .int x1)] [.long y2, .int y1, vr (aid mo 10)] (g_chain_j181 rec136 x1 y1 y2 M19) := by
                    intro x1 y1 y2 M19
                    refine sm_last C hM dX6_chain_181 fun M20 => ?_
                    refine s_iinc (la' := [(1, .int (x1 + (1 : Int32))), (0, vr mo)]) C 1 dX6_chain_182 rfl rfl (lt_nl e5 rfl) rfl ?_
                    refine s_goto C 136 dX6_chain_185 (by decide) ?_
                    refine Sim.keep [1, 0] rfl ?_
                    exact hr136 _ _
                  refine s_icmp_ge C 180 dX6_chain_165 (by decide) ?_ ?_
                  · refine s_lconst C (0 : Int64) dX6_chain_180 (by decide) ?_
                    exact hj181 _ _ _ _
                  · refine s_aload_n C dX6_chain_168 0 rfl rfl ?_
                    refine sm_getA 10 C hM fo_X6_46_6 rfl (by decide) dX6_chain_169 ?_
                    refine s_bipush C (28 : Int32) dX6_chain_172 (by decide) ?_
                    refine s_iload_n C dX6_chain_174 1 rfl rfl ?_
                    refine s_iadd C dX6_chain_175 ?_
                    refine sm_lald C hM dX6_chain_176 fun a21 => ?_
                    refine s_goto C 181 dX6_chain_177 (by decide) ?_
                    exact hj181 _ _ _ _
              refine s_istore_n (la' := [(1, .int (0 : Int32)), (0, vr mo)]) C 1 dX6_chain_135 rfl (lt_nl e5 rfl) rfl ?_
              refine Sim.keep [1, 0] rfl ?_
              exact hL136  _ _
            · refine s_aload_n C dX6_chain_106 0 rfl rfl ?_
              refine sm_getA 6 C hM fo_X6_33_6 rfl (by decide) dX6_chain_107 ?_
              refine s_iload_n C dX6_chain_110 1 rfl rfl ?_
              refine s_iload_n C dX6_chain_111 1 rfl rfl ?_
              refine s_bipush C (72 : Int32) dX6_chain_112 (by decide) ?_
              have hj127 : ∀ (x1 : Int32) (y1 : Int32) (y2 : Int32) (M22 : Ms), Sim (plug h0 mo) E (QM (plug h0 mo) E finI) M22 127 [(0, vr mo), (1, .int x1)] [.int y2, .int y1, vr (aid mo 6)] (g_chain_j127 rec99 x1 y1 y2 M22) := by
                intro x1 y1 y2 M22
                refine sm_iast C hM dX6_chain_127 fun M23 => ?_
                refine s_iinc (la' := [(1, .int (x1 + (1 : Int32))), (0, vr mo)]) C 1 dX6_chain_128 rfl rfl (lt_nl e5 rfl) rfl ?_
                refine s_goto C 99 dX6_chain_131 (by decide) ?_
                refine Sim.keep [1, 0] rfl ?_
                exact hr99 _ _
              refine s_icmp_ge C 126 dX6_chain_114 (by decide) ?_ ?_
              · refine s_iconst C (0 : Int32) dX6_chain_126 (by decide) ?_
                exact hj127 _ _ _ _
              · refine s_aload_n C dX6_chain_117 0 rfl rfl ?_
                refine sm_getA 7 C hM fo_X6_37_6 rfl (by decide) dX6_chain_118 ?_
                refine s_iload_n C dX6_chain_121 1 rfl rfl ?_
                refine sm_iald C hM dX6_chain_122 fun a24 => ?_
                refine s_goto C 127 dX6_chain_123 (by decide) ?_
                exact hj127 _ _ _ _
          refine s_istore_n (la' := [(1, .int (0 : Int32)), (0, vr mo)]) C 1 dX6_chain_98 rfl (lt_nl e5 rfl) rfl ?_
          refine Sim.keep [1, 0] rfl ?_
          exact hL99  _ _
        · refine s_aload_n C dX6_chain_61 0 rfl rfl ?_
          refine sm_callI C 0 [] (ct_X6_readLine hL hM M7 ) (lw_V q3130 q3132 qs44 q147 q3133) nd_X6_readLine rfl (le_fr hf rfl) (le_fr hlo rfl) rfl (Nat.le_of_ble_eq_true rfl) dX6_chain_62 fun r26 M25 => ?_
          have hj77 : ∀  (M27 : Ms), Sim (plug h0 mo) E (QM (plug h0 mo) E finI) M27 77 [(0, vr mo)] [] (g_chain_j77 M27) := by
            intro M27
            refine s_iconst C (-1 : Int32) dX6_chain_77 (by decide) ?_
            refine s_aload_n C dX6_chain_78 0 rfl rfl ?_
            refine sm_getI 17 C hM fo_X6_177_6 rfl dX6_chain_79 ?_
            refine s_isub C dX6_chain_82 ?_
            exact s_iret C rfl dX6_chain_83
          refine s_if_eq C 77 dX6_chain_65 (by decide) ?_ ?_
          · exact hj77 _
          · refine s_aload_n C dX6_chain_68 0 rfl rfl ?_
            refine s_bipush C (59 : Int32) dX6_chain_69 (by decide) ?_
            refine sm_callI C 1 [] (ct_X6_sign hL hM M25 (59 : Int32)) (lw_V q3177 q3179 qs55 q147 q3180) nd_X6_sign rfl (le_fr hf rfl) (le_fr hlo rfl) rfl (Nat.le_of_ble_eq_true rfl) dX6_chain_71 fun r29 M28 => ?_
            refine s_if_ne C 84 dX6_chain_74 (by decide) ?_ ?_
            · refine s_aload_n C dX6_chain_84 0 rfl rfl ?_
              refine s_dup C dX6_chain_85 rfl ?_
              refine sm_getI 20 C hM fo_X6_204_6 rfl dX6_chain_86 ?_
              refine s_iconst C (1 : Int32) dX6_chain_89 (by decide) ?_
              refine s_iadd C dX6_chain_90 ?_
              refine sm_putI 20 0 C hM fo_X6_204_6 rfl ⟨by decide, by decide, rfl⟩ rfl rfl dX6_chain_91 ?_
              refine s_bdh fun M30 => ?_
              refine s_goto C 54 dX6_chain_94 (by decide) ?_
              exact hr54 _ _
            · exact hj77 _
      refine sm_callV C 0 [] (ct_X6_next hL hM M6 ) (lw_V q3116 q3118 qs42 q147 q3119) nd_X6_next rfl (le_fr hf rfl) (le_fr hlo rfl) rfl (Nat.le_of_ble_eq_true rfl) dX6_chain_51 fun _ M31 => ?_
      refine Sim.keep [0] rfl ?_
      exact hL54  _ _
    · refine s_aload_n C dX6_chain_30 0 rfl rfl ?_
      refine sm_getA 7 C hM fo_X6_37_6 rfl (by decide) dX6_chain_31 ?_
      refine s_iload_n C dX6_chain_34 1 rfl rfl ?_
      refine s_iconst C (0 : Int32) dX6_chain_35 (by decide) ?_
      refine sm_iast C hM dX6_chain_36 fun M32 => ?_
      refine s_iinc (la' := [(1, .int (v24 + (1 : Int32))), (0, vr mo)]) C 1 dX6_chain_37 rfl rfl (lt_nl e5 rfl) rfl ?_
      refine s_goto C 24 dX6_chain_40 (by decide) ?_
      refine Sim.keep [1, 0] rfl ?_
      exact hr24 _ _
  refine s_istore_n (la' := [(1, .int (0 : Int32)), (0, vr mo)]) C 1 dX6_chain_23 rfl (lt_nl e5 rfl) rfl ?_
  refine Sim.keep [1, 0] rfl ?_
  exact hL24  _ _

def g_chosen_j33 (y0 : Int32) (M5 : Ms) : Option (Int32 × Ms) :=
  some (y0, M5)
def g_chosen (x1 : Int32) (M : Ms) : Option (Int32 × Ms) :=
  bd (mI 0 (0 : Int32) M) fun M1 =>
  bn (g_lays  M1) fun _ M2 =>
  bn (g_isIn x1 (0 : Int32) ((M2.1 30) - (1 : Int32)) M2) fun r4 M3 =>
  if r4 = 0 then
    g_chosen_j33 (-1 : Int32) M3
  else
    (aI 0 25 x1 M3).bind fun a6 =>
    g_chosen_j33 a6 M3
theorem nd_X6_chosen : yX6_chosen.cls = RX6 ∧ yX6_chosen.cls ≠ "java/lang/invoke/MethodHandle" ∧ yX6_chosen.cls ≠ "java/lang/invoke/VarHandle" ∧ (parseMethodDescriptor yX6_chosen.desc).map (fun d => d.parameters.length) = some 1 := ⟨rfl, by decide +kernel, by decide +kernel, by decide +kernel⟩
theorem ct_X6_chosen {G : Gx} {RL : Lv} {Pl : Nat → Bool} {l : Launch} (hL : LvA G RL Pl) {h0 : Hp} {mo : Nat} (hM : MP Pl mo) (M : Ms) (x1 : Int32) : Ct (plug h0 mo) G RL l yX6_chosen (ws_ yX6_chosen cX6_chosen 2 (some .int)) 7 163 finI [vr mo, .int x1] M (g_chosen x1 M) := by
  refine Ct.of (Pl := Pl) [(0, vr mo), (1, .int x1)] (by decide) hL rfl (Nat.le_of_ble_eq_true rfl) ?_
  intro E C hn hf hlo e1 e2 e3 e4 e5
  subst e1; subst e2; subst e3; subst e4
  replace C : Cx E cX6_chosen (some .int) RX6 := C
  unfold g_chosen
  refine s_aload_n C dX6_chosen_0 0 rfl rfl ?_
  refine s_iconst C (0 : Int32) dX6_chosen_1 (by decide) ?_
  refine sm_putI 0 0 C hM fo_X6_1_6 rfl ⟨by decide, by decide, rfl⟩ rfl rfl dX6_chosen_2 ?_
  refine s_bdh fun M1 => ?_
  refine s_aload_n C dX6_chosen_5 0 rfl rfl ?_
  refine sm_callV C 0 [] (ct_X6_lays hL hM M1 ) (lw_V q3201 q3203 qs59 q147 q3204) nd_X6_lays rfl (le_fr hf rfl) (le_fr hlo rfl) rfl (Nat.le_of_ble_eq_true rfl) dX6_chosen_6 fun _ M2 => ?_
  refine s_iload_n C dX6_chosen_9 1 rfl rfl ?_
  refine s_iconst C (0 : Int32) dX6_chosen_10 (by decide) ?_
  refine s_aload_n C dX6_chosen_11 0 rfl rfl ?_
  refine sm_getI 30 C hM fo_X6_297_6 rfl dX6_chosen_12 ?_
  refine s_iconst C (1 : Int32) dX6_chosen_15 (by decide) ?_
  refine s_isub C dX6_chosen_16 ?_
  refine sm_callSI C 3 [] (ct_X6_isIn hL hM M2 x1 (0 : Int32) ((M2.1 30) - (1 : Int32))) (lw_S q3150 q3151 q147 q3152) nd_X6_isIn rfl (le_fr hf rfl) (le_fr hlo rfl) rfl (Nat.le_of_ble_eq_true rfl) dX6_chosen_17 fun r4 M3 => ?_
  have hj33 : ∀ (y0 : Int32) (M5 : Ms), Sim (plug h0 mo) E (QM (plug h0 mo) E finI) M5 33 [] [.int y0] (g_chosen_j33 y0 M5) := by
    intro y0 M5
    exact s_iret C rfl dX6_chosen_33
  refine s_if_eq C 32 dX6_chosen_20 (by decide) ?_ ?_
  · refine s_iconst C (-1 : Int32) dX6_chosen_32 (by decide) ?_
    refine Sim.keep [] rfl ?_
    exact hj33 _ _
  · refine s_aload_n C dX6_chosen_23 0 rfl rfl ?_
    refine sm_getA 25 C hM fo_X6_65_6 rfl (by decide) dX6_chosen_24 ?_
    refine s_iload_n C dX6_chosen_27 1 rfl rfl ?_
    refine sm_iald C hM dX6_chosen_28 fun a6 => ?_
    refine s_goto C 33 dX6_chosen_29 (by decide) ?_
    refine Sim.keep [] rfl ?_
    exact hj33 _ _

def g_clashOf_j83 (rec20 : Int32 → Ms → Option (Int32 × Ms)) (x1 : Int32) (x2 : Int32) (x3 : Int32) (M8 : Ms) : Option (Int32 × Ms) :=
  rec20 (x3 + (1 : Int32)) M8
def g_clashOf_j82 (y0 : Int32) (M15 : Ms) : Option (Int32 × Ms) :=
  some (y0, M15)
def g_clashOf_L20 (rec6 : Int32 → Ms → Option (Int32 × Ms)) (x1 : Int32) (x2 : Int32) : Int32 → Ms → Option (Int32 × Ms) :=
  lp FU fun rec20 v20 M4 =>
    (aI 0 6 (2 : Int32) M4).bind fun a5 =>
    if a5 ≤ v20 then
      rec6 (x2 + (1 : Int32)) M4
    else
      bn (g_bitOf (M4.1 27) x2 M4) fun r7 M6 =>
      if r7 = 0 then
        g_clashOf_j83 rec20 x1 x2 v20 M6
      else
        bn (g_bitOf (M6.1 27) v20 M6) fun r10 M9 =>
        if r10 = 0 then
          g_clashOf_j83 rec20 x1 x2 v20 M9
        else
          bn (g_isAhead x2 v20 M9) fun r12 M11 =>
          if r12 = 0 then
            bn (g_isAhead v20 x2 M11) fun r14 M13 =>
            if r14 = 0 then
              if x1 = 0 then
                g_clashOf_j82 x2 M13
              else
                g_clashOf_j82 v20 M13
            else
              g_clashOf_j83 rec20 x1 x2 v20 M13
          else
            g_clashOf_j83 rec20 x1 x2 v20 M11
def g_clashOf_L6 (x1 : Int32) : Int32 → Ms → Option (Int32 × Ms) :=
  lp FU fun rec6 v6 M2 =>
    (aI 0 6 (2 : Int32) M2).bind fun a3 =>
    if a3 ≤ v6 then
      some ((-1 : Int32), M2)
    else
      bd ((v6 + (1 : Int32))) fun a16 =>
      g_clashOf_L20 rec6 x1 v6 a16 M2
def g_clashOf (x1 : Int32) (M : Ms) : Option (Int32 × Ms) :=
  bn (g_lays  M) fun _ M1 =>
  g_clashOf_L6 x1 (0 : Int32) M1
theorem nd_X6_clashOf : yX6_clashOf.cls = RX6 ∧ yX6_clashOf.cls ≠ "java/lang/invoke/MethodHandle" ∧ yX6_clashOf.cls ≠ "java/lang/invoke/VarHandle" ∧ (parseMethodDescriptor yX6_clashOf.desc).map (fun d => d.parameters.length) = some 1 := ⟨rfl, by decide +kernel, by decide +kernel, by decide +kernel⟩
theorem ct_X6_clashOf {G : Gx} {RL : Lv} {Pl : Nat → Bool} {l : Launch} (hL : LvA G RL Pl) {h0 : Hp} {mo : Nat} (hM : MP Pl mo) (M : Ms) (x1 : Int32) : Ct (plug h0 mo) G RL l yX6_clashOf (ws_ yX6_clashOf cX6_clashOf 4 (some .int)) 7 163 finI [vr mo, .int x1] M (g_clashOf x1 M) := by
  refine Ct.of (Pl := Pl) [(0, vr mo), (1, .int x1)] (by decide) hL rfl (Nat.le_of_ble_eq_true rfl) ?_
  intro E C hn hf hlo e1 e2 e3 e4 e5
  subst e1; subst e2; subst e3; subst e4
  replace C : Cx E cX6_clashOf (some .int) RX6 := C
  unfold g_clashOf
  refine s_aload_n C dX6_clashOf_0 0 rfl rfl ?_
  refine sm_callV C 0 [] (ct_X6_lays hL hM M ) (lw_V q3201 q3203 qs59 q147 q3204) nd_X6_lays rfl (le_fr hf rfl) (le_fr hlo rfl) rfl (Nat.le_of_ble_eq_true rfl) dX6_clashOf_1 fun _ M1 => ?_
  refine s_iconst C (0 : Int32) dX6_clashOf_4 (by decide) ?_
  have hL6 : ∀ (x1 : Int32) (v6 : Int32) (M2 : Ms), Sim (plug h0 mo) E (QM (plug h0 mo) E finI) M2 6 [(0, vr mo), (1, .int x1), (2, .int v6)] [] (g_clashOf_L6 x1 v6 M2) := by
    intro x1 v6 M2
    refine Sim.loop (fun v6 => [(0, vr mo), (1, .int x1), (2, .int v6)]) (fun _ => []) (fun rec6 hr6 v6 M2 => ?_) FU v6 M2
    refine s_iload_n C dX6_clashOf_6 2 rfl rfl ?_
    refine s_aload_n C dX6_clashOf_7 0 rfl rfl ?_
    refine sm_getA 6 C hM fo_X6_33_6 rfl (by decide) dX6_clashOf_8 ?_
    refine s_iconst C (2 : Int32) dX6_clashOf_11 (by decide) ?_
    refine sm_iald C hM dX6_clashOf_12 fun a3 => ?_
    refine s_icmp_ge C 95 dX6_clashOf_13 (by decide) ?_ ?_
    · refine s_iconst C (-1 : Int32) dX6_clashOf_95 (by decide) ?_
      exact s_iret C rfl dX6_clashOf_96
    · refine s_iload_n C dX6_clashOf_16 2 rfl rfl ?_
      refine s_iconst C (1 : Int32) dX6_clashOf_17 (by decide) ?_
      refine s_iadd C dX6_clashOf_18 ?_
      have hL20 : ∀ (x2 : Int32) (v20 : Int32) (M4 : Ms), Sim (plug h0 mo) E (QM (plug h0 mo) E finI) M4 20 [(0, vr mo), (1, .int x1), (2, .int x2), (3, .int v20)] [] (g_clashOf_L20 rec6 x1 x2 v20 M4) := by
        intro x2 v20 M4
        refine Sim.loop (fun v20 => [(0, vr mo), (1, .int x1), (2, .int x2), (3, .int v20)]) (fun _ => []) (fun rec20 hr20 v20 M4 => ?_) FU v20 M4
        refine s_iload_n C dX6_clashOf_20 3 rfl rfl ?_
        refine s_aload_n C dX6_clashOf_21 0 rfl rfl ?_
        refine sm_getA 6 C hM fo_X6_33_6 rfl (by decide) dX6_clashOf_22 ?_
        refine s_iconst C (2 : Int32) dX6_clashOf_25 (by decide) ?_
        refine sm_iald C hM dX6_clashOf_26 fun a5 => ?_
        refine s_icmp_ge C 89 dX6_clashOf_27 (by decide) ?_ ?_
        · refine s_iinc (la' := [(2, .int (x2 + (1 : Int32))), (0, vr mo), (1, .int x1), (3, .int v20)]) C 2 dX6_clashOf_89 rfl rfl (lt_nl e5 rfl) rfl ?_
          refine s_goto C 6 dX6_clashOf_92 (by decide) ?_
          refine Sim.keep [1, 2, 0] rfl ?_
          exact hr6 _ _
        · refine s_aload_n C dX6_clashOf_30 0 rfl rfl ?_
          refine sm_getI 27 C hM fo_X6_285_6 rfl dX6_clashOf_31 ?_
          refine s_iload_n C dX6_clashOf_34 2 rfl rfl ?_
          refine sm_callSI C 2 [] (ct_X6_bitOf hL hM M4 (M4.1 27) x2) (lw_S q3241 q3242 q147 q3243) nd_X6_bitOf rfl (le_fr hf rfl) (le_fr hlo rfl) rfl (Nat.le_of_ble_eq_true rfl) dX6_clashOf_35 fun r7 M6 => ?_
          have hj83 : ∀ (x3 : Int32) (M8 : Ms), Sim (plug h0 mo) E (QM (plug h0 mo) E finI) M8 83 [(0, vr mo), (1, .int x1), (2, .int x2), (3, .int x3)] [] (g_clashOf_j83 rec20 x1 x2 x3 M8) := by
            intro x3 M8
            refine s_iinc (la' := [(3, .int (x3 + (1 : Int32))), (0, vr mo), (1, .int x1), (2, .int x2)]) C 3 dX6_clashOf_83 rfl rfl (lt_nl e5 rfl) rfl ?_
            refine s_goto C 20 dX6_clashOf_86 (by decide) ?_
            refine Sim.keep [1, 2, 3, 0] rfl ?_
            exact hr20 _ _
          refine s_if_eq C 83 dX6_clashOf_38 (by decide) ?_ ?_
          · exact hj83 _ _
          · refine s_aload_n C dX6_clashOf_41 0 rfl rfl ?_
            refine sm_getI 27 C hM fo_X6_285_6 rfl dX6_clashOf_42 ?_
            refine s_iload_n C dX6_clashOf_45 3 rfl rfl ?_
            refine sm_callSI C 2 [] (ct_X6_bitOf hL hM M6 (M6.1 27) v20) (lw_S q3241 q3242 q147 q3243) nd_X6_bitOf rfl (le_fr hf rfl) (le_fr hlo rfl) rfl (Nat.le_of_ble_eq_true rfl) dX6_clashOf_46 fun r10 M9 => ?_
            refine s_if_eq C 83 dX6_clashOf_49 (by decide) ?_ ?_
            · exact hj83 _ _
            · refine s_aload_n C dX6_clashOf_52 0 rfl rfl ?_
              refine s_iload_n C dX6_clashOf_53 2 rfl rfl ?_
              refine s_iload_n C dX6_clashOf_54 3 rfl rfl ?_
              refine sm_callI C 2 [] (ct_X6_isAhead hL hM M9 x2 v20) (lw_V q3275 q3277 qs75 q147 q3278) nd_X6_isAhead rfl (le_fr hf rfl) (le_fr hlo rfl) rfl (Nat.le_of_ble_eq_true rfl) dX6_clashOf_55 fun r12 M11 => ?_
              refine s_if_ne C 83 dX6_clashOf_58 (by decide) ?_ ?_
              · exact hj83 _ _
              · refine s_aload_n C dX6_clashOf_61 0 rfl rfl ?_
                refine s_iload_n C dX6_clashOf_62 3 rfl rfl ?_
                refine s_iload_n C dX6_clashOf_63 2 rfl rfl ?_
                refine sm_callI C 2 [] (ct_X6_isAhead hL hM M11 v20 x2) (lw_V q3275 q3277 qs75 q147 q3278) nd_X6_isAhead rfl (le_fr hf rfl) (le_fr hlo rfl) rfl (Nat.le_of_ble_eq_true rfl) dX6_clashOf_64 fun r14 M13 => ?_
                refine s_if_eq C 73 dX6_clashOf_67 (by decide) ?_ ?_
                · refine s_iload_n C dX6_clashOf_73 1 rfl rfl ?_
                  have hj82 : ∀ (y0 : Int32) (M15 : Ms), Sim (plug h0 mo) E (QM (plug h0 mo) E finI) M15 82 [] [.int y0] (g_clashOf_j82 y0 M15) := by
                    intro y0 M15
                    exact s_iret C rfl dX6_clashOf_82
                  refine s_if_ne C 81 dX6_clashOf_74 (by decide) ?_ ?_
                  · refine s_iload_n C dX6_clashOf_81 3 rfl rfl ?_
                    refine Sim.keep [] rfl ?_
                    exact hj82 _ _
                  · refine s_iload_n C dX6_clashOf_77 2 rfl rfl ?_
                    refine s_goto C 82 dX6_clashOf_78 (by decide) ?_
                    refine Sim.keep [] rfl ?_
                    exact hj82 _ _
                · refine s_goto C 83 dX6_clashOf_70 (by decide) ?_
                  exact hj83 _ _
      refine s_bdi fun a16 => ?_
      refine s_istore_n (la' := [(3, .int a16), (0, vr mo), (1, .int x1), (2, .int v6)]) C 3 dX6_clashOf_19 rfl (lt_nl e5 rfl) rfl ?_
      refine Sim.keep [1, 2, 3, 0] rfl ?_
      exact hL20 _ _ _
  refine s_istore_n (la' := [(2, .int (0 : Int32)), (0, vr mo), (1, .int x1)]) C 2 dX6_clashOf_5 rfl (lt_nl e5 rfl) rfl ?_
  refine Sim.keep [1, 2, 0] rfl ?_
  exact hL6 _ _ _

def g_clash_j18 (y0 : Int32) (M4 : Ms) : Option (Int32 × Ms) :=
  bn (g_truth y0 M4) fun r6 M5 =>
  some (r6, M5)
def g_clash  (M : Ms) : Option (Int32 × Ms) :=
  bd (mI 0 (0 : Int32) M) fun M1 =>
  bn (g_clashOf (0 : Int32) M1) fun r3 M2 =>
  if r3 < 0 then
    g_clash_j18 (0 : Int32) M2
  else
    g_clash_j18 (1 : Int32) M2
theorem nd_X6_clash : yX6_clash.cls = RX6 ∧ yX6_clash.cls ≠ "java/lang/invoke/MethodHandle" ∧ yX6_clash.cls ≠ "java/lang/invoke/VarHandle" ∧ (parseMethodDescriptor yX6_clash.desc).map (fun d => d.parameters.length) = some 0 := ⟨rfl, by decide +kernel, by decide +kernel, by decide +kernel⟩
theorem ct_X6_clash {G : Gx} {RL : Lv} {Pl : Nat → Bool} {l : Launch} (hL : LvA G RL Pl) {h0 : Hp} {mo : Nat} (hM : MP Pl mo) (M : Ms)  : Ct (plug h0 mo) G RL l yX6_clash (ws_ yX6_clash cX6_clash 1 (some .int)) 8 186 finI [vr mo] M (g_clash M) := by
  refine Ct.of (Pl := Pl) [(0, vr mo)] (by decide) hL rfl (Nat.le_of_ble_eq_true rfl) ?_
  intro E C hn hf hlo e1 e2 e3 e4 e5
  subst e1; subst e2; subst e3; subst e4
  replace C : Cx E cX6_clash (some .int) RX6 := C
  unfold g_clash
  refine s_aload_n C dX6_clash_0 0 rfl rfl ?_
  refine s_iconst C (0 : Int32) dX6_clash_1 (by decide) ?_
  refine sm_putI 0 0 C hM fo_X6_1_6 rfl ⟨by decide, by decide, rfl⟩ rfl rfl dX6_clash_2 ?_
  refine s_bdh fun M1 => ?_
  refine s_aload_n C dX6_clash_5 0 rfl rfl ?_
  refine s_iconst C (0 : Int32) dX6_clash_6 (by decide) ?_
  refine sm_callI C 1 [] (ct_X6_clashOf hL hM M1 (0 : Int32)) (lw_V q3406 q3408 qs89 q147 q3409) nd_X6_clashOf rfl (le_fr hf rfl) (le_fr hlo rfl) rfl (Nat.le_of_ble_eq_true rfl) dX6_clash_7 fun r3 M2 => ?_
  have hj18 : ∀ (y0 : Int32) (M4 : Ms), Sim (plug h0 mo) E (QM (plug h0 mo) E finI) M4 18 [] [.int y0] (g_clash_j18 y0 M4) := by
    intro y0 M4
    refine sm_callSI C 1 [] (ct_X6_truth hL hM M4 y0) (lw_S q3268 q3269 q147 q3270) nd_X6_truth rfl (le_fr hf rfl) (le_fr hlo rfl) rfl (Nat.le_of_ble_eq_true rfl) dX6_clash_18 fun r6 M5 => ?_
    exact s_iret C rfl dX6_clash_21
  refine s_if_lt C 17 dX6_clash_10 (by decide) ?_ ?_
  · refine s_iconst C (0 : Int32) dX6_clash_17 (by decide) ?_
    refine Sim.keep [] rfl ?_
    exact hj18 _ _
  · refine s_iconst C (1 : Int32) dX6_clash_13 (by decide) ?_
    refine s_goto C 18 dX6_clash_14 (by decide) ?_
    refine Sim.keep [] rfl ?_
    exact hj18 _ _

def g_clashAt_j23 (y0 : Int32) (M4 : Ms) : Option (Int32 × Ms) :=
  some (y0, M4)
def g_clashAt (x1 : Int32) (M : Ms) : Option (Int32 × Ms) :=
  bd (mI 0 (0 : Int32) M) fun M1 =>
  bn (g_isIn x1 (0 : Int32) (1 : Int32) M1) fun r3 M2 =>
  if r3 = 0 then
    g_clashAt_j23 (-1 : Int32) M2
  else
    bn (g_clashOf x1 M2) fun r6 M5 =>
    g_clashAt_j23 r6 M5
theorem nd_X6_clashAt : yX6_clashAt.cls = RX6 ∧ yX6_clashAt.cls ≠ "java/lang/invoke/MethodHandle" ∧ yX6_clashAt.cls ≠ "java/lang/invoke/VarHandle" ∧ (parseMethodDescriptor yX6_clashAt.desc).map (fun d => d.parameters.length) = some 1 := ⟨rfl, by decide +kernel, by decide +kernel, by decide +kernel⟩
theorem ct_X6_clashAt {G : Gx} {RL : Lv} {Pl : Nat → Bool} {l : Launch} (hL : LvA G RL Pl) {h0 : Hp} {mo : Nat} (hM : MP Pl mo) (M : Ms) (x1 : Int32) : Ct (plug h0 mo) G RL l yX6_clashAt (ws_ yX6_clashAt cX6_clashAt 2 (some .int)) 8 186 finI [vr mo, .int x1] M (g_clashAt x1 M) := by
  refine Ct.of (Pl := Pl) [(0, vr mo), (1, .int x1)] (by decide) hL rfl (Nat.le_of_ble_eq_true rfl) ?_
  intro E C hn hf hlo e1 e2 e3 e4 e5
  subst e1; subst e2; subst e3; subst e4
  replace C : Cx E cX6_clashAt (some .int) RX6 := C
  unfold g_clashAt
  refine s_aload_n C dX6_clashAt_0 0 rfl rfl ?_
  refine s_iconst C (0 : Int32) dX6_clashAt_1 (by decide) ?_
  refine sm_putI 0 0 C hM fo_X6_1_6 rfl ⟨by decide, by decide, rfl⟩ rfl rfl dX6_clashAt_2 ?_
  refine s_bdh fun M1 => ?_
  refine s_iload_n C dX6_clashAt_5 1 rfl rfl ?_
  refine s_iconst C (0 : Int32) dX6_clashAt_6 (by decide) ?_
  refine s_iconst C (1 : Int32) dX6_clashAt_7 (by decide) ?_
  refine sm_callSI C 3 [] (ct_X6_isIn hL hM M1 x1 (0 : Int32) (1 : Int32)) (lw_S q3150 q3151 q147 q3152) nd_X6_isIn rfl (le_fr hf rfl) (le_fr hlo rfl) rfl (Nat.le_of_ble_eq_true rfl) dX6_clashAt_8 fun r3 M2 => ?_
  have hj23 : ∀ (y0 : Int32) (M4 : Ms), Sim (plug h0 mo) E (QM (plug h0 mo) E finI) M4 23 [] [.int y0] (g_clashAt_j23 y0 M4) := by
    intro y0 M4
    exact s_iret C rfl dX6_clashAt_23
  refine s_if_eq C 22 dX6_clashAt_11 (by decide) ?_ ?_
  · refine s_iconst C (-1 : Int32) dX6_clashAt_22 (by decide) ?_
    refine Sim.keep [] rfl ?_
    exact hj23 _ _
  · refine s_aload_n C dX6_clashAt_14 0 rfl rfl ?_
    refine s_iload_n C dX6_clashAt_15 1 rfl rfl ?_
    refine sm_callI C 1 [] (ct_X6_clashOf hL hM M2 x1) (lw_V q3406 q3408 qs89 q147 q3409) nd_X6_clashOf rfl (le_fr hf rfl) (le_fr hlo rfl) rfl (Nat.le_of_ble_eq_true rfl) dX6_clashAt_16 fun r6 M5 => ?_
    refine s_goto C 23 dX6_clashAt_19 (by decide) ?_
    refine Sim.keep [] rfl ?_
    exact hj23 _ _
