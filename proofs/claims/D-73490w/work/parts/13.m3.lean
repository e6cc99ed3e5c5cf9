/-! THE MODEL's METHODS (printed by gen.py, genm.py out of the decode rows): functions on its state, contracts -/
set_option maxRecDepth 100000
def g_count_j37 (rec13 : (Int32 × Int32) → Ms → Option (Int32 × Ms)) (x1 : Int32) (x3 : Int32) (y0 : Int32) (y1 : Int32) (M10 : Ms) : Option (Int32 × Ms) :=
  bd ((y0 + y1)) fun a11 =>
  rec13 (a11, (x3 + (1 : Int32))) M10
def g_count_L13 (x1 : Int32) : (Int32 × Int32) → Ms → Option (Int32 × Ms) :=
  lp FU fun rec13 v13 M3 =>
    (aI 0 6 (2 : Int32) M3).bind fun a4 =>
    if a4 ≤ v13.2 then
      swi x1 (some ((-1 : Int32), M3)) [
        ((0 : Int32), (aI 0 6 (1 : Int32) M3).bind fun a5 =>
        some (a5, M3)),
        ((1 : Int32), (aI 0 6 (2 : Int32) M3).bind fun a6 =>
        some (a6, M3)),
        ((2 : Int32), (aI 0 6 (0 : Int32) M3).bind fun a7 =>
        some (a7, M3)),
        ((3 : Int32), some (v13.1, M3)),
        ((4 : Int32), some ((M3.1 2), M3))]
    else
      bn (g_isPoint v13.2 M3) fun r9 M8 =>
      if r9 = 0 then
        g_count_j37 rec13 x1 v13.2 v13.1 (0 : Int32) M8
      else
        g_count_j37 rec13 x1 v13.2 v13.1 (1 : Int32) M8
def g_count (x1 : Int32) (M : Ms) : Option (Int32 × Ms) :=
  bd (mI 0 (0 : Int32) M) fun M1 =>
  bn (g_lays  M1) fun _ M2 =>
  g_count_L13 x1 ((0 : Int32), (0 : Int32)) M2
theorem nd_X6_count : yX6_count.cls = RX6 ∧ yX6_count.cls ≠ "java/lang/invoke/MethodHandle" ∧ yX6_count.cls ≠ "java/lang/invoke/VarHandle" ∧ (parseMethodDescriptor yX6_count.desc).map (fun d => d.parameters.length) = some 1 := ⟨rfl, by decide +kernel, by decide +kernel, by decide +kernel⟩
theorem ct_X6_count {G : Gx} {RL : Lv} {Pl : Nat → Bool} {l : Launch} (hL : LvA G RL Pl) {h0 : Hp} {mo : Nat} (hM : MP Pl mo) (M : Ms) (x1 : Int32) : Ct (plug h0 mo) G RL l yX6_count (ws_ yX6_count cX6_count 4 (some .int)) 7 163 finI [vr mo, .int x1] M (g_count x1 M) := by
  refine Ct.of (Pl := Pl) [(0, vr mo), (1, .int x1)] (by decide) hL rfl (Nat.le_of_ble_eq_true rfl) ?_
  intro E C hn hf hlo e1 e2 e3 e4 e5
  subst e1; subst e2; subst e3; subst e4
  replace C : Cx E cX6_count (some .int) RX6 := C
  unfold g_count
  refine s_aload_n C dX6_count_0 0 rfl rfl ?_
  refine s_iconst C (0 : Int32) dX6_count_1 (by decide) ?_
  refine sm_putI 0 0 C hM fo_X6_1_6 rfl ⟨by decide, by decide, rfl⟩ rfl rfl dX6_count_2 ?_
  refine s_bdh fun M1 => ?_
  refine s_aload_n C dX6_count_5 0 rfl rfl ?_
  refine sm_callV C 0 [] (ct_X6_lays hL hM M1 ) (lw_V q3201 q3203 qs59 q147 q3204) nd_X6_lays rfl (le_fr hf rfl) (le_fr hlo rfl) rfl (Nat.le_of_ble_eq_true rfl) dX6_count_6 fun _ M2 => ?_
  refine s_iconst C (0 : Int32) dX6_count_9 (by decide) ?_
  refine s_istore_n (la' := [(2, .int (0 : Int32)), (0, vr mo), (1, .int x1)]) C 2 dX6_count_10 rfl (lt_nl e5 rfl) rfl ?_
  refine s_iconst C (0 : Int32) dX6_count_11 (by decide) ?_
  have hL13 : ∀ (x1 : Int32) (v13 : (Int32 × Int32)) (M3 : Ms), Sim (plug h0 mo) E (QM (plug h0 mo) E finI) M3 13 [(0, vr mo), (1, .int x1), (2, .int v13.1), (3, .int v13.2)] [] (g_count_L13 x1 v13 M3) := by
    intro x1 v13 M3
    refine Sim.loop (fun v13 => [(0, vr mo), (1, .int x1), (2, .int v13.1), (3, .int v13.2)]) (fun _ => []) (fun rec13 hr13 v13 M3 => ?_) FU v13 M3
    refine s_iload_n C dX6_count_13 3 rfl rfl ?_
    refine s_aload_n C dX6_count_14 0 rfl rfl ?_
    refine sm_getA 6 C hM fo_X6_33_6 rfl (by decide) dX6_count_15 ?_
    refine s_iconst C (2 : Int32) dX6_count_18 (by decide) ?_
    refine sm_iald C hM dX6_count_19 fun a4 => ?_
    refine s_icmp_ge C 45 dX6_count_20 (by decide) ?_ ?_
    · refine s_iload_n C dX6_count_45 1 rfl rfl ?_
      refine s_tsw C 108 dX6_count_46 [(0 : Int32), (1 : Int32), (2 : Int32), (3 : Int32), (4 : Int32)] rfl (by decide +kernel) (by decide) (by decide) ⟨⟨80, by decide, ?_⟩, ⟨⟨87, by decide, ?_⟩, ⟨⟨94, by decide, ?_⟩, ⟨⟨101, by decide, ?_⟩, ⟨⟨103, by decide, ?_⟩, trivial⟩⟩⟩⟩⟩ ?_
      · refine s_aload_n C dX6_count_80 0 rfl rfl ?_
        refine sm_getA 6 C hM fo_X6_33_6 rfl (by decide) dX6_count_81 ?_
        refine s_iconst C (1 : Int32) dX6_count_84 (by decide) ?_
        refine sm_iald C hM dX6_count_85 fun a5 => ?_
        exact s_iret C rfl dX6_count_86
      · refine s_aload_n C dX6_count_87 0 rfl rfl ?_
        refine sm_getA 6 C hM fo_X6_33_6 rfl (by decide) dX6_count_88 ?_
        refine s_iconst C (2 : Int32) dX6_count_91 (by decide) ?_
        refine sm_iald C hM dX6_count_92 fun a6 => ?_
        exact s_iret C rfl dX6_count_93
      · refine s_aload_n C dX6_count_94 0 rfl rfl ?_
        refine sm_getA 6 C hM fo_X6_33_6 rfl (by decide) dX6_count_95 ?_
        refine s_iconst C (0 : Int32) dX6_count_98 (by decide) ?_
        refine sm_iald C hM dX6_count_99 fun a7 => ?_
        exact s_iret C rfl dX6_count_100
      · refine s_iload_n C dX6_count_101 2 rfl rfl ?_
        exact s_iret C rfl dX6_count_102
      · refine s_aload_n C dX6_count_103 0 rfl rfl ?_
        refine sm_getI 2 C hM fo_X6_7_6 rfl dX6_count_104 ?_
        exact s_iret C rfl dX6_count_107
      · refine s_iconst C (-1 : Int32) dX6_count_108 (by decide) ?_
        exact s_iret C rfl dX6_count_109
    · refine s_iload_n C dX6_count_23 2 rfl rfl ?_
      refine s_aload_n C dX6_count_24 0 rfl rfl ?_
      refine s_iload_n C dX6_count_25 3 rfl rfl ?_
      refine sm_callI C 1 [.int v13.1] (ct_X6_isPoint hL hM M3 v13.2) (lw_V q3260 q3262 qs73 q147 q3263) nd_X6_isPoint rfl (le_fr hf rfl) (le_fr hlo rfl) rfl (Nat.le_of_ble_eq_true rfl) dX6_count_26 fun r9 M8 => ?_
      have hj37 : ∀ (x3 : Int32) (y0 : Int32) (y1 : Int32) (M10 : Ms), Sim (plug h0 mo) E (QM (plug h0 mo) E finI) M10 37 [(0, vr mo), (1, .int x1), (3, .int x3)] [.int y1, .int y0] (g_count_j37 rec13 x1 x3 y0 y1 M10) := by
        intro x3 y0 y1 M10
        refine s_iadd C dX6_count_37 ?_
        refine s_bdi fun a11 => ?_
        refine s_istore_n (la' := [(2, .int a11), (0, vr mo), (1, .int x1), (3, .int x3)]) C 2 dX6_count_38 rfl (lt_nl e5 rfl) rfl ?_
        refine s_iinc (la' := [(3, .int (x3 + (1 : Int32))), (2, .int a11), (0, vr mo), (1, .int x1)]) C 3 dX6_count_39 rfl rfl (lt_nl e5 rfl) rfl ?_
        refine s_goto C 13 dX6_count_42 (by decide) ?_
        refine Sim.keep [2, 3, 1, 0] rfl ?_
        exact hr13 _ _
      refine s_if_eq C 36 dX6_count_29 (by decide) ?_ ?_
      · refine s_iconst C (0 : Int32) dX6_count_36 (by decide) ?_
        refine Sim.keep [0, 1, 3] rfl ?_
        exact hj37 _ _ _ _
      · refine s_iconst C (1 : Int32) dX6_count_32 (by decide) ?_
        refine s_goto C 37 dX6_count_33 (by decide) ?_
        refine Sim.keep [0, 1, 3] rfl ?_
        exact hj37 _ _ _ _
  refine s_istore_n (la' := [(3, .int (0 : Int32)), (2, .int (0 : Int32)), (0, vr mo), (1, .int x1)]) C 3 dX6_count_12 rfl (lt_nl e5 rfl) rfl ?_
  refine Sim.keep [2, 3, 1, 0] rfl ?_
  exact hL13 _ _ _

def g_draw (x1 : Int32) (M : Ms) : Option (Int32 × Ms) :=
  bd (mI 44 (((M.1 44) * (1103515245 : Int32)) + (12345 : Int32)) M) fun M1 =>
  if x1 = 0 then none else
  some ((((M1.1 44).toUInt32 >>> (8 : UInt32)).toInt32 - ((M1.1 44).toUInt32 >>> (8 : UInt32)).toInt32 / x1 * x1), M1)
theorem nd_X6_draw : yX6_draw.cls = RX6 ∧ yX6_draw.cls ≠ "java/lang/invoke/MethodHandle" ∧ yX6_draw.cls ≠ "java/lang/invoke/VarHandle" ∧ (parseMethodDescriptor yX6_draw.desc).map (fun d => d.parameters.length) = some 1 := ⟨rfl, by decide +kernel, by decide +kernel, by decide +kernel⟩
theorem ct_X6_draw {G : Gx} {RL : Lv} {Pl : Nat → Bool} {l : Launch} (hL : LvA G RL Pl) {h0 : Hp} {mo : Nat} (hM : MP Pl mo) (M : Ms) (x1 : Int32) : Ct (plug h0 mo) G RL l yX6_draw (ws_ yX6_draw cX6_draw 2 (some .int)) 0 0 finI [vr mo, .int x1] M (g_draw x1 M) := by
  refine Ct.of (Pl := Pl) [(0, vr mo), (1, .int x1)] (by decide) hL rfl (Nat.le_of_ble_eq_true rfl) ?_
  intro E C hn hf hlo e1 e2 e3 e4 e5
  subst e1; subst e2; subst e3; subst e4
  replace C : Cx E cX6_draw (some .int) RX6 := C
  unfold g_draw
  refine s_aload_n C dX6_draw_0 0 rfl rfl ?_
  refine s_aload_n C dX6_draw_1 0 rfl rfl ?_
  refine sm_getI 44 C hM fo_X6_412_6 rfl dX6_draw_2 ?_
  refine s_ldcwi C q3460 dX6_draw_5 ?_
  refine s_imul C dX6_draw_8 ?_
  refine s_sipush C (12345 : Int32) dX6_draw_9 (by decide) ?_
  refine s_iadd C dX6_draw_12 ?_
  refine sm_putI 44 0 C hM fo_X6_412_6 rfl ⟨by decide, by decide, rfl⟩ rfl rfl dX6_draw_13 ?_
  refine s_bdh fun M1 => ?_
  refine s_aload_n C dX6_draw_16 0 rfl rfl ?_
  refine sm_getI 44 C hM fo_X6_412_6 rfl dX6_draw_17 ?_
  refine s_bipush C (8 : Int32) dX6_draw_20 (by decide) ?_
  refine s_iushr C (8 : UInt32) dX6_draw_22 (by decide) ?_
  refine s_iload_n C dX6_draw_23 1 rfl rfl ?_
  refine s_irem C dX6_draw_24 ?_
  exact s_iret C rfl dX6_draw_25

def g_drawDeed  (M : Ms) : Option (Int32 × Ms) :=
  bn (g_draw (8 : Int32) M) fun r2 M1 =>
  (aI 0 6 (2 : Int32) M1).bind fun a3 =>
  bn (g_draw a3 M1) fun r5 M4 =>
  if r2 = 0 then
    (aI 0 6 (2 : Int32) M4).bind fun a18 =>
    if a18 = (20 : Int32) then
      if nrw 2 (0 : Int32) = (0 : Int32) then some ((0 : Int32), M4) else none
    else
      bn (g_doesGrow r5 M4) fun _ M19 =>
      if nrw 2 (1 : Int32) = (1 : Int32) then some ((1 : Int32), M19) else none
  else
    (aI 0 6 (1 : Int32) M4).bind fun a6 =>
    if a6 = 0 then
      if nrw 2 (0 : Int32) = (0 : Int32) then some ((0 : Int32), M4) else none
    else
      (aI 0 6 (1 : Int32) M4).bind fun a7 =>
      bn (g_draw a7 M4) fun r9 M8 =>
      if (3 : Int32) ≤ r2 then
        (aI 0 6 (2 : Int32) M8).bind fun a10 =>
        bn (g_draw a10 M8) fun r12 M11 =>
        bn (g_whyVote r9 r5 r12 M11) fun r14 M13 =>
        if r14 ≤ 0 then
          bn (g_doesVote r9 r5 r12 M13) fun _ M15 =>
          if nrw 2 (1 : Int32) = (1 : Int32) then some ((1 : Int32), M15) else none
        else
          if nrw 2 (0 : Int32) = (0 : Int32) then some ((0 : Int32), M13) else none
      else
        (aI 0 6 ((216 : Int32) + r9) M8).bind fun a16 =>
        if a16 = r5 then
          if nrw 2 (0 : Int32) = (0 : Int32) then some ((0 : Int32), M8) else none
        else
          bn (g_doesLook r9 r5 M8) fun _ M17 =>
          if nrw 2 (1 : Int32) = (1 : Int32) then some ((1 : Int32), M17) else none
theorem nd_X6_drawDeed : yX6_drawDeed.cls = RX6 ∧ yX6_drawDeed.cls ≠ "java/lang/invoke/MethodHandle" ∧ yX6_drawDeed.cls ≠ "java/lang/invoke/VarHandle" ∧ (parseMethodDescriptor yX6_drawDeed.desc).map (fun d => d.parameters.length) = some 0 := ⟨rfl, by decide +kernel, by decide +kernel, by decide +kernel⟩
theorem ct_X6_drawDeed {G : Gx} {RL : Lv} {Pl : Nat → Bool} {l : Launch} (hL : LvA G RL Pl) {h0 : Hp} {mo : Nat} (hM : MP Pl mo) (M : Ms)  : Ct (plug h0 mo) G RL l yX6_drawDeed (ws_ yX6_drawDeed cX6_drawDeed 5 (some .boolean)) 8 186 finI [vr mo] M (g_drawDeed M) := by
  refine Ct.of (Pl := Pl) [(0, vr mo)] (by decide) hL rfl (Nat.le_of_ble_eq_true rfl) ?_
  intro E C hn hf hlo e1 e2 e3 e4 e5
  subst e1; subst e2; subst e3; subst e4
  replace C : Cx E cX6_drawDeed (some .boolean) RX6 := C
  unfold g_drawDeed
  refine s_aload_n C dX6_drawDeed_0 0 rfl rfl ?_
  refine s_bipush C (8 : Int32) dX6_drawDeed_1 (by decide) ?_
  refine sm_callI C 1 [] (ct_X6_draw hL hM M (8 : Int32)) (lw_V q3456 q3458 qs94 q147 q3459) nd_X6_draw rfl (le_fr hf rfl) (le_fr hlo rfl) rfl (Nat.le_of_ble_eq_true rfl) dX6_drawDeed_3 fun r2 M1 => ?_
  refine s_istore_n (la' := [(1, .int r2), (0, vr mo)]) C 1 dX6_drawDeed_6 rfl (lt_nl e5 rfl) rfl ?_
  refine s_aload_n C dX6_drawDeed_7 1 rfl rfl ?_
  refine s_aload_n C dX6_drawDeed_8 1 rfl rfl ?_
  refine sm_getA 6 C hM fo_X6_33_6 rfl (by decide) dX6_drawDeed_9 ?_
  refine s_iconst C (2 : Int32) dX6_drawDeed_12 (by decide) ?_
  refine sm_iald C hM dX6_drawDeed_13 fun a3 => ?_
  refine sm_callI C 1 [] (ct_X6_draw hL hM M1 a3) (lw_V q3456 q3458 qs94 q147 q3459) nd_X6_draw rfl (le_fr hf rfl) (le_fr hlo rfl) rfl (Nat.le_of_ble_eq_true rfl) dX6_drawDeed_14 fun r5 M4 => ?_
  refine s_istore_n (la' := [(2, .int r5), (1, .int r2), (0, vr mo)]) C 2 dX6_drawDeed_17 rfl (lt_nl e5 rfl) rfl ?_
  refine s_iload_n C dX6_drawDeed_18 1 rfl rfl ?_
  refine s_if_ne C 42 dX6_drawDeed_19 (by decide) ?_ ?_
  · refine s_aload_n C dX6_drawDeed_42 2 rfl rfl ?_
    refine sm_getA 6 C hM fo_X6_33_6 rfl (by decide) dX6_drawDeed_43 ?_
    refine s_iconst C (1 : Int32) dX6_drawDeed_46 (by decide) ?_
    refine sm_iald C hM dX6_drawDeed_47 fun a6 => ?_
    refine s_if_ne C 53 dX6_drawDeed_48 (by decide) ?_ ?_
    · refine s_aload_n C dX6_drawDeed_53 2 rfl rfl ?_
      refine s_aload_n C dX6_drawDeed_54 2 rfl rfl ?_
      refine sm_getA 6 C hM fo_X6_33_6 rfl (by decide) dX6_drawDeed_55 ?_
      refine s_iconst C (1 : Int32) dX6_drawDeed_58 (by decide) ?_
      refine sm_iald C hM dX6_drawDeed_59 fun a7 => ?_
      refine sm_callI C 1 [] (ct_X6_draw hL hM M4 a7) (lw_V q3456 q3458 qs94 q147 q3459) nd_X6_draw rfl (le_fr hf rfl) (le_fr hlo rfl) rfl (Nat.le_of_ble_eq_true rfl) dX6_drawDeed_60 fun r9 M8 => ?_
      refine s_istore_n (la' := [(3, .int r9), (2, .int r5), (1, .int r2), (0, vr mo)]) C 3 dX6_drawDeed_63 rfl (lt_nl e5 rfl) rfl ?_
      refine s_iload_n C dX6_drawDeed_64 2 rfl rfl ?_
      refine s_iconst C (3 : Int32) dX6_drawDeed_65 (by decide) ?_
      refine s_icmp_ge C 93 dX6_drawDeed_66 (by decide) ?_ ?_
      · refine s_aload_n C dX6_drawDeed_93 3 rfl rfl ?_
        refine s_aload_n C dX6_drawDeed_94 3 rfl rfl ?_
        refine sm_getA 6 C hM fo_X6_33_6 rfl (by decide) dX6_drawDeed_95 ?_
        refine s_iconst C (2 : Int32) dX6_drawDeed_98 (by decide) ?_
        refine sm_iald C hM dX6_drawDeed_99 fun a10 => ?_
        refine sm_callI C 1 [] (ct_X6_draw hL hM M8 a10) (lw_V q3456 q3458 qs94 q147 q3459) nd_X6_draw rfl (le_fr hf rfl) (le_fr hlo rfl) rfl (Nat.le_of_ble_eq_true rfl) dX6_drawDeed_100 fun r12 M11 => ?_
        refine s_istore (la' := [(4, .int r12), (3, .int r9), (2, .int r5), (1, .int r2), (0, vr mo)]) C dX6_drawDeed_103 (lt_nl e5 rfl) rfl ?_
        refine s_aload_n C dX6_drawDeed_105 4 rfl rfl ?_
        refine s_iload_n C dX6_drawDeed_106 1 rfl rfl ?_
        refine s_iload_n C dX6_drawDeed_107 2 rfl rfl ?_
        refine s_iload C dX6_drawDeed_108 0 rfl ?_
        refine sm_callI C 3 [] (ct_X6_whyVote hL hM M11 r9 r5 r12) (lw_V q3315 q3317 qs79 q147 q3318) nd_X6_whyVote rfl (le_fr hf rfl) (le_fr hlo rfl) rfl (Nat.le_of_ble_eq_true rfl) dX6_drawDeed_110 fun r14 M13 => ?_
        refine s_if_le C 118 dX6_drawDeed_113 (by decide) ?_ ?_
        · refine s_aload_n C dX6_drawDeed_118 4 rfl rfl ?_
          refine s_iload_n C dX6_drawDeed_119 1 rfl rfl ?_
          refine s_iload_n C dX6_drawDeed_120 2 rfl rfl ?_
          refine s_iload C dX6_drawDeed_121 0 rfl ?_
          refine sm_callV C 3 [] (ct_X6_doesVote hL hM M13 r9 r5 r12) (lw_V q3331 q3333 qs83 q147 q3334) nd_X6_doesVote rfl (le_fr hf rfl) (le_fr hlo rfl) rfl (Nat.le_of_ble_eq_true rfl) dX6_drawDeed_123 fun _ M15 => ?_
          refine s_iconst C (1 : Int32) dX6_drawDeed_126 (by decide) ?_
          exact s_zret 2 C (by decide) (by decide) rfl dX6_drawDeed_127
        · refine s_iconst C (0 : Int32) dX6_drawDeed_116 (by decide) ?_
          exact s_zret 2 C (by decide) (by decide) rfl dX6_drawDeed_117
      · refine s_aload_n C dX6_drawDeed_69 3 rfl rfl ?_
        refine sm_getA 6 C hM fo_X6_33_6 rfl (by decide) dX6_drawDeed_70 ?_
        refine s_sipush C (216 : Int32) dX6_drawDeed_73 (by decide) ?_
        refine s_iload_n C dX6_drawDeed_76 0 rfl rfl ?_
        refine s_iadd C dX6_drawDeed_77 ?_
        refine sm_iald C hM dX6_drawDeed_78 fun a16 => ?_
        refine s_iload_n C dX6_drawDeed_79 1 rfl rfl ?_
        refine s_icmp_ne C 85 dX6_drawDeed_80 (by decide) ?_ ?_
        · refine s_aload_n C dX6_drawDeed_85 3 rfl rfl ?_
          refine s_iload_n C dX6_drawDeed_86 0 rfl rfl ?_
          refine s_iload_n C dX6_drawDeed_87 1 rfl rfl ?_
          refine sm_callV C 2 [] (ct_X6_doesLook hL hM M8 r9 r5) (lw_V q3339 q3341 qs84 q147 q3342) nd_X6_doesLook rfl (le_fr hf rfl) (le_fr hlo rfl) rfl (Nat.le_of_ble_eq_true rfl) dX6_drawDeed_88 fun _ M17 => ?_
          refine s_iconst C (1 : Int32) dX6_drawDeed_91 (by decide) ?_
          exact s_zret 2 C (by decide) (by decide) rfl dX6_drawDeed_92
        · refine s_iconst C (0 : Int32) dX6_drawDeed_83 (by decide) ?_
          exact s_zret 2 C (by decide) (by decide) rfl dX6_drawDeed_84
    · refine s_iconst C (0 : Int32) dX6_drawDeed_51 (by decide) ?_
      exact s_zret 2 C (by decide) (by decide) rfl dX6_drawDeed_52
  · refine s_aload_n C dX6_drawDeed_22 2 rfl rfl ?_
    refine sm_getA 6 C hM fo_X6_33_6 rfl (by decide) dX6_drawDeed_23 ?_
    refine s_iconst C (2 : Int32) dX6_drawDeed_26 (by decide) ?_
    refine sm_iald C hM dX6_drawDeed_27 fun a18 => ?_
    refine s_bipush C (20 : Int32) dX6_drawDeed_28 (by decide) ?_
    refine s_icmp_ne C 35 dX6_drawDeed_30 (by decide) ?_ ?_
    · refine s_aload_n C dX6_drawDeed_35 2 rfl rfl ?_
      refine s_iload_n C dX6_drawDeed_36 0 rfl rfl ?_
      refine sm_callV C 1 [] (ct_X6_doesGrow hL hM M4 r5) (lw_V q3347 q3349 qs85 q147 q3350) nd_X6_doesGrow rfl (le_fr hf rfl) (le_fr hlo rfl) rfl (Nat.le_of_ble_eq_true rfl) dX6_drawDeed_37 fun _ M19 => ?_
      refine s_iconst C (1 : Int32) dX6_drawDeed_40 (by decide) ?_
      exact s_zret 2 C (by decide) (by decide) rfl dX6_drawDeed_41
    · refine s_iconst C (0 : Int32) dX6_drawDeed_33 (by decide) ?_
      exact s_zret 2 C (by decide) (by decide) rfl dX6_drawDeed_34

def g_drawn_j85 (x3 : Int32) (M8 : Ms) : Option (Int32 × Ms) :=
  some (x3, M8)
def g_drawn_j65 (rec46 : (Int32 × Int32) → Ms → Option (Int32 × Ms)) (x1 : Int32) (x4 : Int32) (y0 : Int32) (y1 : Int32) (M12 : Ms) : Option (Int32 × Ms) :=
  bd ((y0 + y1)) fun a13 =>
  rec46 (a13, (x4 + (1 : Int32))) M12
def g_drawn_L46 (x1 : Int32) : (Int32 × Int32) → Ms → Option (Int32 × Ms) :=
  lp FU fun rec46 v46 M7 =>
    if x1 ≤ v46.2 then
      if v46.1 ≤ 0 then
        g_drawn_j85 v46.1 M7
      else
        bn (g_stores 36 M7) fun _ M9 =>
        g_drawn_j85 v46.1 M9
    else
      bn (g_drawDeed  M7) fun r11 M10 =>
      if r11 = 0 then
        g_drawn_j65 rec46 x1 v46.2 v46.1 (0 : Int32) M10
      else
        g_drawn_j65 rec46 x1 v46.2 v46.1 (1 : Int32) M10
def g_drawn (x1 : Int32) (x2 : Int32) (M : Ms) : Option (Int32 × Ms) :=
  bd (mI 0 (0 : Int32) M) fun M1 =>
  bn (g_isIn x1 (1 : Int32) (60 : Int32) M1) fun r3 M2 =>
  if r3 = 0 then
    some ((-1 : Int32), M2)
  else
    (aI 0 6 (2 : Int32) M2).bind fun a4 =>
    if a4 = 0 then
      some ((0 : Int32), M2)
    else
      bn (g_copies 36 M2) fun _ M5 =>
      bd (mI 44 x2 M5) fun M6 =>
      g_drawn_L46 x1 ((0 : Int32), (0 : Int32)) M6
theorem nd_X6_drawn : yX6_drawn.cls = RX6 ∧ yX6_drawn.cls ≠ "java/lang/invoke/MethodHandle" ∧ yX6_drawn.cls ≠ "java/lang/invoke/VarHandle" ∧ (parseMethodDescriptor yX6_drawn.desc).map (fun d => d.parameters.length) = some 2 := ⟨rfl, by decide +kernel, by decide +kernel, by decide +kernel⟩
theorem ct_X6_drawn {G : Gx} {RL : Lv} {Pl : Nat → Bool} {l : Launch} (hL : LvA G RL Pl) {h0 : Hp} {mo : Nat} (hM : MP Pl mo) (M : Ms) (x1 : Int32) (x2 : Int32) : Ct (plug h0 mo) G RL l yX6_drawn (ws_ yX6_drawn cX6_drawn 5 (some .int)) 9 210 finI [vr mo, .int x1, .int x2] M (g_drawn x1 x2 M) := by
  refine Ct.of (Pl := Pl) [(0, vr mo), (1, .int x1), (2, .int x2)] (by decide) hL rfl (Nat.le_of_ble_eq_true rfl) ?_
  intro E C hn hf hlo e1 e2 e3 e4 e5
  subst e1; subst e2; subst e3; subst e4
  replace C : Cx E cX6_drawn (some .int) RX6 := C
  unfold g_drawn
  refine s_aload_n C dX6_drawn_0 0 rfl rfl ?_
  refine s_iconst C (0 : Int32) dX6_drawn_1 (by decide) ?_
  refine sm_putI 0 0 C hM fo_X6_1_6 rfl ⟨by decide, by decide, rfl⟩ rfl rfl dX6_drawn_2 ?_
  refine s_bdh fun M1 => ?_
  refine s_iload_n C dX6_drawn_5 1 rfl rfl ?_
  refine s_iconst C (1 : Int32) dX6_drawn_6 (by decide) ?_
  refine s_bipush C (60 : Int32) dX6_drawn_7 (by decide) ?_
  refine sm_callSI C 3 [] (ct_X6_isIn hL hM M1 x1 (1 : Int32) (60 : Int32)) (lw_S q3150 q3151 q147 q3152) nd_X6_isIn rfl (le_fr hf rfl) (le_fr hlo rfl) rfl (Nat.le_of_ble_eq_true rfl) dX6_drawn_9 fun r3 M2 => ?_
  refine s_if_ne C 17 dX6_drawn_12 (by decide) ?_ ?_
  · refine s_aload_n C dX6_drawn_17 0 rfl rfl ?_
    refine sm_getA 6 C hM fo_X6_33_6 rfl (by decide) dX6_drawn_18 ?_
    refine s_iconst C (2 : Int32) dX6_drawn_21 (by decide) ?_
    refine sm_iald C hM dX6_drawn_22 fun a4 => ?_
    refine s_if_ne C 28 dX6_drawn_23 (by decide) ?_ ?_
    · refine s_aload_n C dX6_drawn_28 0 rfl rfl ?_
      refine s_aload_n C dX6_drawn_29 0 rfl rfl ?_
      refine sm_getA 36 C hM fo_X6_71_6 rfl (by decide) dX6_drawn_30 ?_
      refine sm_callV C 1 [] (ct_X6_copies hL hM M2 36) (lw_V q3323 q3325 qs81 q147 q3326) nd_X6_copies rfl (le_fr hf rfl) (le_fr hlo rfl) rfl (Nat.le_of_ble_eq_true rfl) dX6_drawn_33 fun _ M5 => ?_
      refine s_aload_n C dX6_drawn_36 0 rfl rfl ?_
      refine s_iload_n C dX6_drawn_37 2 rfl rfl ?_
      refine sm_putI 44 0 C hM fo_X6_412_6 rfl ⟨by decide, by decide, rfl⟩ rfl rfl dX6_drawn_38 ?_
      refine s_bdh fun M6 => ?_
      refine s_iconst C (0 : Int32) dX6_drawn_41 (by decide) ?_
      refine s_istore_n (la' := [(3, .int (0 : Int32)), (0, vr mo), (1, .int x1), (2, .int x2)]) C 3 dX6_drawn_42 rfl (lt_nl e5 rfl) rfl ?_
      refine s_iconst C (0 : Int32) dX6_drawn_43 (by decide) ?_
      have hL46 : ∀ (x1 : Int32) (v46 : (Int32 × Int32)) (M7 : Ms), Sim (plug h0 mo) E (QM (plug h0 mo) E finI) M7 46 [(0, vr mo), (1, .int x1), (3, .int v46.1), (4, .int v46.2)] [] (g_drawn_L46 x1 v46 M7) := by
        intro x1 v46 M7
        refine Sim.loop (fun v46 => [(0, vr mo), (1, .int x1), (3, .int v46.1), (4, .int v46.2)]) (fun _ => []) (fun rec46 hr46 v46 M7 => ?_) FU v46 M7
        refine s_iload C dX6_drawn_46 3 rfl ?_
        refine s_iload_n C dX6_drawn_48 1 rfl rfl ?_
        refine s_icmp_ge C 73 dX6_drawn_49 (by decide) ?_ ?_
        · refine s_iload_n C dX6_drawn_73 2 rfl rfl ?_
          have hj85 : ∀ (x3 : Int32) (M8 : Ms), Sim (plug h0 mo) E (QM (plug h0 mo) E finI) M8 85 [(3, .int x3)] [] (g_drawn_j85 x3 M8) := by
            intro x3 M8
            refine s_iload_n C dX6_drawn_85 0 rfl rfl ?_
            exact s_iret C rfl dX6_drawn_86
          refine s_if_le C 85 dX6_drawn_74 (by decide) ?_ ?_
          · refine Sim.keep [2] rfl ?_
            exact hj85 _ _
          · refine s_aload_n C dX6_drawn_77 0 rfl rfl ?_
            refine s_aload_n C dX6_drawn_78 0 rfl rfl ?_
            refine sm_getA 36 C hM fo_X6_71_6 rfl (by decide) dX6_drawn_79 ?_
            refine sm_callV C 1 [] (ct_X6_stores hL hM M7 36) (lw_V q3327 q3329 qs82 q147 q3330) nd_X6_stores rfl (le_fr hf rfl) (le_fr hlo rfl) rfl (Nat.le_of_ble_eq_true rfl) dX6_drawn_82 fun _ M9 => ?_
            refine Sim.keep [2] rfl ?_
            exact hj85 _ _
        · refine s_iload_n C dX6_drawn_52 2 rfl rfl ?_
          refine s_aload_n C dX6_drawn_53 0 rfl rfl ?_
          refine sm_callI C 0 [.int v46.1] (ct_X6_drawDeed hL hM M7 ) (lw_V q3452 q3454 qs93 q147 q3455) nd_X6_drawDeed rfl (le_fr hf rfl) (le_fr hlo rfl) rfl (Nat.le_of_ble_eq_true rfl) dX6_drawn_54 fun r11 M10 => ?_
          have hj65 : ∀ (x4 : Int32) (y0 : Int32) (y1 : Int32) (M12 : Ms), Sim (plug h0 mo) E (QM (plug h0 mo) E finI) M12 65 [(0, vr mo), (1, .int x1), (4, .int x4)] [.int y1, .int y0] (g_drawn_j65 rec46 x1 x4 y0 y1 M12) := by
            intro x4 y0 y1 M12
            refine s_iadd C dX6_drawn_65 ?_
            refine s_bdi fun a13 => ?_
            refine s_istore_n (la' := [(3, .int a13), (0, vr mo), (1, .int x1), (4, .int x4)]) C 3 dX6_drawn_66 rfl (lt_nl e5 rfl) rfl ?_
            refine s_iinc (la' := [(4, .int (x4 + (1 : Int32))), (3, .int a13), (0, vr mo), (1, .int x1)]) C 3 dX6_drawn_67 rfl rfl (lt_nl e5 rfl) rfl ?_
            refine s_goto C 46 dX6_drawn_70 (by decide) ?_
            refine Sim.keep [2, 3, 1, 0] rfl ?_
            exact hr46 _ _
          refine s_if_eq C 64 dX6_drawn_57 (by decide) ?_ ?_
          · refine s_iconst C (0 : Int32) dX6_drawn_64 (by decide) ?_
            refine Sim.keep [0, 1, 3] rfl ?_
            exact hj65 _ _ _ _
          · refine s_iconst C (1 : Int32) dX6_drawn_60 (by decide) ?_
            refine s_goto C 65 dX6_drawn_61 (by decide) ?_
            refine Sim.keep [0, 1, 3] rfl ?_
            exact hj65 _ _ _ _
      refine s_istore (la' := [(4, .int (0 : Int32)), (3, .int (0 : Int32)), (0, vr mo), (1, .int x1), (2, .int x2)]) C dX6_drawn_44 (lt_nl e5 rfl) rfl ?_
      refine Sim.keep [2, 3, 1, 0] rfl ?_
      exact hL46 _ _ _
    · refine s_iconst C (0 : Int32) dX6_drawn_26 (by decide) ?_
      exact s_iret C rfl dX6_drawn_27
  · refine s_iconst C (-1 : Int32) dX6_drawn_15 (by decide) ?_
    exact s_iret C rfl dX6_drawn_16

def g_end_j17  (M2 : Ms) : Option (Int32 × Ms) :=
  if nrw 2 (0 : Int32) = (0 : Int32) then some ((0 : Int32), M2) else none
def g_end (x1 : Int32) (M : Ms) : Option (Int32 × Ms) :=
  bd (mI 0 (0 : Int32) M) fun M1 =>
  if x1 < 0 then
    g_end_j17 M1
  else
    if x1 ≤ (M1.1 2) then
      bd (mI 2 x1 M1) fun M3 =>
      if nrw 2 (1 : Int32) = (1 : Int32) then some ((1 : Int32), M3) else none
    else
      g_end_j17 M1
theorem nd_X6_end : yX6_end.cls = RX6 ∧ yX6_end.cls ≠ "java/lang/invoke/MethodHandle" ∧ yX6_end.cls ≠ "java/lang/invoke/VarHandle" ∧ (parseMethodDescriptor yX6_end.desc).map (fun d => d.parameters.length) = some 1 := ⟨rfl, by decide +kernel, by decide +kernel, by decide +kernel⟩
theorem ct_X6_end {G : Gx} {RL : Lv} {Pl : Nat → Bool} {l : Launch} (hL : LvA G RL Pl) {h0 : Hp} {mo : Nat} (hM : MP Pl mo) (M : Ms) (x1 : Int32) : Ct (plug h0 mo) G RL l yX6_end (ws_ yX6_end cX6_end 2 (some .boolean)) 0 0 finI [vr mo, .int x1] M (g_end x1 M) := by
  refine Ct.of (Pl := Pl) [(0, vr mo), (1, .int x1)] (by decide) hL rfl (Nat.le_of_ble_eq_true rfl) ?_
  intro E C hn hf hlo e1 e2 e3 e4 e5
  subst e1; subst e2; subst e3; subst e4
  replace C : Cx E cX6_end (some .boolean) RX6 := C
  unfold g_end
  refine s_aload_n C dX6_end_0 0 rfl rfl ?_
  refine s_iconst C (0 : Int32) dX6_end_1 (by decide) ?_
  refine sm_putI 0 0 C hM fo_X6_1_6 rfl ⟨by decide, by decide, rfl⟩ rfl rfl dX6_end_2 ?_
  refine s_bdh fun M1 => ?_
  refine s_iload_n C dX6_end_5 1 rfl rfl ?_
  have hj17 : ∀  (M2 : Ms), Sim (plug h0 mo) E (QM (plug h0 mo) E finI) M2 17 [] [] (g_end_j17 M2) := by
    intro M2
    refine s_iconst C (0 : Int32) dX6_end_17 (by decide) ?_
    exact s_zret 2 C (by decide) (by decide) rfl dX6_end_18
  refine s_if_lt C 17 dX6_end_6 (by decide) ?_ ?_
  · refine Sim.keep [] rfl ?_
    exact hj17 _
  · refine s_iload_n C dX6_end_9 1 rfl rfl ?_
    refine s_aload_n C dX6_end_10 0 rfl rfl ?_
    refine sm_getI 2 C hM fo_X6_7_6 rfl dX6_end_11 ?_
    refine s_icmp_le C 19 dX6_end_14 (by decide) ?_ ?_
    · refine s_aload_n C dX6_end_19 0 rfl rfl ?_
      refine s_iload_n C dX6_end_20 1 rfl rfl ?_
      refine sm_putI 2 0 C hM fo_X6_7_6 rfl ⟨by decide, by decide, rfl⟩ rfl rfl dX6_end_21 ?_
      refine s_bdh fun M3 => ?_
      refine s_iconst C (1 : Int32) dX6_end_24 (by decide) ?_
      exact s_zret 2 C (by decide) (by decide) rfl dX6_end_25
    · refine Sim.keep [] rfl ?_
      exact hj17 _

def g_evidence_j32  (M5 : Ms) : Option (Int32 × Ms) :=
  some ((-1 : Int32), M5)
def g_evidence_j115 (rec56 : (Int32 × Int32) → Ms → Option (Int32 × Ms)) (x1 : Int32) (x2 : Int32) (x3 : Int32) (x4 : Int32) (x5 : Int32) (M14 : Ms) : Option (Int32 × Ms) :=
  rec56 (x3, (x5 + (1 : Int32))) M14
def g_evidence_j111 (y0 : Int32) (M15 : Ms) : Option (Int32 × Ms) :=
  some (y0, M15)
def g_evidence_L56 (rec39 : (Int32 × Int32) → Ms → Option (Int32 × Ms)) (x1 : Int32) (x2 : Int32) (x4 : Int32) : (Int32 × Int32) → Ms → Option (Int32 × Ms) :=
  lp FU fun rec56 v56 M10 =>
    (aI 0 6 (3 : Int32) M10).bind fun a11 =>
    if a11 ≤ v56.2 then
      rec39 (v56.1, (x4 + (1 : Int32))) M10
    else
      bn (g_offence x4 v56.2 M10) fun r13 M12 =>
      if r13 = 0 then
        g_evidence_j115 rec56 x1 x2 v56.1 x4 v56.2 M12
      else
        if v56.1 = x1 then
          if x2 = 0 then
            g_evidence_j111 x4 M12
          else
            if x2 = (1 : Int32) then
              g_evidence_j111 v56.2 M12
            else
              g_evidence_j111 r13 M12
        else
          g_evidence_j115 rec56 x1 x2 (v56.1 + (1 : Int32)) x4 v56.2 M12
def g_evidence_L39 (x1 : Int32) (x2 : Int32) : (Int32 × Int32) → Ms → Option (Int32 × Ms) :=
  lp FU fun rec39 v39 M8 =>
    (aI 0 6 (3 : Int32) M8).bind fun a9 =>
    if a9 ≤ v39.2 then
      some ((-1 : Int32), M8)
    else
      bd ((v39.2 + (1 : Int32))) fun a16 =>
      g_evidence_L56 rec39 x1 x2 v39.2 (v39.1, a16) M8
def g_evidence (x1 : Int32) (x2 : Int32) (M : Ms) : Option (Int32 × Ms) :=
  bd (mI 0 (0 : Int32) M) fun M1 =>
  bn (g_lays  M1) fun _ M2 =>
  bn (g_isIn x1 (0 : Int32) ((M2.1 33) - (1 : Int32)) M2) fun r4 M3 =>
  if r4 = 0 then
    g_evidence_j32 M3
  else
    bn (g_isIn x2 (0 : Int32) (2 : Int32) M3) fun r7 M6 =>
    if r7 = 0 then
      g_evidence_j32 M6
    else
      g_evidence_L39 x1 x2 ((0 : Int32), (0 : Int32)) M6
theorem nd_X6_evidence : yX6_evidence.cls = RX6 ∧ yX6_evidence.cls ≠ "java/lang/invoke/MethodHandle" ∧ yX6_evidence.cls ≠ "java/lang/invoke/VarHandle" ∧ (parseMethodDescriptor yX6_evidence.desc).map (fun d => d.parameters.length) = some 2 := ⟨rfl, by decide +kernel, by decide +kernel, by decide +kernel⟩
theorem ct_X6_evidence {G : Gx} {RL : Lv} {Pl : Nat → Bool} {l : Launch} (hL : LvA G RL Pl) {h0 : Hp} {mo : Nat} (hM : MP Pl mo) (M : Ms) (x1 : Int32) (x2 : Int32) : Ct (plug h0 mo) G RL l yX6_evidence (ws_ yX6_evidence cX6_evidence 7 (some .int)) 7 163 finI [vr mo, .int x1, .int x2] M (g_evidence x1 x2 M) := by
  refine Ct.of (Pl := Pl) [(0, vr mo), (1, .int x1), (2, .int x2)] (by decide) hL rfl (Nat.le_of_ble_eq_true rfl) ?_
  intro E C hn hf hlo e1 e2 e3 e4 e5
  subst e1; subst e2; subst e3; subst e4
  replace C : Cx E cX6_evidence (some .int) RX6 := C
  unfold g_evidence
  refine s_aload_n C dX6_evidence_0 0 rfl rfl ?_
  refine s_iconst C (0 : Int32) dX6_evidence_1 (by decide) ?_
  refine sm_putI 0 0 C hM fo_X6_1_6 rfl ⟨by decide, by decide, rfl⟩ rfl rfl dX6_evidence_2 ?_
  refine s_bdh fun M1 => ?_
  refine s_aload_n C dX6_evidence_5 0 rfl rfl ?_
  refine sm_callV C 0 [] (ct_X6_lays hL hM M1 ) (lw_V q3201 q3203 qs59 q147 q3204) nd_X6_lays rfl (le_fr hf rfl) (le_fr hlo rfl) rfl (Nat.le_of_ble_eq_true rfl) dX6_evidence_6 fun _ M2 => ?_
  refine s_iload_n C dX6_evidence_9 1 rfl rfl ?_
  refine s_iconst C (0 : Int32) dX6_evidence_10 (by decide) ?_
  refine s_aload_n C dX6_evidence_11 0 rfl rfl ?_
  refine sm_getI 33 C hM fo_X6_273_6 rfl dX6_evidence_12 ?_
  refine s_iconst C (1 : Int32) dX6_evidence_15 (by decide) ?_
  refine s_isub C dX6_evidence_16 ?_
  refine sm_callSI C 3 [] (ct_X6_isIn hL hM M2 x1 (0 : Int32) ((M2.1 33) - (1 : Int32))) (lw_S q3150 q3151 q147 q3152) nd_X6_isIn rfl (le_fr hf rfl) (le_fr hlo rfl) rfl (Nat.le_of_ble_eq_true rfl) dX6_evidence_17 fun r4 M3 => ?_
  have hj32 : ∀  (M5 : Ms), Sim (plug h0 mo) E (QM (plug h0 mo) E finI) M5 32 [] [] (g_evidence_j32 M5) := by
    intro M5
    refine s_iconst C (-1 : Int32) dX6_evidence_32 (by decide) ?_
    exact s_iret C rfl dX6_evidence_33
  refine s_if_eq C 32 dX6_evidence_20 (by decide) ?_ ?_
  · refine Sim.keep [] rfl ?_
    exact hj32 _
  · refine s_iload_n C dX6_evidence_23 2 rfl rfl ?_
    refine s_iconst C (0 : Int32) dX6_evidence_24 (by decide) ?_
    refine s_iconst C (2 : Int32) dX6_evidence_25 (by decide) ?_
    refine sm_callSI C 3 [] (ct_X6_isIn hL hM M3 x2 (0 : Int32) (2 : Int32)) (lw_S q3150 q3151 q147 q3152) nd_X6_isIn rfl (le_fr hf rfl) (le_fr hlo rfl) rfl (Nat.le_of_ble_eq_true rfl) dX6_evidence_26 fun r7 M6 => ?_
    refine s_if_ne C 34 dX6_evidence_29 (by decide) ?_ ?_
    · refine s_iconst C (0 : Int32) dX6_evidence_34 (by decide) ?_
      refine s_istore_n (la' := [(3, .int (0 : Int32)), (0, vr mo), (1, .int x1), (2, .int x2)]) C 3 dX6_evidence_35 rfl (lt_nl e5 rfl) rfl ?_
      refine s_iconst C (0 : Int32) dX6_evidence_36 (by decide) ?_
      have hL39 : ∀ (x1 : Int32) (x2 : Int32) (v39 : (Int32 × Int32)) (M8 : Ms), Sim (plug h0 mo) E (QM (plug h0 mo) E finI) M8 39 [(0, vr mo), (1, .int x1), (2, .int x2), (3, .int v39.1), (4, .int v39.2)] [] (g_evidence_L39 x1 x2 v39 M8) := by
        intro x1 x2 v39 M8
        refine Sim.loop (fun v39 => [(0, vr mo), (1, .int x1), (2, .int x2), (3, .int v39.1), (4, .int v39.2)]) (fun _ => []) (fun rec39 hr39 v39 M8 => ?_) FU v39 M8
        refine s_iload C dX6_evidence_39 4 rfl ?_
        refine s_aload_n C dX6_evidence_41 0 rfl rfl ?_
        refine sm_getA 6 C hM fo_X6_33_6 rfl (by decide) dX6_evidence_42 ?_
        refine s_iconst C (3 : Int32) dX6_evidence_45 (by decide) ?_
        refine sm_iald C hM dX6_evidence_46 fun a9 => ?_
        refine s_icmp_ge C 127 dX6_evidence_47 (by decide) ?_ ?_
        · refine s_iconst C (-1 : Int32) dX6_evidence_127 (by decide) ?_
          exact s_iret C rfl dX6_evidence_128
        · refine s_iload C dX6_evidence_50 4 rfl ?_
          refine s_iconst C (1 : Int32) dX6_evidence_52 (by decide) ?_
          refine s_iadd C dX6_evidence_53 ?_
          have hL56 : ∀ (x4 : Int32) (v56 : (Int32 × Int32)) (M10 : Ms), Sim (plug h0 mo) E (QM (plug h0 mo) E finI) M10 56 [(0, vr mo), (1, .int x1), (2, .int x2), (3, .int v56.1), (4, .int x4), (5, .int v56.2)] [] (g_evidence_L56 rec39 x1 x2 x4 v56 M10) := by
            intro x4 v56 M10
            refine Sim.loop (fun v56 => [(0, vr mo), (1, .int x1), (2, .int x2), (3, .int v56.1), (4, .int x4), (5, .int v56.2)]) (fun _ => []) (fun rec56 hr56 v56 M10 => ?_) FU v56 M10
            refine s_iload C dX6_evidence_56 5 rfl ?_
            refine s_aload_n C dX6_evidence_58 0 rfl rfl ?_
            refine sm_getA 6 C hM fo_X6_33_6 rfl (by decide) dX6_evidence_59 ?_
            refine s_iconst C (3 : Int32) dX6_evidence_62 (by decide) ?_
            refine sm_iald C hM dX6_evidence_63 fun a11 => ?_
            refine s_icmp_ge C 121 dX6_evidence_64 (by decide) ?_ ?_
            · refine s_iinc (la' := [(4, .int (x4 + (1 : Int32))), (0, vr mo), (1, .int x1), (2, .int x2), (3, .int v56.1), (5, .int v56.2)]) C 4 dX6_evidence_121 rfl rfl (lt_nl e5 rfl) rfl ?_
              refine s_goto C 39 dX6_evidence_124 (by decide) ?_
              refine Sim.keep [1, 2, 3, 4, 0] rfl ?_
              exact hr39 _ _
            · refine s_aload_n C dX6_evidence_67 0 rfl rfl ?_
              refine s_iload C dX6_evidence_68 4 rfl ?_
              refine s_iload C dX6_evidence_70 5 rfl ?_
              refine sm_callI C 2 [] (ct_X6_offence hL hM M10 x4 v56.2) (lw_V q3213 q3215 qs62 q147 q3216) nd_X6_offence rfl (le_fr hf rfl) (le_fr hlo rfl) rfl (Nat.le_of_ble_eq_true rfl) dX6_evidence_72 fun r13 M12 => ?_
              refine s_istore (la' := [(6, .int r13), (0, vr mo), (1, .int x1), (2, .int x2), (3, .int v56.1), (4, .int x4), (5, .int v56.2)]) C dX6_evidence_75 (lt_nl e5 rfl) rfl ?_
              refine s_iload C dX6_evidence_77 0 rfl ?_
              have hj115 : ∀ (x3 : Int32) (x5 : Int32) (M14 : Ms), Sim (plug h0 mo) E (QM (plug h0 mo) E finI) M14 115 [(0, vr mo), (1, .int x1), (2, .int x2), (3, .int x3), (4, .int x4), (5, .int x5)] [] (g_evidence_j115 rec56 x1 x2 x3 x4 x5 M14) := by
                intro x3 x5 M14
                refine s_iinc (la' := [(5, .int (x5 + (1 : Int32))), (0, vr mo), (1, .int x1), (2, .int x2), (3, .int x3), (4, .int x4)]) C 5 dX6_evidence_115 rfl rfl (lt_nl e5 rfl) rfl ?_
                refine s_goto C 56 dX6_evidence_118 (by decide) ?_
                refine Sim.keep [1, 2, 3, 4, 5, 0] rfl ?_
                exact hr56 _ _
              refine s_if_ne C 85 dX6_evidence_79 (by decide) ?_ ?_
              · refine s_iload_n C dX6_evidence_85 4 rfl rfl ?_
                refine s_iload_n C dX6_evidence_86 2 rfl rfl ?_
                refine s_icmp_ne C 112 dX6_evidence_87 (by decide) ?_ ?_
                · refine s_iinc (la' := [(3, .int (v56.1 + (1 : Int32))), (6, .int r13), (0, vr mo), (1, .int x1), (2, .int x2), (4, .int x4), (5, .int v56.2)]) C 4 dX6_evidence_112 rfl rfl (lt_nl e5 rfl) rfl ?_
                  refine Sim.keep [2, 3, 4, 0, 5, 6] rfl ?_
                  exact hj115 _ _ _
                · refine s_iload_n C dX6_evidence_90 3 rfl rfl ?_
                  have hj111 : ∀ (y0 : Int32) (M15 : Ms), Sim (plug h0 mo) E (QM (plug h0 mo) E finI) M15 111 [] [.int y0] (g_evidence_j111 y0 M15) := by
                    intro y0 M15
                    exact s_iret C rfl dX6_evidence_111
                  refine s_if_ne C 99 dX6_evidence_91 (by decide) ?_ ?_
                  · refine s_iload_n C dX6_evidence_99 3 rfl rfl ?_
                    refine s_iconst C (1 : Int32) dX6_evidence_100 (by decide) ?_
                    refine s_icmp_ne C 109 dX6_evidence_101 (by decide) ?_ ?_
                    · refine s_iload C dX6_evidence_109 0 rfl ?_
                      refine Sim.keep [] rfl ?_
                      exact hj111 _ _
                    · refine s_iload C dX6_evidence_104 6 rfl ?_
                      refine s_goto C 111 dX6_evidence_106 (by decide) ?_
                      refine Sim.keep [] rfl ?_
                      exact hj111 _ _
                  · refine s_iload C dX6_evidence_94 5 rfl ?_
                    refine s_goto C 111 dX6_evidence_96 (by decide) ?_
                    refine Sim.keep [] rfl ?_
                    exact hj111 _ _
              · refine s_goto C 115 dX6_evidence_82 (by decide) ?_
                refine Sim.keep [1, 2, 3, 4, 5, 6] rfl ?_
                exact hj115 _ _ _
          refine s_bdi fun a16 => ?_
          refine s_istore (la' := [(5, .int a16), (0, vr mo), (1, .int x1), (2, .int x2), (3, .int v39.1), (4, .int v39.2)]) C dX6_evidence_54 (lt_nl e5 rfl) rfl ?_
          refine Sim.keep [1, 2, 3, 4, 5, 0] rfl ?_
          exact hL56 _ _ _
      refine s_istore (la' := [(4, .int (0 : Int32)), (3, .int (0 : Int32)), (0, vr mo), (1, .int x1), (2, .int x2)]) C dX6_evidence_37 (lt_nl e5 rfl) rfl ?_
      refine Sim.keep [2, 3, 4, 1, 0] rfl ?_
      exact hL39 _ _ _ _
    · refine Sim.keep [] rfl ?_
      exact hj32 _

def g_fault  (M : Ms) : Option (Int32 × Ms) :=
  bd (mI 0 (0 : Int32) M) fun M1 =>
  some ((M1.1 16), M1)
theorem nd_X6_fault : yX6_fault.cls = RX6 ∧ yX6_fault.cls ≠ "java/lang/invoke/MethodHandle" ∧ yX6_fault.cls ≠ "java/lang/invoke/VarHandle" ∧ (parseMethodDescriptor yX6_fault.desc).map (fun d => d.parameters.length) = some 0 := ⟨rfl, by decide +kernel, by decide +kernel, by decide +kernel⟩
theorem ct_X6_fault {G : Gx} {RL : Lv} {Pl : Nat → Bool} {l : Launch} (hL : LvA G RL Pl) {h0 : Hp} {mo : Nat} (hM : MP Pl mo) (M : Ms)  : Ct (plug h0 mo) G RL l yX6_fault (ws_ yX6_fault cX6_fault 1 (some .int)) 0 0 finI [vr mo] M (g_fault M) := by
  refine Ct.of (Pl := Pl) [(0, vr mo)] (by decide) hL rfl (Nat.le_of_ble_eq_true rfl) ?_
  intro E C hn hf hlo e1 e2 e3 e4 e5
  subst e1; subst e2; subst e3; subst e4
  replace C : Cx E cX6_fault (some .int) RX6 := C
  unfold g_fault
  refine s_aload_n C dX6_fault_0 0 rfl rfl ?_
  refine s_iconst C (0 : Int32) dX6_fault_1 (by decide) ?_
  refine sm_putI 0 0 C hM fo_X6_1_6 rfl ⟨by decide, by decide, rfl⟩ rfl rfl dX6_fault_2 ?_
  refine s_bdh fun M1 => ?_
  refine s_aload_n C dX6_fault_5 0 rfl rfl ?_
  refine sm_getI 16 C hM fo_X6_174_6 rfl dX6_fault_6 ?_
  exact s_iret C rfl dX6_fault_9

def g_four_L3 (x1 : Int32) : Int32 → Ms → Option (Unit × Ms) :=
  lp FU fun rec3 v3 M1 =>
    if v3 < 0 then
      some ((), M1)
    else
      (sI 1 1 (M1.1 2) ((x1 >>> (v3 &&& 31)).toInt8.toInt32) M1).bind fun M2 =>
      bd (mI 2 ((M2.1 2) + (1 : Int32)) M2) fun M3 =>
      rec3 (v3 + (-8 : Int32)) M3
def g_four (x1 : Int32) (M : Ms) : Option (Unit × Ms) :=
  g_four_L3 x1 (24 : Int32) M
theorem nd_X6_four : yX6_four.cls = RX6 ∧ yX6_four.cls ≠ "java/lang/invoke/MethodHandle" ∧ yX6_four.cls ≠ "java/lang/invoke/VarHandle" ∧ (parseMethodDescriptor yX6_four.desc).map (fun d => d.parameters.length) = some 1 := ⟨rfl, by decide +kernel, by decide +kernel, by decide +kernel⟩
theorem ct_X6_four {G : Gx} {RL : Lv} {Pl : Nat → Bool} {l : Launch} (hL : LvA G RL Pl) {h0 : Hp} {mo : Nat} (hM : MP Pl mo) (M : Ms) (x1 : Int32) : Ct (plug h0 mo) G RL l yX6_four (ws_ yX6_four cX6_four 3 none) 0 0 finV [vr mo, .int x1] M (g_four x1 M) := by
  refine Ct.of (Pl := Pl) [(0, vr mo), (1, .int x1)] (by decide) hL rfl (Nat.le_of_ble_eq_true rfl) ?_
  intro E C hn hf hlo e1 e2 e3 e4 e5
  subst e1; subst e2; subst e3; subst e4
  replace C : Cx E cX6_four none RX6 := C
  unfold g_four
  refine s_bipush C (24 : Int32) dX6_four_0 (by decide) ?_
  have hL3 : ∀ (x1 : Int32) (v3 : Int32) (M1 : Ms), Sim (plug h0 mo) E (QM (plug h0 mo) E finV) M1 3 [(0, vr mo), (1, .int x1), (2, .int v3)] [] (g_four_L3 x1 v3 M1) := by
    intro x1 v3 M1
    refine Sim.loop (fun v3 => [(0, vr mo), (1, .int x1), (2, .int v3)]) (fun _ => []) (fun rec3 hr3 v3 M1 => ?_) FU v3 M1
    refine s_iload_n C dX6_four_3 2 rfl rfl ?_
    refine s_if_lt C 36 dX6_four_4 (by decide) ?_ ?_
    · exact s_vret C rfl dX6_four_36
    · refine s_aload_n C dX6_four_7 0 rfl rfl ?_
      refine sm_getA 1 C hM fo_X6_14_6 rfl (by decide) dX6_four_8 ?_
      refine s_aload_n C dX6_four_11 0 rfl rfl ?_
      refine sm_getI 2 C hM fo_X6_7_6 rfl dX6_four_12 ?_
      refine s_iload_n C dX6_four_15 1 rfl rfl ?_
      refine s_iload_n C dX6_four_16 2 rfl rfl ?_
      refine s_ishr C (v3 &&& 31) dX6_four_17 rfl ?_
      refine s_i2b C dX6_four_18 ?_
      refine sm_bast C hM dX6_four_19 fun M2 => ?_
      refine s_aload_n C dX6_four_20 0 rfl rfl ?_
      refine s_dup C dX6_four_21 rfl ?_
      refine sm_getI 2 C hM fo_X6_7_6 rfl dX6_four_22 ?_
      refine s_iconst C (1 : Int32) dX6_four_25 (by decide) ?_
      refine s_iadd C dX6_four_26 ?_
      refine sm_putI 2 0 C hM fo_X6_7_6 rfl ⟨by decide, by decide, rfl⟩ rfl rfl dX6_four_27 ?_
      refine s_bdh fun M3 => ?_
      refine s_iinc (la' := [(2, .int (v3 + (-8 : Int32))), (0, vr mo), (1, .int x1)]) C 2 dX6_four_30 rfl rfl (lt_nl e5 rfl) rfl ?_
      refine s_goto C 3 dX6_four_33 (by decide) ?_
      refine Sim.keep [1, 2, 0] rfl ?_
      exact hr3 _ _
  refine s_istore_n (la' := [(2, .int (24 : Int32)), (0, vr mo), (1, .int x1)]) C 2 dX6_four_2 rfl (lt_nl e5 rfl) rfl ?_
  refine Sim.keep [1, 2, 0] rfl ?_
  exact hL3 _ _ _

def g_feed (x1 : Int32) (x2 : Int32) (x3 : Int32) (x4 : Int32) (x5 : Int32) (M : Ms) : Option (Int32 × Ms) :=
  bd (mI 0 (0 : Int32) M) fun M1 =>
  if ((M1.1 2) + (20 : Int32)) ≤ (940 : Int32) then
    bn (g_four x1 M1) fun _ M2 =>
    bn (g_four x2 M2) fun _ M3 =>
    bn (g_four x3 M3) fun _ M4 =>
    bn (g_four x4 M4) fun _ M5 =>
    bn (g_four x5 M5) fun _ M6 =>
    some ((M6.1 2), M6)
  else
    some ((-1 : Int32), M1)
theorem nd_X6_feed : yX6_feed.cls = RX6 ∧ yX6_feed.cls ≠ "java/lang/invoke/MethodHandle" ∧ yX6_feed.cls ≠ "java/lang/invoke/VarHandle" ∧ (parseMethodDescriptor yX6_feed.desc).map (fun d => d.parameters.length) = some 5 := ⟨rfl, by decide +kernel, by decide +kernel, by decide +kernel⟩
theorem ct_X6_feed {G : Gx} {RL : Lv} {Pl : Nat → Bool} {l : Launch} (hL : LvA G RL Pl) {h0 : Hp} {mo : Nat} (hM : MP Pl mo) (M : Ms) (x1 : Int32) (x2 : Int32) (x3 : Int32) (x4 : Int32) (x5 : Int32) : Ct (plug h0 mo) G RL l yX6_feed (ws_ yX6_feed cX6_feed 6 (some .int)) 1 22 finI [vr mo, .int x1, .int x2, .int x3, .int x4, .int x5] M (g_feed x1 x2 x3 x4 x5 M) := by
  refine Ct.of (Pl := Pl) [(0, vr mo), (1, .int x1), (2, .int x2), (3, .int x3), (4, .int x4), (5, .int x5)] (by decide) hL rfl (Nat.le_of_ble_eq_true rfl) ?_
  intro E C hn hf hlo e1 e2 e3 e4 e5
  subst e1; subst e2; subst e3; subst e4
  replace C : Cx E cX6_feed (some .int) RX6 := C
  unfold g_feed
  refine s_aload_n C dX6_feed_0 0 rfl rfl ?_
  refine s_iconst C (0 : Int32) dX6_feed_1 (by decide) ?_
  refine sm_putI 0 0 C hM fo_X6_1_6 rfl ⟨by decide, by decide, rfl⟩ rfl rfl dX6_feed_2 ?_
  refine s_bdh fun M1 => ?_
  refine s_aload_n C dX6_feed_5 0 rfl rfl ?_
  refine sm_getI 2 C hM fo_X6_7_6 rfl dX6_feed_6 ?_
  refine s_bipush C (20 : Int32) dX6_feed_9 (by decide) ?_
  refine s_iadd C dX6_feed_11 ?_
  refine s_sipush C (940 : Int32) dX6_feed_12 (by decide) ?_
  refine s_icmp_le C 20 dX6_feed_15 (by decide) ?_ ?_
  · refine s_aload_n C dX6_feed_20 0 rfl rfl ?_
    refine s_iload_n C dX6_feed_21 1 rfl rfl ?_
    refine sm_callV C 1 [] (ct_X6_four hL hM M1 x1) (lw_V q2896 q2898 qs40 q147 q2900) nd_X6_four rfl (le_fr hf rfl) (le_fr hlo rfl) rfl (Nat.le_of_ble_eq_true rfl) dX6_feed_22 fun _ M2 => ?_
    refine s_aload_n C dX6_feed_25 0 rfl rfl ?_
    refine s_iload_n C dX6_feed_26 2 rfl rfl ?_
    refine sm_callV C 1 [] (ct_X6_four hL hM M2 x2) (lw_V q2896 q2898 qs40 q147 q2900) nd_X6_four rfl (le_fr hf rfl) (le_fr hlo rfl) rfl (Nat.le_of_ble_eq_true rfl) dX6_feed_27 fun _ M3 => ?_
    refine s_aload_n C dX6_feed_30 0 rfl rfl ?_
    refine s_iload_n C dX6_feed_31 3 rfl rfl ?_
    refine sm_callV C 1 [] (ct_X6_four hL hM M3 x3) (lw_V q2896 q2898 qs40 q147 q2900) nd_X6_four rfl (le_fr hf rfl) (le_fr hlo rfl) rfl (Nat.le_of_ble_eq_true rfl) dX6_feed_32 fun _ M4 => ?_
    refine s_aload_n C dX6_feed_35 0 rfl rfl ?_
    refine s_iload C dX6_feed_36 4 rfl ?_
    refine sm_callV C 1 [] (ct_X6_four hL hM M4 x4) (lw_V q2896 q2898 qs40 q147 q2900) nd_X6_four rfl (le_fr hf rfl) (le_fr hlo rfl) rfl (Nat.le_of_ble_eq_true rfl) dX6_feed_38 fun _ M5 => ?_
    refine s_aload_n C dX6_feed_41 0 rfl rfl ?_
    refine s_iload C dX6_feed_42 5 rfl ?_
    refine sm_callV C 1 [] (ct_X6_four hL hM M5 x5) (lw_V q2896 q2898 qs40 q147 q2900) nd_X6_four rfl (le_fr hf rfl) (le_fr hlo rfl) rfl (Nat.le_of_ble_eq_true rfl) dX6_feed_44 fun _ M6 => ?_
    refine s_aload_n C dX6_feed_47 0 rfl rfl ?_
    refine sm_getI 2 C hM fo_X6_7_6 rfl dX6_feed_48 ?_
    exact s_iret C rfl dX6_feed_51
  · refine s_iconst C (-1 : Int32) dX6_feed_18 (by decide) ?_
    exact s_iret C rfl dX6_feed_19

def g_fork_j21  (M4 : Ms) : Option (Int32 × Ms) :=
  some ((-1 : Int32), M4)
def g_fork_j96 (rec55 : (Int32 × Int32) → Ms → Option (Int32 × Ms)) (x3 : Int32) (x4 : Int32) (x5 : Int32) (M15 : Ms) : Option (Int32 × Ms) :=
  rec55 (x4, (x5 + (1 : Int32))) M15
def g_fork_L55 (x3 : Int32) : (Int32 × Int32) → Ms → Option (Int32 × Ms) :=
  lp FU fun rec55 v55 M11 =>
    (aI 0 6 (2 : Int32) M11).bind fun a12 =>
    if a12 ≤ v55.2 then
      some (v55.1, M11)
    else
      bn (g_bitOf x3 v55.2 M11) fun r14 M13 =>
      if r14 = 0 then
        g_fork_j96 rec55 x3 v55.1 v55.2 M13
      else
        (aI 0 21 v55.2 M13).bind fun a16 =>
        (aI 0 21 v55.1 M13).bind fun a17 =>
        if a16 ≤ a17 then
          g_fork_j96 rec55 x3 v55.1 v55.2 M13
        else
          g_fork_j96 rec55 x3 v55.2 v55.2 M13
def g_fork (x1 : Int32) (x2 : Int32) (M : Ms) : Option (Int32 × Ms) :=
  bd (mI 0 (0 : Int32) M) fun M1 =>
  bn (g_isBlock x1 M1) fun r3 M2 =>
  if r3 = 0 then
    g_fork_j21 M2
  else
    bn (g_isBlock x2 M2) fun r6 M5 =>
    if r6 = 0 then
      g_fork_j21 M5
    else
      bn (g_lays  M5) fun _ M7 =>
      (aI 0 22 x1 M7).bind fun a8 =>
      (aI 0 22 x2 M7).bind fun a9 =>
      bd (((a8 ||| ((1 : Int32) <<< (x1 &&& 31))) &&& (a9 ||| ((1 : Int32) <<< (x2 &&& 31))))) fun a10 =>
      g_fork_L55 a10 ((0 : Int32), (0 : Int32)) M7
theorem nd_X6_fork : yX6_fork.cls = RX6 ∧ yX6_fork.cls ≠ "java/lang/invoke/MethodHandle" ∧ yX6_fork.cls ≠ "java/lang/invoke/VarHandle" ∧ (parseMethodDescriptor yX6_fork.desc).map (fun d => d.parameters.length) = some 2 := ⟨rfl, by decide +kernel, by decide +kernel, by decide +kernel⟩
theorem ct_X6_fork {G : Gx} {RL : Lv} {Pl : Nat → Bool} {l : Launch} (hL : LvA G RL Pl) {h0 : Hp} {mo : Nat} (hM : MP Pl mo) (M : Ms) (x1 : Int32) (x2 : Int32) : Ct (plug h0 mo) G RL l yX6_fork (ws_ yX6_fork cX6_fork 6 (some .int)) 7 163 finI [vr mo, .int x1, .int x2] M (g_fork x1 x2 M) := by
  refine Ct.of (Pl := Pl) [(0, vr mo), (1, .int x1), (2, .int x2)] (by decide) hL rfl (Nat.le_of_ble_eq_true rfl) ?_
  intro E C hn hf hlo e1 e2 e3 e4 e5
  subst e1; subst e2; subst e3; subst e4
  replace C : Cx E cX6_fork (some .int) RX6 := C
  unfold g_fork
  refine s_aload_n C dX6_fork_0 0 rfl rfl ?_
  refine s_iconst C (0 : Int32) dX6_fork_1 (by decide) ?_
  refine sm_putI 0 0 C hM fo_X6_1_6 rfl ⟨by decide, by decide, rfl⟩ rfl rfl dX6_fork_2 ?_
  refine s_bdh fun M1 => ?_
  refine s_aload_n C dX6_fork_5 0 rfl rfl ?_
  refine s_iload_n C dX6_fork_6 1 rfl rfl ?_
  refine sm_callI C 1 [] (ct_X6_isBlock hL hM M1 x1) (lw_V q3193 q3195 qs57 q147 q3196) nd_X6_isBlock rfl (le_fr hf rfl) (le_fr hlo rfl) rfl (Nat.le_of_ble_eq_true rfl) dX6_fork_7 fun r3 M2 => ?_
  have hj21 : ∀  (M4 : Ms), Sim (plug h0 mo) E (QM (plug h0 mo) E finI) M4 21 [] [] (g_fork_j21 M4) := by
    intro M4
    refine s_iconst C (-1 : Int32) dX6_fork_21 (by decide) ?_
    exact s_iret C rfl dX6_fork_22
  refine s_if_eq C 21 dX6_fork_10 (by decide) ?_ ?_
  · refine Sim.keep [] rfl ?_
    exact hj21 _
  · refine s_aload_n C dX6_fork_13 0 rfl rfl ?_
    refine s_iload_n C dX6_fork_14 2 rfl rfl ?_
    refine sm_callI C 1 [] (ct_X6_isBlock hL hM M2 x2) (lw_V q3193 q3195 qs57 q147 q3196) nd_X6_isBlock rfl (le_fr hf rfl) (le_fr hlo rfl) rfl (Nat.le_of_ble_eq_true rfl) dX6_fork_15 fun r6 M5 => ?_
    refine s_if_ne C 23 dX6_fork_18 (by decide) ?_ ?_
    · refine s_aload_n C dX6_fork_23 0 rfl rfl ?_
      refine sm_callV C 0 [] (ct_X6_lays hL hM M5 ) (lw_V q3201 q3203 qs59 q147 q3204) nd_X6_lays rfl (le_fr hf rfl) (le_fr hlo rfl) rfl (Nat.le_of_ble_eq_true rfl) dX6_fork_24 fun _ M7 => ?_
      refine s_aload_n C dX6_fork_27 0 rfl rfl ?_
      refine sm_getA 22 C hM fo_X6_56_6 rfl (by decide) dX6_fork_28 ?_
      refine s_iload_n C dX6_fork_31 1 rfl rfl ?_
      refine sm_iald C hM dX6_fork_32 fun a8 => ?_
      refine s_iconst C (1 : Int32) dX6_fork_33 (by decide) ?_
      refine s_iload_n C dX6_fork_34 1 rfl rfl ?_
      refine s_ishl C (x1 &&& 31) dX6_fork_35 rfl ?_
      refine s_ior C dX6_fork_36 ?_
      refine s_aload_n C dX6_fork_37 0 rfl rfl ?_
      refine sm_getA 22 C hM fo_X6_56_6 rfl (by decide) dX6_fork_38 ?_
      refine s_iload_n C dX6_fork_41 2 rfl rfl ?_
      refine sm_iald C hM dX6_fork_42 fun a9 => ?_
      refine s_iconst C (1 : Int32) dX6_fork_43 (by decide) ?_
      refine s_iload_n C dX6_fork_44 2 rfl rfl ?_
      refine s_ishl C (x2 &&& 31) dX6_fork_45 rfl ?_
      refine s_ior C dX6_fork_46 ?_
      refine s_iand C dX6_fork_47 ?_
      refine s_bdi fun a10 => ?_
      refine s_istore_n (la' := [(3, .int a10), (0, vr mo), (1, .int x1), (2, .int x2)]) C 3 dX6_fork_48 rfl (lt_nl e5 rfl) rfl ?_
      refine s_iconst C (0 : Int32) dX6_fork_49 (by decide) ?_
      refine s_istore (la' := [(4, .int (0 : Int32)), (3, .int a10), (0, vr mo), (1, .int x1), (2, .int x2)]) C dX6_fork_50 (lt_nl e5 rfl) rfl ?_
      refine s_iconst C (0 : Int32) dX6_fork_52 (by decide) ?_
      have hL55 : ∀ (x3 : Int32) (v55 : (Int32 × Int32)) (M11 : Ms), Sim (plug h0 mo) E (QM (plug h0 mo) E finI) M11 55 [(0, vr mo), (3, .int x3), (4, .int v55.1), (5, .int v55.2)] [] (g_fork_L55 x3 v55 M11) := by
        intro x3 v55 M11
        refine Sim.loop (fun v55 => [(0, vr mo), (3, .int x3), (4, .int v55.1), (5, .int v55.2)]) (fun _ => []) (fun rec55 hr55 v55 M11 => ?_) FU v55 M11
        refine s_iload C dX6_fork_55 3 rfl ?_
        refine s_aload_n C dX6_fork_57 0 rfl rfl ?_
        refine sm_getA 6 C hM fo_X6_33_6 rfl (by decide) dX6_fork_58 ?_
        refine s_iconst C (2 : Int32) dX6_fork_61 (by decide) ?_
        refine sm_iald C hM dX6_fork_62 fun a12 => ?_
        refine s_icmp_ge C 102 dX6_fork_63 (by decide) ?_ ?_
        · refine s_iload C dX6_fork_102 2 rfl ?_
          exact s_iret C rfl dX6_fork_104
        · refine s_iload_n C dX6_fork_66 1 rfl rfl ?_
          refine s_iload C dX6_fork_67 3 rfl ?_
          refine sm_callSI C 2 [] (ct_X6_bitOf hL hM M11 x3 v55.2) (lw_S q3241 q3242 q147 q3243) nd_X6_bitOf rfl (le_fr hf rfl) (le_fr hlo rfl) rfl (Nat.le_of_ble_eq_true rfl) dX6_fork_69 fun r14 M13 => ?_
          have hj96 : ∀ (x4 : Int32) (x5 : Int32) (M15 : Ms), Sim (plug h0 mo) E (QM (plug h0 mo) E finI) M15 96 [(0, vr mo), (3, .int x3), (4, .int x4), (5, .int x5)] [] (g_fork_j96 rec55 x3 x4 x5 M15) := by
            intro x4 x5 M15
            refine s_iinc (la' := [(5, .int (x5 + (1 : Int32))), (0, vr mo), (3, .int x3), (4, .int x4)]) C 3 dX6_fork_96 rfl rfl (lt_nl e5 rfl) rfl ?_
            refine s_goto C 55 dX6_fork_99 (by decide) ?_
            refine Sim.keep [1, 2, 3, 0] rfl ?_
            exact hr55 _ _
          refine s_if_eq C 96 dX6_fork_72 (by decide) ?_ ?_
          · exact hj96 _ _ _
          · refine s_aload_n C dX6_fork_75 0 rfl rfl ?_
            refine sm_getA 21 C hM fo_X6_53_6 rfl (by decide) dX6_fork_76 ?_
            refine s_iload C dX6_fork_79 3 rfl ?_
            refine sm_iald C hM dX6_fork_81 fun a16 => ?_
            refine s_aload_n C dX6_fork_82 0 rfl rfl ?_
            refine sm_getA 21 C hM fo_X6_53_6 rfl (by decide) dX6_fork_83 ?_
            refine s_iload C dX6_fork_86 2 rfl ?_
            refine sm_iald C hM dX6_fork_88 fun a17 => ?_
            refine s_icmp_le C 96 dX6_fork_89 (by decide) ?_ ?_
            · exact hj96 _ _ _
            · refine s_iload C dX6_fork_92 3 rfl ?_
              refine s_istore (la' := [(4, .int v55.2), (0, vr mo), (3, .int x3), (5, .int v55.2)]) C dX6_fork_94 (lt_nl e5 rfl) rfl ?_
              refine Sim.keep [1, 2, 0, 3] rfl ?_
              exact hj96 _ _ _
      refine s_istore (la' := [(5, .int (0 : Int32)), (4, .int (0 : Int32)), (3, .int a10), (0, vr mo), (1, .int x1), (2, .int x2)]) C dX6_fork_53 (lt_nl e5 rfl) rfl ?_
      refine Sim.keep [3, 2, 1, 0] rfl ?_
      exact hL55 _ _ _
    · refine Sim.keep [] rfl ?_
      exact hj21 _

def g_keeps  (M : Ms) : Option (Unit × Ms) :=
  bn (g_copies 36 M) fun _ M1 =>
  bn (g_stores 36 M1) fun _ M2 =>
  some ((), M2)
theorem nd_X6_keeps : yX6_keeps.cls = RX6 ∧ yX6_keeps.cls ≠ "java/lang/invoke/MethodHandle" ∧ yX6_keeps.cls ≠ "java/lang/invoke/VarHandle" ∧ (parseMethodDescriptor yX6_keeps.desc).map (fun d => d.parameters.length) = some 0 := ⟨rfl, by decide +kernel, by decide +kernel, by decide +kernel⟩
theorem ct_X6_keeps {G : Gx} {RL : Lv} {Pl : Nat → Bool} {l : Launch} (hL : LvA G RL Pl) {h0 : Hp} {mo : Nat} (hM : MP Pl mo) (M : Ms)  : Ct (plug h0 mo) G RL l yX6_keeps (ws_ yX6_keeps cX6_keeps 1 none) 1 22 finV [vr mo] M (g_keeps M) := by
  refine Ct.of (Pl := Pl) [(0, vr mo)] (by decide) hL rfl (Nat.le_of_ble_eq_true rfl) ?_
  intro E C hn hf hlo e1 e2 e3 e4 e5
  subst e1; subst e2; subst e3; subst e4
  replace C : Cx E cX6_keeps none RX6 := C
  unfold g_keeps
  refine s_aload_n C dX6_keeps_0 0 rfl rfl ?_
  refine s_aload_n C dX6_keeps_1 0 rfl rfl ?_
  refine sm_getA 36 C hM fo_X6_71_6 rfl (by decide) dX6_keeps_2 ?_
  refine sm_callV C 1 [] (ct_X6_copies hL hM M 36) (lw_V q3323 q3325 qs81 q147 q3326) nd_X6_copies rfl (le_fr hf rfl) (le_fr hlo rfl) rfl (Nat.le_of_ble_eq_true rfl) dX6_keeps_5 fun _ M1 => ?_
  refine s_aload_n C dX6_keeps_8 0 rfl rfl ?_
  refine s_aload_n C dX6_keeps_9 0 rfl rfl ?_
  refine sm_getA 36 C hM fo_X6_71_6 rfl (by decide) dX6_keeps_10 ?_
  refine sm_callV C 1 [] (ct_X6_stores hL hM M1 36) (lw_V q3327 q3329 qs82 q147 q3330) nd_X6_stores rfl (le_fr hf rfl) (le_fr hlo rfl) rfl (Nat.le_of_ble_eq_true rfl) dX6_keeps_13 fun _ M2 => ?_
  exact s_vret C rfl dX6_keeps_16

def g_grows (x1 : Int32) (M : Ms) : Option (Int32 × Ms) :=
  bd (mI 0 (0 : Int32) M) fun M1 =>
  bn (g_isBlock x1 M1) fun r3 M2 =>
  if r3 = 0 then
    some ((-1 : Int32), M2)
  else
    (aI 0 6 (2 : Int32) M2).bind fun a4 =>
    if a4 = (20 : Int32) then
      some ((1 : Int32), M2)
    else
      bn (g_keeps  M2) fun _ M5 =>
      bn (g_doesGrow x1 M5) fun _ M6 =>
      some ((0 : Int32), M6)
theorem nd_X6_grows : yX6_grows.cls = RX6 ∧ yX6_grows.cls ≠ "java/lang/invoke/MethodHandle" ∧ yX6_grows.cls ≠ "java/lang/invoke/VarHandle" ∧ (parseMethodDescriptor yX6_grows.desc).map (fun d => d.parameters.length) = some 1 := ⟨rfl, by decide +kernel, by decide +kernel, by decide +kernel⟩
theorem ct_X6_grows {G : Gx} {RL : Lv} {Pl : Nat → Bool} {l : Launch} (hL : LvA G RL Pl) {h0 : Hp} {mo : Nat} (hM : MP Pl mo) (M : Ms) (x1 : Int32) : Ct (plug h0 mo) G RL l yX6_grows (ws_ yX6_grows cX6_grows 2 (some .int)) 2 43 finI [vr mo, .int x1] M (g_grows x1 M) := by
  refine Ct.of (Pl := Pl) [(0, vr mo), (1, .int x1)] (by decide) hL rfl (Nat.le_of_ble_eq_true rfl) ?_
  intro E C hn hf hlo e1 e2 e3 e4 e5
  subst e1; subst e2; subst e3; subst e4
  replace C : Cx E cX6_grows (some .int) RX6 := C
  unfold g_grows
  refine s_aload_n C dX6_grows_0 0 rfl rfl ?_
  refine s_iconst C (0 : Int32) dX6_grows_1 (by decide) ?_
  refine sm_putI 0 0 C hM fo_X6_1_6 rfl ⟨by decide, by decide, rfl⟩ rfl rfl dX6_grows_2 ?_
  refine s_bdh fun M1 => ?_
  refine s_aload_n C dX6_grows_5 0 rfl rfl ?_
  refine s_iload_n C dX6_grows_6 1 rfl rfl ?_
  refine sm_callI C 1 [] (ct_X6_isBlock hL hM M1 x1) (lw_V q3193 q3195 qs57 q147 q3196) nd_X6_isBlock rfl (le_fr hf rfl) (le_fr hlo rfl) rfl (Nat.le_of_ble_eq_true rfl) dX6_grows_7 fun r3 M2 => ?_
  refine s_if_ne C 15 dX6_grows_10 (by decide) ?_ ?_
  · refine s_aload_n C dX6_grows_15 0 rfl rfl ?_
    refine sm_getA 6 C hM fo_X6_33_6 rfl (by decide) dX6_grows_16 ?_
    refine s_iconst C (2 : Int32) dX6_grows_19 (by decide) ?_
    refine sm_iald C hM dX6_grows_20 fun a4 => ?_
    refine s_bipush C (20 : Int32) dX6_grows_21 (by decide) ?_
    refine s_icmp_ne C 28 dX6_grows_23 (by decide) ?_ ?_
    · refine s_aload_n C dX6_grows_28 0 rfl rfl ?_
      refine sm_callV C 0 [] (ct_X6_keeps hL hM M2 ) (lw_V q3319 q3321 qs80 q147 q3322) nd_X6_keeps rfl (le_fr hf rfl) (le_fr hlo rfl) rfl (Nat.le_of_ble_eq_true rfl) dX6_grows_29 fun _ M5 => ?_
      refine s_aload_n C dX6_grows_32 0 rfl rfl ?_
      refine s_iload_n C dX6_grows_33 1 rfl rfl ?_
      refine sm_callV C 1 [] (ct_X6_doesGrow hL hM M5 x1) (lw_V q3347 q3349 qs85 q147 q3350) nd_X6_doesGrow rfl (le_fr hf rfl) (le_fr hlo rfl) rfl (Nat.le_of_ble_eq_true rfl) dX6_grows_34 fun _ M6 => ?_
      refine s_iconst C (0 : Int32) dX6_grows_37 (by decide) ?_
      exact s_iret C rfl dX6_grows_38
    · refine s_iconst C (1 : Int32) dX6_grows_26 (by decide) ?_
      exact s_iret C rfl dX6_grows_27
  · refine s_iconst C (-1 : Int32) dX6_grows_13 (by decide) ?_
    exact s_iret C rfl dX6_grows_14

def g_least_j35 (x3 : Int32) (y0 : Int32) (M2 : Ms) : Option (Int32 × Ms) :=
  if x3 = 0 then none else
  some ((y0 / x3), M2)
def g_least_L5 (x0 : Int32) (x1 : Int32) (x2 : Int32) : (Int32 × Int32) → Ms → Option (Int32 × Ms) :=
  lp FU fun rec5 v5 M1 =>
    if v5.2 = 0 then
      if x2 = 0 then
        g_least_j35 v5.1 x0 M1
      else
        g_least_j35 v5.1 x1 M1
    else
      if v5.2 = 0 then none else
      bd ((v5.1 - v5.1 / v5.2 * v5.2)) fun a3 =>
      rec5 (v5.2, a3) M1
def g_least (x0 : Int32) (x1 : Int32) (x2 : Int32) (M : Ms) : Option (Int32 × Ms) :=
  g_least_L5 x0 x1 x2 (x1, x0) M
theorem nd_X6_least : yX6_least.cls = RX6 ∧ yX6_least.cls ≠ "java/lang/invoke/MethodHandle" ∧ yX6_least.cls ≠ "java/lang/invoke/VarHandle" ∧ (parseMethodDescriptor yX6_least.desc).map (fun d => d.parameters.length) = some 3 := ⟨rfl, by decide +kernel, by decide +kernel, by decide +kernel⟩
theorem ct_X6_least {G : Gx} {RL : Lv} {Pl : Nat → Bool} {l : Launch} (hL : LvA G RL Pl) {h0 : Hp} {mo : Nat} (hM : MP Pl mo) (M : Ms) (x0 : Int32) (x1 : Int32) (x2 : Int32) : Ct (plug h0 mo) G RL l yX6_least (ws_ yX6_least cX6_least 6 (some .int)) 0 0 finI [.int x0, .int x1, .int x2] M (g_least x0 x1 x2 M) := by
  refine Ct.of (Pl := Pl) [(0, .int x0), (1, .int x1), (2, .int x2)] (by decide) hL rfl (Nat.le_of_ble_eq_true rfl) ?_
  intro E C hn hf hlo e1 e2 e3 e4 e5
  subst e1; subst e2; subst e3; subst e4
  replace C : Cx E cX6_least (some .int) RX6 := C
  unfold g_least
  refine s_iload_n C dX6_least_0 1 rfl rfl ?_
  refine s_istore_n (la' := [(3, .int x1), (0, .int x0), (1, .int x1), (2, .int x2)]) C 3 dX6_least_1 rfl (lt_nl e5 rfl) rfl ?_
  refine s_iload_n C dX6_least_2 1 rfl rfl ?_
  have hL5 : ∀ (x0 : Int32) (x1 : Int32) (x2 : Int32) (v5 : (Int32 × Int32)) (M1 : Ms), Sim (plug h0 mo) E (QM (plug h0 mo) E finI) M1 5 [(0, .int x0), (1, .int x1), (2, .int x2), (3, .int v5.1), (4, .int v5.2)] [] (g_least_L5 x0 x1 x2 v5 M1) := by
    intro x0 x1 x2 v5 M1
    refine Sim.loop (fun v5 => [(0, .int x0), (1, .int x1), (2, .int x2), (3, .int v5.1), (4, .int v5.2)]) (fun _ => []) (fun rec5 hr5 v5 M1 => ?_) FU v5 M1
    refine s_iload C dX6_least_5 4 rfl ?_
    refine s_if_eq C 26 dX6_least_7 (by decide) ?_ ?_
    · refine s_iload_n C dX6_least_26 2 rfl rfl ?_
      have hj35 : ∀ (x3 : Int32) (y0 : Int32) (M2 : Ms), Sim (plug h0 mo) E (QM (plug h0 mo) E finI) M2 35 [(3, .int x3)] [.int y0] (g_least_j35 x3 y0 M2) := by
        intro x3 y0 M2
        refine s_iload_n C dX6_least_35 0 rfl rfl ?_
        refine s_idiv C dX6_least_36 ?_
        exact s_iret C rfl dX6_least_37
      refine s_if_ne C 34 dX6_least_27 (by decide) ?_ ?_
      · refine s_iload_n C dX6_least_34 1 rfl rfl ?_
        refine Sim.keep [3] rfl ?_
        exact hj35 _ _ _
      · refine s_iload_n C dX6_least_30 0 rfl rfl ?_
        refine s_goto C 35 dX6_least_31 (by decide) ?_
        refine Sim.keep [3] rfl ?_
        exact hj35 _ _ _
    · refine s_iload_n C dX6_least_10 3 rfl rfl ?_
      refine s_iload C dX6_least_11 4 rfl ?_
      refine s_irem C dX6_least_13 ?_
      refine s_bdi fun a3 => ?_
      refine s_istore (la' := [(5, .int a3), (0, .int x0), (1, .int x1), (2, .int x2), (3, .int v5.1), (4, .int v5.2)]) C dX6_least_14 (lt_nl e5 rfl) rfl ?_
      refine s_iload C dX6_least_16 5 rfl ?_
      refine s_istore_n (la' := [(3, .int v5.2), (5, .int a3), (0, .int x0), (1, .int x1), (2, .int x2), (4, .int v5.2)]) C 3 dX6_least_18 rfl (lt_nl e5 rfl) rfl ?_
      refine s_iload C dX6_least_19 1 rfl ?_
      refine s_istore (la' := [(4, .int a3), (3, .int v5.2), (5, .int a3), (0, .int x0), (1, .int x1), (2, .int x2)]) C dX6_least_21 (lt_nl e5 rfl) rfl ?_
      refine s_goto C 5 dX6_least_23 (by decide) ?_
      refine Sim.keep [3, 4, 5, 1, 0] rfl ?_
      exact hr5 _ _
  refine s_istore (la' := [(4, .int x0), (3, .int x1), (0, .int x0), (1, .int x1), (2, .int x2)]) C dX6_least_3 (lt_nl e5 rfl) rfl ?_
  refine Sim.keep [2, 3, 4, 1, 0] rfl ?_
  exact hL5 _ _ _ _ _

def g_guilt_j87 (x1 : Int32) (x2 : Int32) (x3 : Int32) (y1 : Int32) (M4 : Ms) : Option (Int32 × Ms) :=
  bn (g_throwsIf y1 M4) fun r6 M5 =>
  if r6 = 0 then
    bn (g_least x3 x2 x1 M5) fun r8 M7 =>
    some (r8, M7)
  else
    some ((0 : Int32), M5)
def g_guilt_j82 (x1 : Int32) (x2 : Int32) (x3 : Int32) (M9 : Ms) : Option (Int32 × Ms) :=
  g_guilt_j87 x1 x2 x3 (1 : Int32) M9
def g_guilt_j60 (rec11 : (Int32 × Int32 × Int32) → Ms → Option (Int32 × Ms)) (x1 : Int32) (x2 : Int32) (x4 : Int32) (y0 : Int32) (y1 : Int32) (M16 : Ms) : Option (Int32 × Ms) :=
  bd ((y0 + y1)) fun a17 =>
  rec11 (x2, a17, (x4 + (1 : Int32))) M16
def g_guilt_L11 (x1 : Int32) : (Int32 × Int32 × Int32) → Ms → Option (Int32 × Ms) :=
  lp FU fun rec11 v11 M2 =>
    (aI 0 6 (1 : Int32) M2).bind fun a3 =>
    if a3 ≤ v11.2.2 then
      if v11.1 = 0 then
        g_guilt_j82 x1 v11.1 v11.2.1 M2
      else
        bn (g_isIn x1 (0 : Int32) (1 : Int32) M2) fun r11 M10 =>
        if r11 = 0 then
          g_guilt_j82 x1 v11.1 v11.2.1 M10
        else
          g_guilt_j87 x1 v11.1 v11.2.1 (0 : Int32) M10
    else
      (aI 0 6 ((4 : Int32) + v11.2.2) M2).bind fun a12 =>
      bd ((v11.1 + a12)) fun a13 =>
      bn (g_bitOf (M2.1 28) v11.2.2 M2) fun r15 M14 =>
      if r15 = 0 then
        g_guilt_j60 rec11 x1 a13 v11.2.2 v11.2.1 (0 : Int32) M14
      else
        (aI 0 6 ((4 : Int32) + v11.2.2) M14).bind fun a18 =>
        g_guilt_j60 rec11 x1 a13 v11.2.2 v11.2.1 a18 M14
def g_guilt (x1 : Int32) (M : Ms) : Option (Int32 × Ms) :=
  bn (g_lays  M) fun _ M1 =>
  g_guilt_L11 x1 ((0 : Int32), (0 : Int32), (0 : Int32)) M1
theorem nd_X6_guilt : yX6_guilt.cls = RX6 ∧ yX6_guilt.cls ≠ "java/lang/invoke/MethodHandle" ∧ yX6_guilt.cls ≠ "java/lang/invoke/VarHandle" ∧ (parseMethodDescriptor yX6_guilt.desc).map (fun d => d.parameters.length) = some 1 := ⟨rfl, by decide +kernel, by decide +kernel, by decide +kernel⟩
theorem ct_X6_guilt {G : Gx} {RL : Lv} {Pl : Nat → Bool} {l : Launch} (hL : LvA G RL Pl) {h0 : Hp} {mo : Nat} (hM : MP Pl mo) (M : Ms) (x1 : Int32) : Ct (plug h0 mo) G RL l yX6_guilt (ws_ yX6_guilt cX6_guilt 5 (some .int)) 7 163 finI [vr mo, .int x1] M (g_guilt x1 M) := by
  refine Ct.of (Pl := Pl) [(0, vr mo), (1, .int x1)] (by decide) hL rfl (Nat.le_of_ble_eq_true rfl) ?_
  intro E C hn hf hlo e1 e2 e3 e4 e5
  subst e1; subst e2; subst e3; subst e4
  replace C : Cx E cX6_guilt (some .int) RX6 := C
  unfold g_guilt
  refine s_aload_n C dX6_guilt_0 0 rfl rfl ?_
  refine sm_callV C 0 [] (ct_X6_lays hL hM M ) (lw_V q3201 q3203 qs59 q147 q3204) nd_X6_lays rfl (le_fr hf rfl) (le_fr hlo rfl) rfl (Nat.le_of_ble_eq_true rfl) dX6_guilt_1 fun _ M1 => ?_
  refine s_iconst C (0 : Int32) dX6_guilt_4 (by decide) ?_
  refine s_istore_n (la' := [(2, .int (0 : Int32)), (0, vr mo), (1, .int x1)]) C 2 dX6_guilt_5 rfl (lt_nl e5 rfl) rfl ?_
  refine s_iconst C (0 : Int32) dX6_guilt_6 (by decide) ?_
  refine s_istore_n (la' := [(3, .int (0 : Int32)), (2, .int (0 : Int32)), (0, vr mo), (1, .int x1)]) C 3 dX6_guilt_7 rfl (lt_nl e5 rfl) rfl ?_
  refine s_iconst C (0 : Int32) dX6_guilt_8 (by decide) ?_
  have hL11 : ∀ (x1 : Int32) (v11 : (Int32 × Int32 × Int32)) (M2 : Ms), Sim (plug h0 mo) E (QM (plug h0 mo) E finI) M2 11 [(0, vr mo), (1, .int x1), (2, .int v11.1), (3, .int v11.2.1), (4, .int v11.2.2)] [] (g_guilt_L11 x1 v11 M2) := by
    intro x1 v11 M2
    refine Sim.loop (fun v11 => [(0, vr mo), (1, .int x1), (2, .int v11.1), (3, .int v11.2.1), (4, .int v11.2.2)]) (fun _ => []) (fun rec11 hr11 v11 M2 => ?_) FU v11 M2
    refine s_iload C dX6_guilt_11 4 rfl ?_
    refine s_aload_n C dX6_guilt_13 0 rfl rfl ?_
    refine sm_getA 6 C hM fo_X6_33_6 rfl (by decide) dX6_guilt_14 ?_
    refine s_iconst C (1 : Int32) dX6_guilt_17 (by decide) ?_
    refine sm_iald C hM dX6_guilt_18 fun a3 => ?_
    refine s_icmp_ge C 68 dX6_guilt_19 (by decide) ?_ ?_
    · refine s_aload_n C dX6_guilt_68 0 rfl rfl ?_
      refine s_iload_n C dX6_guilt_69 2 rfl rfl ?_
      have hj87 : ∀ (x1 : Int32) (x2 : Int32) (x3 : Int32) (y1 : Int32) (M4 : Ms), Sim (plug h0 mo) E (QM (plug h0 mo) E finI) M4 87 [(1, .int x1), (2, .int x2), (3, .int x3)] [.int y1, vr mo] (g_guilt_j87 x1 x2 x3 y1 M4) := by
        intro x1 x2 x3 y1 M4
        refine sm_callI C 1 [] (ct_X6_throwsIf hL hM M4 y1) (lw_V q3197 q3199 qs58 q147 q3200) nd_X6_throwsIf rfl (le_fr hf rfl) (le_fr hlo rfl) rfl (Nat.le_of_ble_eq_true rfl) dX6_guilt_87 fun r6 M5 => ?_
        refine s_if_eq C 95 dX6_guilt_90 (by decide) ?_ ?_
        · refine s_iload_n C dX6_guilt_95 2 rfl rfl ?_
          refine s_iload_n C dX6_guilt_96 1 rfl rfl ?_
          refine s_iload_n C dX6_guilt_97 0 rfl rfl ?_
          refine sm_callSI C 3 [] (ct_X6_least hL hM M5 x3 x2 x1) (lw_S q3418 q3419 q147 q3420) nd_X6_least rfl (le_fr hf rfl) (le_fr hlo rfl) rfl (Nat.le_of_ble_eq_true rfl) dX6_guilt_98 fun r8 M7 => ?_
          exact s_iret C rfl dX6_guilt_101
        · refine s_iconst C (0 : Int32) dX6_guilt_93 (by decide) ?_
          exact s_iret C rfl dX6_guilt_94
      have hj82 : ∀ (x1 : Int32) (x2 : Int32) (x3 : Int32) (M9 : Ms), Sim (plug h0 mo) E (QM (plug h0 mo) E finI) M9 82 [(1, .int x1), (2, .int x2), (3, .int x3)] [vr mo] (g_guilt_j82 x1 x2 x3 M9) := by
        intro x1 x2 x3 M9
        refine s_iconst C (1 : Int32) dX6_guilt_82 (by decide) ?_
        refine s_goto C 87 dX6_guilt_83 (by decide) ?_
        exact hj87 _ _ _ _ _
      refine s_if_eq C 82 dX6_guilt_70 (by decide) ?_ ?_
      · refine Sim.keep [1, 2, 3] rfl ?_
        exact hj82 _ _ _ _
      · refine s_iload_n C dX6_guilt_73 1 rfl rfl ?_
        refine s_iconst C (0 : Int32) dX6_guilt_74 (by decide) ?_
        refine s_iconst C (1 : Int32) dX6_guilt_75 (by decide) ?_
        refine sm_callSI C 3 [vr mo] (ct_X6_isIn hL hM M2 x1 (0 : Int32) (1 : Int32)) (lw_S q3150 q3151 q147 q3152) nd_X6_isIn rfl (le_fr hf rfl) (le_fr hlo rfl) rfl (Nat.le_of_ble_eq_true rfl) dX6_guilt_76 fun r11 M10 => ?_
        refine s_if_ne C 86 dX6_guilt_79 (by decide) ?_ ?_
        · refine s_iconst C (0 : Int32) dX6_guilt_86 (by decide) ?_
          refine Sim.keep [1, 2, 3] rfl ?_
          exact hj87 _ _ _ _ _
        · refine Sim.keep [1, 2, 3] rfl ?_
          exact hj82 _ _ _ _
    · refine s_iload_n C dX6_guilt_22 2 rfl rfl ?_
      refine s_aload_n C dX6_guilt_23 0 rfl rfl ?_
      refine sm_getA 6 C hM fo_X6_33_6 rfl (by decide) dX6_guilt_24 ?_
      refine s_iconst C (4 : Int32) dX6_guilt_27 (by decide) ?_
      refine s_iload C dX6_guilt_28 4 rfl ?_
      refine s_iadd C dX6_guilt_30 ?_
      refine sm_iald C hM dX6_guilt_31 fun a12 => ?_
      refine s_iadd C dX6_guilt_32 ?_
      refine s_bdi fun a13 => ?_
      refine s_istore_n (la' := [(2, .int a13), (0, vr mo), (1, .int x1), (3, .int v11.2.1), (4, .int v11.2.2)]) C 2 dX6_guilt_33 rfl (lt_nl e5 rfl) rfl ?_
      refine s_iload_n C dX6_guilt_34 3 rfl rfl ?_
      refine s_aload_n C dX6_guilt_35 1 rfl rfl ?_
      refine sm_getI 28 C hM fo_X6_270_6 rfl dX6_guilt_36 ?_
      refine s_iload C dX6_guilt_39 4 rfl ?_
      refine sm_callSI C 2 [.int v11.2.1] (ct_X6_bitOf hL hM M2 (M2.1 28) v11.2.2) (lw_S q3241 q3242 q147 q3243) nd_X6_bitOf rfl (le_fr hf rfl) (le_fr hlo rfl) rfl (Nat.le_of_ble_eq_true rfl) dX6_guilt_41 fun r15 M14 => ?_
      have hj60 : ∀ (x2 : Int32) (x4 : Int32) (y0 : Int32) (y1 : Int32) (M16 : Ms), Sim (plug h0 mo) E (QM (plug h0 mo) E finI) M16 60 [(0, vr mo), (1, .int x1), (2, .int x2), (4, .int x4)] [.int y1, .int y0] (g_guilt_j60 rec11 x1 x2 x4 y0 y1 M16) := by
        intro x2 x4 y0 y1 M16
        refine s_iadd C dX6_guilt_60 ?_
        refine s_bdi fun a17 => ?_
        refine s_istore_n (la' := [(3, .int a17), (0, vr mo), (1, .int x1), (2, .int x2), (4, .int x4)]) C 3 dX6_guilt_61 rfl (lt_nl e5 rfl) rfl ?_
        refine s_iinc (la' := [(4, .int (x4 + (1 : Int32))), (3, .int a17), (0, vr mo), (1, .int x1), (2, .int x2)]) C 4 dX6_guilt_62 rfl rfl (lt_nl e5 rfl) rfl ?_
        refine s_goto C 11 dX6_guilt_65 (by decide) ?_
        refine Sim.keep [2, 3, 4, 1, 0] rfl ?_
        exact hr11 _ _
      refine s_if_eq C 59 dX6_guilt_44 (by decide) ?_ ?_
      · refine s_iconst C (0 : Int32) dX6_guilt_59 (by decide) ?_
        refine Sim.keep [1, 2, 0, 4] rfl ?_
        exact hj60 _ _ _ _ _
      · refine s_aload_n C dX6_guilt_47 1 rfl rfl ?_
        refine sm_getA 6 C hM fo_X6_33_6 rfl (by decide) dX6_guilt_48 ?_
        refine s_iconst C (4 : Int32) dX6_guilt_51 (by decide) ?_
        refine s_iload C dX6_guilt_52 4 rfl ?_
        refine s_iadd C dX6_guilt_54 ?_
        refine sm_iald C hM dX6_guilt_55 fun a18 => ?_
        refine s_goto C 60 dX6_guilt_56 (by decide) ?_
        refine Sim.keep [1, 2, 0, 4] rfl ?_
        exact hj60 _ _ _ _ _
  refine s_istore (la' := [(4, .int (0 : Int32)), (3, .int (0 : Int32)), (2, .int (0 : Int32)), (0, vr mo), (1, .int x1)]) C dX6_guilt_9 (lt_nl e5 rfl) rfl ?_
  refine Sim.keep [3, 4, 2, 1, 0] rfl ?_
  exact hL11 _ _ _

def g_image_L51 (x1 : Int32) : Int32 → Ms → Option (Int32 × Ms) :=
  lp FU fun rec51 v51 M5 =>
    if (28 : Int32) ≤ v51 then
      (sI 2 57 x1 (1 : Int32) M5).bind fun M6 =>
      if nrw 2 (1 : Int32) = (1 : Int32) then some ((1 : Int32), M6) else none
    else
      (aL 10 v51 M5).bind fun a7 =>
      (sL 56 (((28 : Int32) * x1) + v51) a7 M5).bind fun M8 =>
      rec51 (v51 + (1 : Int32)) M8
def g_image_L18 (x1 : Int32) : Int32 → Ms → Option (Int32 × Ms) :=
  lp FU fun rec18 v18 M4 =>
    if (360 : Int32) ≤ v18 then
      g_image_L51 x1 (0 : Int32) M4
    else
      (aI 0 6 v18 M4).bind fun a9 =>
      (sI 0 55 (((360 : Int32) * x1) + v18) a9 M4).bind fun M10 =>
      rec18 (v18 + (1 : Int32)) M10
def g_image (x1 : Int32) (M : Ms) : Option (Int32 × Ms) :=
  bd (mI 0 (0 : Int32) M) fun M1 =>
  bn (g_isIn x1 (0 : Int32) (1 : Int32) M1) fun r3 M2 =>
  if r3 = 0 then
    if nrw 2 (0 : Int32) = (0 : Int32) then some ((0 : Int32), M2) else none
  else
    g_image_L18 x1 (0 : Int32) M2
theorem nd_X6_image : yX6_image.cls = RX6 ∧ yX6_image.cls ≠ "java/lang/invoke/MethodHandle" ∧ yX6_image.cls ≠ "java/lang/invoke/VarHandle" ∧ (parseMethodDescriptor yX6_image.desc).map (fun d => d.parameters.length) = some 1 := ⟨rfl, by decide +kernel, by decide +kernel, by decide +kernel⟩
theorem ct_X6_image {G : Gx} {RL : Lv} {Pl : Nat → Bool} {l : Launch} (hL : LvA G RL Pl) {h0 : Hp} {mo : Nat} (hM : MP Pl mo) (M : Ms) (x1 : Int32) : Ct (plug h0 mo) G RL l yX6_image (ws_ yX6_image cX6_image 3 (some .boolean)) 1 22 finI [vr mo, .int x1] M (g_image x1 M) := by
  refine Ct.of (Pl := Pl) [(0, vr mo), (1, .int x1)] (by decide) hL rfl (Nat.le_of_ble_eq_true rfl) ?_
  intro E C hn hf hlo e1 e2 e3 e4 e5
  subst e1; subst e2; subst e3; subst e4
  replace C : Cx E cX6_image (some .boolean) RX6 := C
  unfold g_image
  refine s_aload_n C dX6_image_0 0 rfl rfl ?_
  refine s_iconst C (0 : Int32) dX6_image_1 (by decide) ?_
  refine sm_putI 0 0 C hM fo_X6_1_6 rfl ⟨by decide, by decide, rfl⟩ rfl rfl dX6_image_2 ?_
  refine s_bdh fun M1 => ?_
  refine s_iload_n C dX6_image_5 1 rfl rfl ?_
  refine s_iconst C (0 : Int32) dX6_image_6 (by decide) ?_
  refine s_iconst C (1 : Int32) dX6_image_7 (by decide) ?_
  refine sm_callSI C 3 [] (ct_X6_isIn hL hM M1 x1 (0 : Int32) (1 : Int32)) (lw_S q3150 q3151 q147 q3152) nd_X6_isIn rfl (le_fr hf rfl) (le_fr hlo rfl) rfl (Nat.le_of_ble_eq_true rfl) dX6_image_8 fun r3 M2 => ?_
  refine s_if_ne C 16 dX6_image_11 (by decide) ?_ ?_
  · refine s_iconst C (0 : Int32) dX6_image_16 (by decide) ?_
    have hL18 : ∀ (x1 : Int32) (v18 : Int32) (M4 : Ms), Sim (plug h0 mo) E (QM (plug h0 mo) E finI) M4 18 [(0, vr mo), (1, .int x1), (2, .int v18)] [] (g_image_L18 x1 v18 M4) := by
      intro x1 v18 M4
      refine Sim.loop (fun v18 => [(0, vr mo), (1, .int x1), (2, .int v18)]) (fun _ => []) (fun rec18 hr18 v18 M4 => ?_) FU v18 M4
      refine s_iload_n C dX6_image_18 2 rfl rfl ?_
      refine s_sipush C (360 : Int32) dX6_image_19 (by decide) ?_
      refine s_icmp_ge C 49 dX6_image_22 (by decide) ?_ ?_
      · refine s_iconst C (0 : Int32) dX6_image_49 (by decide) ?_
        have hL51 : ∀ (x1 : Int32) (v51 : Int32) (M5 : Ms), Sim (plug h0 mo) E (QM (plug h0 mo) E finI) M5 51 [(0, vr mo), (1, .int x1), (2, .int v51)] [] (g_image_L51 x1 v51 M5) := by
          intro x1 v51 M5
          refine Sim.loop (fun v51 => [(0, vr mo), (1, .int x1), (2, .int v51)]) (fun _ => []) (fun rec51 hr51 v51 M5 => ?_) FU v51 M5
          refine s_iload_n C dX6_image_51 2 rfl rfl ?_
          refine s_bipush C (28 : Int32) dX6_image_52 (by decide) ?_
          refine s_icmp_ge C 80 dX6_image_54 (by decide) ?_ ?_
          · refine s_aload_n C dX6_image_80 0 rfl rfl ?_
            refine sm_getA 57 C hM fo_X6_102_6 rfl (by decide) dX6_image_81 ?_
            refine s_iload_n C dX6_image_84 1 rfl rfl ?_
            refine s_iconst C (1 : Int32) dX6_image_85 (by decide) ?_
            refine sm_zast C hM dX6_image_86 fun M6 => ?_
            refine s_iconst C (1 : Int32) dX6_image_87 (by decide) ?_
            exact s_zret 2 C (by decide) (by decide) rfl dX6_image_88
          · refine s_aload_n C dX6_image_57 0 rfl rfl ?_
            refine sm_getA 56 C hM fo_X6_99_6 rfl (by decide) dX6_image_58 ?_
            refine s_bipush C (28 : Int32) dX6_image_61 (by decide) ?_
            refine s_iload_n C dX6_image_63 1 rfl rfl ?_
            refine s_imul C dX6_image_64 ?_
            refine s_iload_n C dX6_image_65 2 rfl rfl ?_
            refine s_iadd C dX6_image_66 ?_
            refine s_aload_n C dX6_image_67 0 rfl rfl ?_
            refine sm_getA 10 C hM fo_X6_46_6 rfl (by decide) dX6_image_68 ?_
            refine s_iload_n C dX6_image_71 2 rfl rfl ?_
            refine sm_lald C hM dX6_image_72 fun a7 => ?_
            refine sm_last C hM dX6_image_73 fun M8 => ?_
            refine s_iinc (la' := [(2, .int (v51 + (1 : Int32))), (0, vr mo), (1, .int x1)]) C 2 dX6_image_74 rfl rfl (lt_nl e5 rfl) rfl ?_
            refine s_goto C 51 dX6_image_77 (by decide) ?_
            refine Sim.keep [1, 2, 0] rfl ?_
            exact hr51 _ _
        refine s_istore_n (la' := [(2, .int (0 : Int32)), (0, vr mo), (1, .int x1)]) C 2 dX6_image_50 rfl (lt_nl e5 rfl) rfl ?_
        refine Sim.keep [1, 2, 0] rfl ?_
        exact hL51 _ _ _
      · refine s_aload_n C dX6_image_25 0 rfl rfl ?_
        refine sm_getA 55 C hM fo_X6_96_6 rfl (by decide) dX6_image_26 ?_
        refine s_sipush C (360 : Int32) dX6_image_29 (by decide) ?_
        refine s_iload_n C dX6_image_32 1 rfl rfl ?_
        refine s_imul C dX6_image_33 ?_
        refine s_iload_n C dX6_image_34 2 rfl rfl ?_
        refine s_iadd C dX6_image_35 ?_
        refine s_aload_n C dX6_image_36 0 rfl rfl ?_
        refine sm_getA 6 C hM fo_X6_33_6 rfl (by decide) dX6_image_37 ?_
        refine s_iload_n C dX6_image_40 2 rfl rfl ?_
        refine sm_iald C hM dX6_image_41 fun a9 => ?_
        refine sm_iast C hM dX6_image_42 fun M10 => ?_
        refine s_iinc (la' := [(2, .int (v18 + (1 : Int32))), (0, vr mo), (1, .int x1)]) C 2 dX6_image_43 rfl rfl (lt_nl e5 rfl) rfl ?_
        refine s_goto C 18 dX6_image_46 (by decide) ?_
        refine Sim.keep [1, 2, 0] rfl ?_
        exact hr18 _ _
    refine s_istore_n (la' := [(2, .int (0 : Int32)), (0, vr mo), (1, .int x1)]) C 2 dX6_image_17 rfl (lt_nl e5 rfl) rfl ?_
    refine Sim.keep [1, 2, 0] rfl ?_
    exact hL18 _ _ _
  · refine s_iconst C (0 : Int32) dX6_image_14 (by decide) ?_
    exact s_zret 2 C (by decide) (by decide) rfl dX6_image_15

def g_isChosen_j35 (rec8 : (Int32 × Int32) → Ms → Option (Int32 × Ms)) (x1 : Int32) (x3 : Int32) (y0 : Int32) (M3 : Ms) : Option (Int32 × Ms) :=
  rec8 (y0, (x3 + (1 : Int32))) M3
def g_isChosen_j30 (rec8 : (Int32 × Int32) → Ms → Option (Int32 × Ms)) (x1 : Int32) (x3 : Int32) (M4 : Ms) : Option (Int32 × Ms) :=
  g_isChosen_j35 rec8 x1 x3 (1 : Int32) M4
def g_isChosen_L8 (x1 : Int32) : (Int32 × Int32) → Ms → Option (Int32 × Ms) :=
  lp FU fun rec8 v8 M2 =>
    if (M2.1 30) ≤ v8.2 then
      if nrw 2 v8.1 = v8.1 then some (v8.1, M2) else none
    else
      if v8.1 = 0 then
        (aI 0 25 v8.2 M2).bind fun a5 =>
        if a5 = x1 then
          g_isChosen_j30 rec8 x1 v8.2 M2
        else
          g_isChosen_j35 rec8 x1 v8.2 (0 : Int32) M2
      else
        g_isChosen_j30 rec8 x1 v8.2 M2
def g_isChosen (x1 : Int32) (M : Ms) : Option (Int32 × Ms) :=
  bn (g_lays  M) fun _ M1 =>
  g_isChosen_L8 x1 ((0 : Int32), (0 : Int32)) M1
theorem nd_X6_isChosen : yX6_isChosen.cls = RX6 ∧ yX6_isChosen.cls ≠ "java/lang/invoke/MethodHandle" ∧ yX6_isChosen.cls ≠ "java/lang/invoke/VarHandle" ∧ (parseMethodDescriptor yX6_isChosen.desc).map (fun d => d.parameters.length) = some 1 := ⟨rfl, by decide +kernel, by decide +kernel, by decide +kernel⟩
theorem ct_X6_isChosen {G : Gx} {RL : Lv} {Pl : Nat → Bool} {l : Launch} (hL : LvA G RL Pl) {h0 : Hp} {mo : Nat} (hM : MP Pl mo) (M : Ms) (x1 : Int32) : Ct (plug h0 mo) G RL l yX6_isChosen (ws_ yX6_isChosen cX6_isChosen 4 (some .boolean)) 7 163 finI [vr mo, .int x1] M (g_isChosen x1 M) := by
  refine Ct.of (Pl := Pl) [(0, vr mo), (1, .int x1)] (by decide) hL rfl (Nat.le_of_ble_eq_true rfl) ?_
  intro E C hn hf hlo e1 e2 e3 e4 e5
  subst e1; subst e2; subst e3; subst e4
  replace C : Cx E cX6_isChosen (some .boolean) RX6 := C
  unfold g_isChosen
  refine s_aload_n C dX6_isChosen_0 0 rfl rfl ?_
  refine sm_callV C 0 [] (ct_X6_lays hL hM M ) (lw_V q3201 q3203 qs59 q147 q3204) nd_X6_lays rfl (le_fr hf rfl) (le_fr hlo rfl) rfl (Nat.le_of_ble_eq_true rfl) dX6_isChosen_1 fun _ M1 => ?_
  refine s_iconst C (0 : Int32) dX6_isChosen_4 (by decide) ?_
  refine s_istore_n (la' := [(2, .int (0 : Int32)), (0, vr mo), (1, .int x1)]) C 2 dX6_isChosen_5 rfl (lt_nl e5 rfl) rfl ?_
  refine s_iconst C (0 : Int32) dX6_isChosen_6 (by decide) ?_
  have hL8 : ∀ (x1 : Int32) (v8 : (Int32 × Int32)) (M2 : Ms), Sim (plug h0 mo) E (QM (plug h0 mo) E finI) M2 8 [(0, vr mo), (1, .int x1), (2, .int v8.1), (3, .int v8.2)] [] (g_isChosen_L8 x1 v8 M2) := by
    intro x1 v8 M2
    refine Sim.loop (fun v8 => [(0, vr mo), (1, .int x1), (2, .int v8.1), (3, .int v8.2)]) (fun _ => []) (fun rec8 hr8 v8 M2 => ?_) FU v8 M2
    refine s_iload_n C dX6_isChosen_8 3 rfl rfl ?_
    refine s_aload_n C dX6_isChosen_9 0 rfl rfl ?_
    refine sm_getI 30 C hM fo_X6_297_6 rfl dX6_isChosen_10 ?_
    refine s_icmp_ge C 42 dX6_isChosen_13 (by decide) ?_ ?_
    · refine s_iload_n C dX6_isChosen_42 2 rfl rfl ?_
      exact s_zret 2 C (by decide) (by decide) rfl dX6_isChosen_43
    · refine s_iload_n C dX6_isChosen_16 2 rfl rfl ?_
      have hj35 : ∀ (x3 : Int32) (y0 : Int32) (M3 : Ms), Sim (plug h0 mo) E (QM (plug h0 mo) E finI) M3 35 [(0, vr mo), (1, .int x1), (3, .int x3)] [.int y0] (g_isChosen_j35 rec8 x1 x3 y0 M3) := by
        intro x3 y0 M3
        refine s_istore_n (la' := [(2, .int y0), (0, vr mo), (1, .int x1), (3, .int x3)]) C 2 dX6_isChosen_35 rfl (lt_nl e5 rfl) rfl ?_
        refine s_iinc (la' := [(3, .int (x3 + (1 : Int32))), (2, .int y0), (0, vr mo), (1, .int x1)]) C 3 dX6_isChosen_36 rfl rfl (lt_nl e5 rfl) rfl ?_
        refine s_goto C 8 dX6_isChosen_39 (by decide) ?_
        refine Sim.keep [2, 3, 1, 0] rfl ?_
        exact hr8 _ _
      have hj30 : ∀ (x3 : Int32) (M4 : Ms), Sim (plug h0 mo) E (QM (plug h0 mo) E finI) M4 30 [(0, vr mo), (1, .int x1), (3, .int x3)] [] (g_isChosen_j30 rec8 x1 x3 M4) := by
        intro x3 M4
        refine s_iconst C (1 : Int32) dX6_isChosen_30 (by decide) ?_
        refine s_goto C 35 dX6_isChosen_31 (by decide) ?_
        exact hj35 _ _ _
      refine s_if_ne C 30 dX6_isChosen_17 (by decide) ?_ ?_
      · refine Sim.keep [0, 1, 3] rfl ?_
        exact hj30 _ _
      · refine s_aload_n C dX6_isChosen_20 0 rfl rfl ?_
        refine sm_getA 25 C hM fo_X6_65_6 rfl (by decide) dX6_isChosen_21 ?_
        refine s_iload_n C dX6_isChosen_24 3 rfl rfl ?_
        refine sm_iald C hM dX6_isChosen_25 fun a5 => ?_
        refine s_iload_n C dX6_isChosen_26 1 rfl rfl ?_
        refine s_icmp_ne C 34 dX6_isChosen_27 (by decide) ?_ ?_
        · refine s_iconst C (0 : Int32) dX6_isChosen_34 (by decide) ?_
          refine Sim.keep [0, 1, 3] rfl ?_
          exact hj35 _ _ _
        · refine Sim.keep [0, 1, 3] rfl ?_
          exact hj30 _ _
  refine s_istore_n (la' := [(3, .int (0 : Int32)), (2, .int (0 : Int32)), (0, vr mo), (1, .int x1)]) C 3 dX6_isChosen_7 rfl (lt_nl e5 rfl) rfl ?_
  refine Sim.keep [2, 3, 1, 0] rfl ?_
  exact hL8 _ _ _

def g_isSo_j48 (y0 : Int32) (M1 : Ms) : Option (Int32 × Ms) :=
  if nrw 2 y0 = y0 then some (y0, M1) else none
def g_isSo (x0 : Int32) (x1 : Int32) (x2 : Int32) (M : Ms) : Option (Int32 × Ms) :=
  if x0 = (60 : Int32) then
    if x2 ≤ x1 then
      g_isSo_j48 (0 : Int32) M
    else
      g_isSo_j48 (1 : Int32) M
  else
    if x0 = (61 : Int32) then
      if x1 = x2 then
        g_isSo_j48 (1 : Int32) M
      else
        g_isSo_j48 (0 : Int32) M
    else
      if x1 ≤ x2 then
        g_isSo_j48 (0 : Int32) M
      else
        g_isSo_j48 (1 : Int32) M
theorem nd_X6_isSo : yX6_isSo.cls = RX6 ∧ yX6_isSo.cls ≠ "java/lang/invoke/MethodHandle" ∧ yX6_isSo.cls ≠ "java/lang/invoke/VarHandle" ∧ (parseMethodDescriptor yX6_isSo.desc).map (fun d => d.parameters.length) = some 3 := ⟨rfl, by decide +kernel, by decide +kernel, by decide +kernel⟩
theorem ct_X6_isSo {G : Gx} {RL : Lv} {Pl : Nat → Bool} {l : Launch} (hL : LvA G RL Pl) {h0 : Hp} {mo : Nat} (hM : MP Pl mo) (M : Ms) (x0 : Int32) (x1 : Int32) (x2 : Int32) : Ct (plug h0 mo) G RL l yX6_isSo (ws_ yX6_isSo cX6_isSo 3 (some .boolean)) 0 0 finI [.int x0, .int x1, .int x2] M (g_isSo x0 x1 x2 M) := by
  refine Ct.of (Pl := Pl) [(0, .int x0), (1, .int x1), (2, .int x2)] (by decide) hL rfl (Nat.le_of_ble_eq_true rfl) ?_
  intro E C hn hf hlo e1 e2 e3 e4 e5
  subst e1; subst e2; subst e3; subst e4
  replace C : Cx E cX6_isSo (some .boolean) RX6 := C
  unfold g_isSo
  refine s_iload_n C dX6_isSo_0 0 rfl rfl ?_
  refine s_bipush C (60 : Int32) dX6_isSo_1 (by decide) ?_
  have hj48 : ∀ (y0 : Int32) (M1 : Ms), Sim (plug h0 mo) E (QM (plug h0 mo) E finI) M1 48 [] [.int y0] (g_isSo_j48 y0 M1) := by
    intro y0 M1
    exact s_zret 2 C (by decide) (by decide) rfl dX6_isSo_48
  refine s_icmp_ne C 19 dX6_isSo_3 (by decide) ?_ ?_
  · refine s_iload_n C dX6_isSo_19 0 rfl rfl ?_
    refine s_bipush C (61 : Int32) dX6_isSo_20 (by decide) ?_
    refine s_icmp_ne C 38 dX6_isSo_22 (by decide) ?_ ?_
    · refine s_iload_n C dX6_isSo_38 1 rfl rfl ?_
      refine s_iload_n C dX6_isSo_39 2 rfl rfl ?_
      refine s_icmp_le C 47 dX6_isSo_40 (by decide) ?_ ?_
      · refine s_iconst C (0 : Int32) dX6_isSo_47 (by decide) ?_
        refine Sim.keep [] rfl ?_
        exact hj48 _ _
      · refine s_iconst C (1 : Int32) dX6_isSo_43 (by decide) ?_
        refine s_goto C 48 dX6_isSo_44 (by decide) ?_
        refine Sim.keep [] rfl ?_
        exact hj48 _ _
    · refine s_iload_n C dX6_isSo_25 1 rfl rfl ?_
      refine s_iload_n C dX6_isSo_26 2 rfl rfl ?_
      refine s_icmp_ne C 34 dX6_isSo_27 (by decide) ?_ ?_
      · refine s_iconst C (0 : Int32) dX6_isSo_34 (by decide) ?_
        refine s_goto C 48 dX6_isSo_35 (by decide) ?_
        refine Sim.keep [] rfl ?_
        exact hj48 _ _
      · refine s_iconst C (1 : Int32) dX6_isSo_30 (by decide) ?_
        refine s_goto C 48 dX6_isSo_31 (by decide) ?_
        refine Sim.keep [] rfl ?_
        exact hj48 _ _
  · refine s_iload_n C dX6_isSo_6 1 rfl rfl ?_
    refine s_iload_n C dX6_isSo_7 2 rfl rfl ?_
    refine s_icmp_ge C 15 dX6_isSo_8 (by decide) ?_ ?_
    · refine s_iconst C (0 : Int32) dX6_isSo_15 (by decide) ?_
      refine s_goto C 48 dX6_isSo_16 (by decide) ?_
      refine Sim.keep [] rfl ?_
      exact hj48 _ _
    · refine s_iconst C (1 : Int32) dX6_isSo_11 (by decide) ?_
      refine s_goto C 48 dX6_isSo_12 (by decide) ?_
      refine Sim.keep [] rfl ?_
      exact hj48 _ _

def g_isLeaf_j65 (y0 : Int32) (M3 : Ms) : Option (Int32 × Ms) :=
  if nrw 2 y0 = y0 then some (y0, M3) else none
def g_isLeaf_j144 (y0 : Int32) (M19 : Ms) : Option (Int32 × Ms) :=
  if nrw 2 y0 = y0 then some (y0, M19) else none
def g_isLeaf_j143  (M20 : Ms) : Option (Int32 × Ms) :=
  g_isLeaf_j144 (0 : Int32) M20
def g_isLeaf (x1 : Int32) (x2 : Int32) (x3 : Int32) (x4 : Int32) (M : Ms) : Option (Int32 × Ms) :=
  swi x2 (bn (g_isSo x3 x1 x4 M) fun r29 M28 =>
    if nrw 2 r29 = r29 then some (r29, M28) else none) [
    ((0 : Int32), bn (g_on x1 M) fun r2 M1 =>
    if r2 = 0 then
      g_isLeaf_j65 (1 : Int32) M1
    else
      g_isLeaf_j65 (0 : Int32) M1),
    ((1 : Int32), bn (g_isPoint x1 M) fun r5 M4 =>
    if nrw 2 r5 = r5 then some (r5, M4) else none),
    ((2 : Int32), bn (g_bitOf (M.1 26) x1 M) fun r7 M6 =>
    if nrw 2 r7 = r7 then some (r7, M6) else none),
    ((3 : Int32), bn (g_bitOf (M.1 27) x1 M) fun r9 M8 =>
    if nrw 2 r9 = r9 then some (r9, M8) else none),
    ((4 : Int32), bn (g_isChosen x1 M) fun r11 M10 =>
    if nrw 2 r11 = r11 then some (r11, M10) else none),
    ((5 : Int32), bn (g_isAhead x4 x1 M) fun r13 M12 =>
    if nrw 2 r13 = r13 then some (r13, M12) else none),
    ((6 : Int32), (aI 0 21 x1 M).bind fun a14 =>
    bn (g_isSo x3 a14 x4 M) fun r16 M15 =>
    if nrw 2 r16 = r16 then some (r16, M15) else none),
    ((7 : Int32), bn (g_isPoint x1 M) fun r18 M17 =>
    if r18 = 0 then
      g_isLeaf_j143 M17
    else
      bn (g_level x1 M17) fun r22 M21 =>
      bn (g_isSo x3 r22 x4 M21) fun r24 M23 =>
      if r24 = 0 then
        g_isLeaf_j143 M23
      else
        g_isLeaf_j144 (1 : Int32) M23),
    ((8 : Int32), (aI 0 24 x1 M).bind fun a25 =>
    bn (g_isSo x3 a25 x4 M) fun r27 M26 =>
    if nrw 2 r27 = r27 then some (r27, M26) else none)]
theorem nd_X6_isLeaf : yX6_isLeaf.cls = RX6 ∧ yX6_isLeaf.cls ≠ "java/lang/invoke/MethodHandle" ∧ yX6_isLeaf.cls ≠ "java/lang/invoke/VarHandle" ∧ (parseMethodDescriptor yX6_isLeaf.desc).map (fun d => d.parameters.length) = some 4 := ⟨rfl, by decide +kernel, by decide +kernel, by decide +kernel⟩
theorem ct_X6_isLeaf {G : Gx} {RL : Lv} {Pl : Nat → Bool} {l : Launch} (hL : LvA G RL Pl) {h0 : Hp} {mo : Nat} (hM : MP Pl mo) (M : Ms) (x1 : Int32) (x2 : Int32) (x3 : Int32) (x4 : Int32) : Ct (plug h0 mo) G RL l yX6_isLeaf (ws_ yX6_isLeaf cX6_isLeaf 5 (some .boolean)) 8 186 finI [vr mo, .int x1, .int x2, .int x3, .int x4] M (g_isLeaf x1 x2 x3 x4 M) := by
  refine Ct.of (Pl := Pl) [(0, vr mo), (1, .int x1), (2, .int x2), (3, .int x3), (4, .int x4)] (by decide) hL rfl (Nat.le_of_ble_eq_true rfl) ?_
  intro E C hn hf hlo e1 e2 e3 e4 e5
  subst e1; subst e2; subst e3; subst e4
  replace C : Cx E cX6_isLeaf (some .boolean) RX6 := C
  unfold g_isLeaf
  refine s_iload_n C dX6_isLeaf_0 2 rfl rfl ?_
  refine s_tsw C 158 dX6_isLeaf_1 [(0 : Int32), (1 : Int32), (2 : Int32), (3 : Int32), (4 : Int32), (5 : Int32), (6 : Int32), (7 : Int32), (8 : Int32)] rfl (by decide +kernel) (by decide) (by decide) ⟨⟨52, by decide, ?_⟩, ⟨⟨66, by decide, ?_⟩, ⟨⟨72, by decide, ?_⟩, ⟨⟨81, by decide, ?_⟩, ⟨⟨90, by decide, ?_⟩, ⟨⟨96, by decide, ?_⟩, ⟨⟨104, by decide, ?_⟩, ⟨⟨117, by decide, ?_⟩, ⟨⟨145, by decide, ?_⟩, trivial⟩⟩⟩⟩⟩⟩⟩⟩⟩ ?_
  · refine s_aload_n C dX6_isLeaf_52 0 rfl rfl ?_
    refine s_iload_n C dX6_isLeaf_53 1 rfl rfl ?_
    refine sm_callI C 1 [] (ct_X6_on hL hM M x1) (lw_V q3264 q3266 qs74 q147 q3267) nd_X6_on rfl (le_fr hf rfl) (le_fr hlo rfl) rfl (Nat.le_of_ble_eq_true rfl) dX6_isLeaf_54 fun r2 M1 => ?_
    have hj65 : ∀ (y0 : Int32) (M3 : Ms), Sim (plug h0 mo) E (QM (plug h0 mo) E finI) M3 65 [] [.int y0] (g_isLeaf_j65 y0 M3) := by
      intro y0 M3
      exact s_zret 2 C (by decide) (by decide) rfl dX6_isLeaf_65
    refine s_if_ne C 64 dX6_isLeaf_57 (by decide) ?_ ?_
    · refine s_iconst C (0 : Int32) dX6_isLeaf_64 (by decide) ?_
      refine Sim.keep [] rfl ?_
      exact hj65 _ _
    · refine s_iconst C (1 : Int32) dX6_isLeaf_60 (by decide) ?_
      refine s_goto C 65 dX6_isLeaf_61 (by decide) ?_
      refine Sim.keep [] rfl ?_
      exact hj65 _ _
  · refine s_aload_n C dX6_isLeaf_66 0 rfl rfl ?_
    refine s_iload_n C dX6_isLeaf_67 1 rfl rfl ?_
    refine sm_callI C 1 [] (ct_X6_isPoint hL hM M x1) (lw_V q3260 q3262 qs73 q147 q3263) nd_X6_isPoint rfl (le_fr hf rfl) (le_fr hlo rfl) rfl (Nat.le_of_ble_eq_true rfl) dX6_isLeaf_68 fun r5 M4 => ?_
    exact s_zret 2 C (by decide) (by decide) rfl dX6_isLeaf_71
  · refine s_aload_n C dX6_isLeaf_72 0 rfl rfl ?_
    refine sm_getI 26 C hM fo_X6_282_6 rfl dX6_isLeaf_73 ?_
    refine s_iload_n C dX6_isLeaf_76 1 rfl rfl ?_
    refine sm_callSI C 2 [] (ct_X6_bitOf hL hM M (M.1 26) x1) (lw_S q3241 q3242 q147 q3243) nd_X6_bitOf rfl (le_fr hf rfl) (le_fr hlo rfl) rfl (Nat.le_of_ble_eq_true rfl) dX6_isLeaf_77 fun r7 M6 => ?_
    exact s_zret 2 C (by decide) (by decide) rfl dX6_isLeaf_80
  · refine s_aload_n C dX6_isLeaf_81 0 rfl rfl ?_
    refine sm_getI 27 C hM fo_X6_285_6 rfl dX6_isLeaf_82 ?_
    refine s_iload_n C dX6_isLeaf_85 1 rfl rfl ?_
    refine sm_callSI C 2 [] (ct_X6_bitOf hL hM M (M.1 27) x1) (lw_S q3241 q3242 q147 q3243) nd_X6_bitOf rfl (le_fr hf rfl) (le_fr hlo rfl) rfl (Nat.le_of_ble_eq_true rfl) dX6_isLeaf_86 fun r9 M8 => ?_
    exact s_zret 2 C (by decide) (by decide) rfl dX6_isLeaf_89
  · refine s_aload_n C dX6_isLeaf_90 0 rfl rfl ?_
    refine s_iload_n C dX6_isLeaf_91 1 rfl rfl ?_
    refine sm_callI C 1 [] (ct_X6_isChosen hL hM M x1) (lw_V q3465 q3467 qs95 q147 q3468) nd_X6_isChosen rfl (le_fr hf rfl) (le_fr hlo rfl) rfl (Nat.le_of_ble_eq_true rfl) dX6_isLeaf_92 fun r11 M10 => ?_
    exact s_zret 2 C (by decide) (by decide) rfl dX6_isLeaf_95
  · refine s_aload_n C dX6_isLeaf_96 0 rfl rfl ?_
    refine s_iload C dX6_isLeaf_97 4 rfl ?_
    refine s_iload_n C dX6_isLeaf_99 1 rfl rfl ?_
    refine sm_callI C 2 [] (ct_X6_isAhead hL hM M x4 x1) (lw_V q3275 q3277 qs75 q147 q3278) nd_X6_isAhead rfl (le_fr hf rfl) (le_fr hlo rfl) rfl (Nat.le_of_ble_eq_true rfl) dX6_isLeaf_100 fun r13 M12 => ?_
    exact s_zret 2 C (by decide) (by decide) rfl dX6_isLeaf_103
  · refine s_iload_n C dX6_isLeaf_104 3 rfl rfl ?_
    refine s_aload_n C dX6_isLeaf_105 0 rfl rfl ?_
    refine sm_getA 21 C hM fo_X6_53_6 rfl (by decide) dX6_isLeaf_106 ?_
    refine s_iload_n C dX6_isLeaf_109 1 rfl rfl ?_
    refine sm_iald C hM dX6_isLeaf_110 fun a14 => ?_
    refine s_iload C dX6_isLeaf_111 4 rfl ?_
    refine sm_callSI C 3 [] (ct_X6_isSo hL hM M x3 a14 x4) (lw_S q3525 q3526 q147 q3527) nd_X6_isSo rfl (le_fr hf rfl) (le_fr hlo rfl) rfl (Nat.le_of_ble_eq_true rfl) dX6_isLeaf_113 fun r16 M15 => ?_
    exact s_zret 2 C (by decide) (by decide) rfl dX6_isLeaf_116
  · refine s_aload_n C dX6_isLeaf_117 0 rfl rfl ?_
    refine s_iload_n C dX6_isLeaf_118 1 rfl rfl ?_
    refine sm_callI C 1 [] (ct_X6_isPoint hL hM M x1) (lw_V q3260 q3262 qs73 q147 q3263) nd_X6_isPoint rfl (le_fr hf rfl) (le_fr hlo rfl) rfl (Nat.le_of_ble_eq_true rfl) dX6_isLeaf_119 fun r18 M17 => ?_
    have hj144 : ∀ (y0 : Int32) (M19 : Ms), Sim (plug h0 mo) E (QM (plug h0 mo) E finI) M19 144 [] [.int y0] (g_isLeaf_j144 y0 M19) := by
      intro y0 M19
      exact s_zret 2 C (by decide) (by decide) rfl dX6_isLeaf_144
    have hj143 : ∀  (M20 : Ms), Sim (plug h0 mo) E (QM (plug h0 mo) E finI) M20 143 [] [] (g_isLeaf_j143 M20) := by
      intro M20
      refine s_iconst C (0 : Int32) dX6_isLeaf_143 (by decide) ?_
      exact hj144 _ _
    refine s_if_eq C 143 dX6_isLeaf_122 (by decide) ?_ ?_
    · refine Sim.keep [] rfl ?_
      exact hj143 _
    · refine s_iload_n C dX6_isLeaf_125 3 rfl rfl ?_
      refine s_aload_n C dX6_isLeaf_126 0 rfl rfl ?_
      refine s_iload_n C dX6_isLeaf_127 1 rfl rfl ?_
      refine sm_callI C 1 [.int x3] (ct_X6_level hL hM M17 x1) (lw_V q3221 q3223 qs64 q147 q3224) nd_X6_level rfl (le_fr hf rfl) (le_fr hlo rfl) rfl (Nat.le_of_ble_eq_true rfl) dX6_isLeaf_128 fun r22 M21 => ?_
      refine s_iload C dX6_isLeaf_131 4 rfl ?_
      refine sm_callSI C 3 [] (ct_X6_isSo hL hM M21 x3 r22 x4) (lw_S q3525 q3526 q147 q3527) nd_X6_isSo rfl (le_fr hf rfl) (le_fr hlo rfl) rfl (Nat.le_of_ble_eq_true rfl) dX6_isLeaf_133 fun r24 M23 => ?_
      refine s_if_eq C 143 dX6_isLeaf_136 (by decide) ?_ ?_
      · refine Sim.keep [] rfl ?_
        exact hj143 _
      · refine s_iconst C (1 : Int32) dX6_isLeaf_139 (by decide) ?_
        refine s_goto C 144 dX6_isLeaf_140 (by decide) ?_
        refine Sim.keep [] rfl ?_
        exact hj144 _ _
  · refine s_iload_n C dX6_isLeaf_145 3 rfl rfl ?_
    refine s_aload_n C dX6_isLeaf_146 0 rfl rfl ?_
    refine sm_getA 24 C hM fo_X6_62_6 rfl (by decide) dX6_isLeaf_147 ?_
    refine s_iload_n C dX6_isLeaf_150 1 rfl rfl ?_
    refine sm_iald C hM dX6_isLeaf_151 fun a25 => ?_
    refine s_iload C dX6_isLeaf_152 4 rfl ?_
    refine sm_callSI C 3 [] (ct_X6_isSo hL hM M x3 a25 x4) (lw_S q3525 q3526 q147 q3527) nd_X6_isSo rfl (le_fr hf rfl) (le_fr hlo rfl) rfl (Nat.le_of_ble_eq_true rfl) dX6_isLeaf_154 fun r27 M26 => ?_
    exact s_zret 2 C (by decide) (by decide) rfl dX6_isLeaf_157
  · refine s_iload_n C dX6_isLeaf_158 3 rfl rfl ?_
    refine s_iload_n C dX6_isLeaf_159 1 rfl rfl ?_
    refine s_iload C dX6_isLeaf_160 4 rfl ?_
    refine sm_callSI C 3 [] (ct_X6_isSo hL hM M x3 x1 x4) (lw_S q3525 q3526 q147 q3527) nd_X6_isSo rfl (le_fr hf rfl) (le_fr hlo rfl) rfl (Nat.le_of_ble_eq_true rfl) dX6_isLeaf_162 fun r29 M28 => ?_
    exact s_zret 2 C (by decide) (by decide) rfl dX6_isLeaf_165

def g_isLink_j16  (M3 : Ms) : Option (Int32 × Ms) :=
  if nrw 2 (0 : Int32) = (0 : Int32) then some ((0 : Int32), M3) else none
def g_isLink_j52 (y0 : Int32) (M9 : Ms) : Option (Int32 × Ms) :=
  if nrw 2 y0 = y0 then some (y0, M9) else none
def g_isLink_j51  (M10 : Ms) : Option (Int32 × Ms) :=
  g_isLink_j52 (0 : Int32) M10
def g_isLink (x1 : Int32) (x2 : Int32) (M : Ms) : Option (Int32 × Ms) :=
  bn (g_isBlock x1 M) fun r2 M1 =>
  if r2 = 0 then
    g_isLink_j16 M1
  else
    bn (g_isBlock x2 M1) fun r5 M4 =>
    if r5 = 0 then
      g_isLink_j16 M4
    else
      bn (g_lays  M4) fun _ M6 =>
      bn (g_isPoint x1 M6) fun r8 M7 =>
      if r8 = 0 then
        g_isLink_j51 M7
      else
        bn (g_isPoint x2 M7) fun r12 M11 =>
        if r12 = 0 then
          g_isLink_j51 M11
        else
          bn (g_isAhead x1 x2 M11) fun r14 M13 =>
          if r14 = 0 then
            g_isLink_j51 M13
          else
            g_isLink_j52 (1 : Int32) M13
theorem nd_X6_isLink : yX6_isLink.cls = RX6 ∧ yX6_isLink.cls ≠ "java/lang/invoke/MethodHandle" ∧ yX6_isLink.cls ≠ "java/lang/invoke/VarHandle" ∧ (parseMethodDescriptor yX6_isLink.desc).map (fun d => d.parameters.length) = some 2 := ⟨rfl, by decide +kernel, by decide +kernel, by decide +kernel⟩
theorem ct_X6_isLink {G : Gx} {RL : Lv} {Pl : Nat → Bool} {l : Launch} (hL : LvA G RL Pl) {h0 : Hp} {mo : Nat} (hM : MP Pl mo) (M : Ms) (x1 : Int32) (x2 : Int32) : Ct (plug h0 mo) G RL l yX6_isLink (ws_ yX6_isLink cX6_isLink 3 (some .boolean)) 7 163 finI [vr mo, .int x1, .int x2] M (g_isLink x1 x2 M) := by
  refine Ct.of (Pl := Pl) [(0, vr mo), (1, .int x1), (2, .int x2)] (by decide) hL rfl (Nat.le_of_ble_eq_true rfl) ?_
  intro E C hn hf hlo e1 e2 e3 e4 e5
  subst e1; subst e2; subst e3; subst e4
  replace C : Cx E cX6_isLink (some .boolean) RX6 := C
  unfold g_isLink
  refine s_aload_n C dX6_isLink_0 0 rfl rfl ?_
  refine s_iload_n C dX6_isLink_1 1 rfl rfl ?_
  refine sm_callI C 1 [] (ct_X6_isBlock hL hM M x1) (lw_V q3193 q3195 qs57 q147 q3196) nd_X6_isBlock rfl (le_fr hf rfl) (le_fr hlo rfl) rfl (Nat.le_of_ble_eq_true rfl) dX6_isLink_2 fun r2 M1 => ?_
  have hj16 : ∀  (M3 : Ms), Sim (plug h0 mo) E (QM (plug h0 mo) E finI) M3 16 [] [] (g_isLink_j16 M3) := by
    intro M3
    refine s_iconst C (0 : Int32) dX6_isLink_16 (by decide) ?_
    exact s_zret 2 C (by decide) (by decide) rfl dX6_isLink_17
  refine s_if_eq C 16 dX6_isLink_5 (by decide) ?_ ?_
  · refine Sim.keep [] rfl ?_
    exact hj16 _
  · refine s_aload_n C dX6_isLink_8 0 rfl rfl ?_
    refine s_iload_n C dX6_isLink_9 2 rfl rfl ?_
    refine sm_callI C 1 [] (ct_X6_isBlock hL hM M1 x2) (lw_V q3193 q3195 qs57 q147 q3196) nd_X6_isBlock rfl (le_fr hf rfl) (le_fr hlo rfl) rfl (Nat.le_of_ble_eq_true rfl) dX6_isLink_10 fun r5 M4 => ?_
    refine s_if_ne C 18 dX6_isLink_13 (by decide) ?_ ?_
    · refine s_aload_n C dX6_isLink_18 0 rfl rfl ?_
      refine sm_callV C 0 [] (ct_X6_lays hL hM M4 ) (lw_V q3201 q3203 qs59 q147 q3204) nd_X6_lays rfl (le_fr hf rfl) (le_fr hlo rfl) rfl (Nat.le_of_ble_eq_true rfl) dX6_isLink_19 fun _ M6 => ?_
      refine s_aload_n C dX6_isLink_22 0 rfl rfl ?_
      refine s_iload_n C dX6_isLink_23 1 rfl rfl ?_
      refine sm_callI C 1 [] (ct_X6_isPoint hL hM M6 x1) (lw_V q3260 q3262 qs73 q147 q3263) nd_X6_isPoint rfl (le_fr hf rfl) (le_fr hlo rfl) rfl (Nat.le_of_ble_eq_true rfl) dX6_isLink_24 fun r8 M7 => ?_
      have hj52 : ∀ (y0 : Int32) (M9 : Ms), Sim (plug h0 mo) E (QM (plug h0 mo) E finI) M9 52 [] [.int y0] (g_isLink_j52 y0 M9) := by
        intro y0 M9
        exact s_zret 2 C (by decide) (by decide) rfl dX6_isLink_52
      have hj51 : ∀  (M10 : Ms), Sim (plug h0 mo) E (QM (plug h0 mo) E finI) M10 51 [] [] (g_isLink_j51 M10) := by
        intro M10
        refine s_iconst C (0 : Int32) dX6_isLink_51 (by decide) ?_
        exact hj52 _ _
      refine s_if_eq C 51 dX6_isLink_27 (by decide) ?_ ?_
      · refine Sim.keep [] rfl ?_
        exact hj51 _
      · refine s_aload_n C dX6_isLink_30 0 rfl rfl ?_
        refine s_iload_n C dX6_isLink_31 2 rfl rfl ?_
        refine sm_callI C 1 [] (ct_X6_isPoint hL hM M7 x2) (lw_V q3260 q3262 qs73 q147 q3263) nd_X6_isPoint rfl (le_fr hf rfl) (le_fr hlo rfl) rfl (Nat.le_of_ble_eq_true rfl) dX6_isLink_32 fun r12 M11 => ?_
        refine s_if_eq C 51 dX6_isLink_35 (by decide) ?_ ?_
        · refine Sim.keep [] rfl ?_
          exact hj51 _
        · refine s_aload_n C dX6_isLink_38 0 rfl rfl ?_
          refine s_iload_n C dX6_isLink_39 1 rfl rfl ?_
          refine s_iload_n C dX6_isLink_40 2 rfl rfl ?_
          refine sm_callI C 2 [] (ct_X6_isAhead hL hM M11 x1 x2) (lw_V q3275 q3277 qs75 q147 q3278) nd_X6_isAhead rfl (le_fr hf rfl) (le_fr hlo rfl) rfl (Nat.le_of_ble_eq_true rfl) dX6_isLink_41 fun r14 M13 => ?_
          refine s_if_eq C 51 dX6_isLink_44 (by decide) ?_ ?_
          · refine Sim.keep [] rfl ?_
            exact hj51 _
          · refine s_iconst C (1 : Int32) dX6_isLink_47 (by decide) ?_
            refine s_goto C 52 dX6_isLink_48 (by decide) ?_
            refine Sim.keep [] rfl ?_
            exact hj52 _ _
    · refine Sim.keep [] rfl ?_
      exact hj16 _

def g_isSaid_j206 (rec4 : (Int32 × Int32) → Ms → Option (Int32 × Ms)) (x1 : Int32) (x2 : Int32) (x3 : Int32) (M6 : Ms) : Option (Int32 × Ms) :=
  rec4 (x2, (x3 + (1 : Int32))) M6
def g_isSaid_j163 (rec4 : (Int32 × Int32) → Ms → Option (Int32 × Ms)) (x1 : Int32) (x2 : Int32) (x3 : Int32) (y1 : Int32) (y2 : Int32) (M10 : Ms) : Option (Int32 × Ms) :=
  (sI 2 54 y1 y2 M10).bind fun M11 =>
  g_isSaid_j206 rec4 x1 x2 x3 M11
def g_isSaid_j158 (rec4 : (Int32 × Int32) → Ms → Option (Int32 × Ms)) (x1 : Int32) (x2 : Int32) (x3 : Int32) (y1 : Int32) (M13 : Ms) : Option (Int32 × Ms) :=
  g_isSaid_j163 rec4 x1 x2 x3 y1 (1 : Int32) M13
def g_isSaid_j134 (rec4 : (Int32 × Int32) → Ms → Option (Int32 × Ms)) (x1 : Int32) (x2 : Int32) (x3 : Int32) (y1 : Int32) (M16 : Ms) : Option (Int32 × Ms) :=
  g_isSaid_j163 rec4 x1 x2 x3 y1 (0 : Int32) M16
def g_isSaid_j88 (rec4 : (Int32 × Int32) → Ms → Option (Int32 × Ms)) (x1 : Int32) (x2 : Int32) (x3 : Int32) (x4 : Int32) (M8 : Ms) : Option (Int32 × Ms) :=
  (aI 0 6 x4 M8).bind fun a9 =>
  if a9 = (21 : Int32) then
    (aI 2 54 ((x2 + (-1 : Int32)) - (1 : Int32)) M8).bind fun a15 =>
    if a15 = 0 then
      g_isSaid_j134 rec4 x1 (x2 + (-1 : Int32)) x3 ((x2 + (-1 : Int32)) - (1 : Int32)) M8
    else
      (aI 2 54 (x2 + (-1 : Int32)) M8).bind fun a17 =>
      if a17 = 0 then
        g_isSaid_j134 rec4 x1 (x2 + (-1 : Int32)) x3 ((x2 + (-1 : Int32)) - (1 : Int32)) M8
      else
        g_isSaid_j163 rec4 x1 (x2 + (-1 : Int32)) x3 ((x2 + (-1 : Int32)) - (1 : Int32)) (1 : Int32) M8
  else
    (aI 2 54 ((x2 + (-1 : Int32)) - (1 : Int32)) M8).bind fun a12 =>
    if a12 = 0 then
      (aI 2 54 (x2 + (-1 : Int32)) M8).bind fun a14 =>
      if a14 = 0 then
        g_isSaid_j163 rec4 x1 (x2 + (-1 : Int32)) x3 ((x2 + (-1 : Int32)) - (1 : Int32)) (0 : Int32) M8
      else
        g_isSaid_j158 rec4 x1 (x2 + (-1 : Int32)) x3 ((x2 + (-1 : Int32)) - (1 : Int32)) M8
    else
      g_isSaid_j158 rec4 x1 (x2 + (-1 : Int32)) x3 ((x2 + (-1 : Int32)) - (1 : Int32)) M8
def g_isSaid_j60 (rec4 : (Int32 × Int32) → Ms → Option (Int32 × Ms)) (x1 : Int32) (x2 : Int32) (x3 : Int32) (y1 : Int32) (y2 : Int32) (M26 : Ms) : Option (Int32 × Ms) :=
  (sI 2 54 y1 y2 M26).bind fun M27 =>
  g_isSaid_j206 rec4 x1 x2 x3 M27
def g_isSaid_L4 (x1 : Int32) : (Int32 × Int32) → Ms → Option (Int32 × Ms) :=
  lp FU fun rec4 v4 M1 =>
    (aI 0 6 (224 : Int32) M1).bind fun a2 =>
    if a2 ≤ v4.2 then
      (aI 2 54 (0 : Int32) M1).bind fun a3 =>
      if nrw 2 a3 = a3 then some (a3, M1) else none
    else
      bd (((225 : Int32) + ((3 : Int32) * v4.2))) fun a4 =>
      (aI 0 6 a4 M1).bind fun a5 =>
      if a5 = (20 : Int32) then
        (aI 2 54 (v4.1 - (1 : Int32)) M1).bind fun a25 =>
        if a25 = 0 then
          g_isSaid_j60 rec4 x1 v4.1 v4.2 (v4.1 - (1 : Int32)) (1 : Int32) M1
        else
          g_isSaid_j60 rec4 x1 v4.1 v4.2 (v4.1 - (1 : Int32)) (0 : Int32) M1
      else
        (aI 0 6 a4 M1).bind fun a7 =>
        if a7 = (21 : Int32) then
          g_isSaid_j88 rec4 x1 v4.1 v4.2 a4 M1
        else
          (aI 0 6 a4 M1).bind fun a18 =>
          if a18 = (22 : Int32) then
            g_isSaid_j88 rec4 x1 v4.1 v4.2 a4 M1
          else
            (aI 0 6 a4 M1).bind fun a19 =>
            (aI 0 6 (a4 + (1 : Int32)) M1).bind fun a20 =>
            (aI 0 6 (a4 + (2 : Int32)) M1).bind fun a21 =>
            bn (g_isLeaf x1 a19 a20 a21 M1) fun r23 M22 =>
            (sI 2 54 v4.1 r23 M22).bind fun M24 =>
            g_isSaid_j206 rec4 x1 (v4.1 + (1 : Int32)) v4.2 M24
def g_isSaid (x1 : Int32) (M : Ms) : Option (Int32 × Ms) :=
  g_isSaid_L4 x1 ((0 : Int32), (0 : Int32)) M
theorem nd_X6_isSaid : yX6_isSaid.cls = RX6 ∧ yX6_isSaid.cls ≠ "java/lang/invoke/MethodHandle" ∧ yX6_isSaid.cls ≠ "java/lang/invoke/VarHandle" ∧ (parseMethodDescriptor yX6_isSaid.desc).map (fun d => d.parameters.length) = some 1 := ⟨rfl, by decide +kernel, by decide +kernel, by decide +kernel⟩
theorem ct_X6_isSaid {G : Gx} {RL : Lv} {Pl : Nat → Bool} {l : Launch} (hL : LvA G RL Pl) {h0 : Hp} {mo : Nat} (hM : MP Pl mo) (M : Ms) (x1 : Int32) : Ct (plug h0 mo) G RL l yX6_isSaid (ws_ yX6_isSaid cX6_isSaid 5 (some .boolean)) 9 210 finI [vr mo, .int x1] M (g_isSaid x1 M) := by
  refine Ct.of (Pl := Pl) [(0, vr mo), (1, .int x1)] (by decide) hL rfl (Nat.le_of_ble_eq_true rfl) ?_
  intro E C hn hf hlo e1 e2 e3 e4 e5
  subst e1; subst e2; subst e3; subst e4
  replace C : Cx E cX6_isSaid (some .boolean) RX6 := C
  unfold g_isSaid
  refine s_iconst C (0 : Int32) dX6_isSaid_0 (by decide) ?_
  refine s_istore_n (la' := [(2, .int (0 : Int32)), (0, vr mo), (1, .int x1)]) C 2 dX6_isSaid_1 rfl (lt_nl e5 rfl) rfl ?_
  refine s_iconst C (0 : Int32) dX6_isSaid_2 (by decide) ?_
  have hL4 : ∀ (x1 : Int32) (v4 : (Int32 × Int32)) (M1 : Ms), Sim (plug h0 mo) E (QM (plug h0 mo) E finI) M1 4 [(0, vr mo), (1, .int x1), (2, .int v4.1), (3, .int v4.2)] [] (g_isSaid_L4 x1 v4 M1) := by
    intro x1 v4 M1
    refine Sim.loop (fun v4 => [(0, vr mo), (1, .int x1), (2, .int v4.1), (3, .int v4.2)]) (fun _ => []) (fun rec4 hr4 v4 M1 => ?_) FU v4 M1
    refine s_iload_n C dX6_isSaid_4 3 rfl rfl ?_
    refine s_aload_n C dX6_isSaid_5 0 rfl rfl ?_
    refine sm_getA 6 C hM fo_X6_33_6 rfl (by decide) dX6_isSaid_6 ?_
    refine s_sipush C (224 : Int32) dX6_isSaid_9 (by decide) ?_
    refine sm_iald C hM dX6_isSaid_12 fun a2 => ?_
    refine s_icmp_ge C 212 dX6_isSaid_13 (by decide) ?_ ?_
    · refine s_aload_n C dX6_isSaid_212 0 rfl rfl ?_
      refine sm_getA 54 C hM fo_X6_92_6 rfl (by decide) dX6_isSaid_213 ?_
      refine s_iconst C (0 : Int32) dX6_isSaid_216 (by decide) ?_
      refine sm_zald C hM dX6_isSaid_217 fun a3 => ?_
      exact s_zret 2 C (by decide) (by decide) rfl dX6_isSaid_218
    · refine s_sipush C (225 : Int32) dX6_isSaid_16 (by decide) ?_
      refine s_iconst C (3 : Int32) dX6_isSaid_19 (by decide) ?_
      refine s_iload_n C dX6_isSaid_20 3 rfl rfl ?_
      refine s_imul C dX6_isSaid_21 ?_
      refine s_iadd C dX6_isSaid_22 ?_
      refine s_bdi fun a4 => ?_
      refine s_istore (la' := [(4, .int a4), (0, vr mo), (1, .int x1), (2, .int v4.1), (3, .int v4.2)]) C dX6_isSaid_23 (lt_nl e5 rfl) rfl ?_
      refine s_aload_n C dX6_isSaid_25 1 rfl rfl ?_
      refine sm_getA 6 C hM fo_X6_33_6 rfl (by decide) dX6_isSaid_26 ?_
      refine s_iload C dX6_isSaid_29 0 rfl ?_
      refine sm_iald C hM dX6_isSaid_31 fun a5 => ?_
      refine s_bipush C (20 : Int32) dX6_isSaid_32 (by decide) ?_
      have hj206 : ∀ (x2 : Int32) (x3 : Int32) (M6 : Ms), Sim (plug h0 mo) E (QM (plug h0 mo) E finI) M6 206 [(0, vr mo), (1, .int x1), (2, .int x2), (3, .int x3)] [] (g_isSaid_j206 rec4 x1 x2 x3 M6) := by
        intro x2 x3 M6
        refine s_iinc (la' := [(3, .int (x3 + (1 : Int32))), (0, vr mo), (1, .int x1), (2, .int x2)]) C 3 dX6_isSaid_206 rfl rfl (lt_nl e5 rfl) rfl ?_
        refine s_goto C 4 dX6_isSaid_209 (by decide) ?_
        refine Sim.keep [1, 2, 3, 0] rfl ?_
        exact hr4 _ _
      refine s_icmp_ne C 64 dX6_isSaid_34 (by decide) ?_ ?_
      · refine s_aload_n C dX6_isSaid_64 1 rfl rfl ?_
        refine sm_getA 6 C hM fo_X6_33_6 rfl (by decide) dX6_isSaid_65 ?_
        refine s_iload C dX6_isSaid_68 0 rfl ?_
        refine sm_iald C hM dX6_isSaid_70 fun a7 => ?_
        refine s_bipush C (21 : Int32) dX6_isSaid_71 (by decide) ?_
        have hj88 : ∀ (x2 : Int32) (x3 : Int32) (x4 : Int32) (M8 : Ms), Sim (plug h0 mo) E (QM (plug h0 mo) E finI) M8 88 [(0, vr mo), (1, .int x1), (2, .int x2), (3, .int x3), (4, .int x4)] [] (g_isSaid_j88 rec4 x1 x2 x3 x4 M8) := by
          intro x2 x3 x4 M8
          refine s_iinc (la' := [(2, .int (x2 + (-1 : Int32))), (0, vr mo), (1, .int x1), (3, .int x3), (4, .int x4)]) C 2 dX6_isSaid_88 rfl rfl (lt_nl e5 rfl) rfl ?_
          refine s_aload_n C dX6_isSaid_91 1 rfl rfl ?_
          refine sm_getA 54 C hM fo_X6_92_6 rfl (by decide) dX6_isSaid_92 ?_
          refine s_iload_n C dX6_isSaid_95 0 rfl rfl ?_
          refine s_iconst C (1 : Int32) dX6_isSaid_96 (by decide) ?_
          refine s_isub C dX6_isSaid_97 ?_
          refine s_aload_n C dX6_isSaid_98 1 rfl rfl ?_
          refine sm_getA 6 C hM fo_X6_33_6 rfl (by decide) dX6_isSaid_99 ?_
          refine s_iload C dX6_isSaid_102 4 rfl ?_
          refine sm_iald C hM dX6_isSaid_104 fun a9 => ?_
          refine s_bipush C (21 : Int32) dX6_isSaid_105 (by decide) ?_
          have hj163 : ∀ (x2 : Int32) (x3 : Int32) (y1 : Int32) (y2 : Int32) (M10 : Ms), Sim (plug h0 mo) E (QM (plug h0 mo) E finI) M10 163 [(0, vr mo), (1, .int x1), (2, .int x2), (3, .int x3)] [.int y2, .int y1, vr (aid mo 54)] (g_isSaid_j163 rec4 x1 x2 x3 y1 y2 M10) := by
            intro x2 x3 y1 y2 M10
            refine sm_zast C hM dX6_isSaid_163 fun M11 => ?_
            refine s_goto C 206 dX6_isSaid_164 (by decide) ?_
            exact hj206 _ _ _
          refine s_icmp_ne C 138 dX6_isSaid_107 (by decide) ?_ ?_
          · refine s_aload_n C dX6_isSaid_138 1 rfl rfl ?_
            refine sm_getA 54 C hM fo_X6_92_6 rfl (by decide) dX6_isSaid_139 ?_
            refine s_iload_n C dX6_isSaid_142 0 rfl rfl ?_
            refine s_iconst C (1 : Int32) dX6_isSaid_143 (by decide) ?_
            refine s_isub C dX6_isSaid_144 ?_
            refine sm_zald C hM dX6_isSaid_145 fun a12 => ?_
            have hj158 : ∀ (x2 : Int32) (x3 : Int32) (y1 : Int32) (M13 : Ms), Sim (plug h0 mo) E (QM (plug h0 mo) E finI) M13 158 [(0, vr mo), (1, .int x1), (2, .int x2), (3, .int x3)] [.int y1, vr (aid mo 54)] (g_isSaid_j158 rec4 x1 x2 x3 y1 M13) := by
              intro x2 x3 y1 M13
              refine s_iconst C (1 : Int32) dX6_isSaid_158 (by decide) ?_
              refine s_goto C 163 dX6_isSaid_159 (by decide) ?_
              exact hj163 _ _ _ _ _
            refine s_if_ne C 158 dX6_isSaid_146 (by decide) ?_ ?_
            · refine Sim.keep [1, 2, 0, 3] rfl ?_
              exact hj158 _ _ _ _
            · refine s_aload_n C dX6_isSaid_149 1 rfl rfl ?_
              refine sm_getA 54 C hM fo_X6_92_6 rfl (by decide) dX6_isSaid_150 ?_
              refine s_iload_n C dX6_isSaid_153 0 rfl rfl ?_
              refine sm_zald C hM dX6_isSaid_154 fun a14 => ?_
              refine s_if_eq C 162 dX6_isSaid_155 (by decide) ?_ ?_
              · refine s_iconst C (0 : Int32) dX6_isSaid_162 (by decide) ?_
                refine Sim.keep [1, 2, 0, 3] rfl ?_
                exact hj163 _ _ _ _ _
              · refine Sim.keep [1, 2, 0, 3] rfl ?_
                exact hj158 _ _ _ _
          · refine s_aload_n C dX6_isSaid_110 1 rfl rfl ?_
            refine sm_getA 54 C hM fo_X6_92_6 rfl (by decide) dX6_isSaid_111 ?_
            refine s_iload_n C dX6_isSaid_114 0 rfl rfl ?_
            refine s_iconst C (1 : Int32) dX6_isSaid_115 (by decide) ?_
            refine s_isub C dX6_isSaid_116 ?_
            refine sm_zald C hM dX6_isSaid_117 fun a15 => ?_
            have hj134 : ∀ (x2 : Int32) (x3 : Int32) (y1 : Int32) (M16 : Ms), Sim (plug h0 mo) E (QM (plug h0 mo) E finI) M16 134 [(0, vr mo), (1, .int x1), (2, .int x2), (3, .int x3)] [.int y1, vr (aid mo 54)] (g_isSaid_j134 rec4 x1 x2 x3 y1 M16) := by
              intro x2 x3 y1 M16
              refine s_iconst C (0 : Int32) dX6_isSaid_134 (by decide) ?_
              refine s_goto C 163 dX6_isSaid_135 (by decide) ?_
              exact hj163 _ _ _ _ _
            refine s_if_eq C 134 dX6_isSaid_118 (by decide) ?_ ?_
            · refine Sim.keep [1, 2, 0, 3] rfl ?_
              exact hj134 _ _ _ _
            · refine s_aload_n C dX6_isSaid_121 1 rfl rfl ?_
              refine sm_getA 54 C hM fo_X6_92_6 rfl (by decide) dX6_isSaid_122 ?_
              refine s_iload_n C dX6_isSaid_125 0 rfl rfl ?_
              refine sm_zald C hM dX6_isSaid_126 fun a17 => ?_
              refine s_if_eq C 134 dX6_isSaid_127 (by decide) ?_ ?_
              · refine Sim.keep [1, 2, 0, 3] rfl ?_
                exact hj134 _ _ _ _
              · refine s_iconst C (1 : Int32) dX6_isSaid_130 (by decide) ?_
                refine s_goto C 163 dX6_isSaid_131 (by decide) ?_
                refine Sim.keep [1, 2, 0, 3] rfl ?_
                exact hj163 _ _ _ _ _
        refine s_icmp_eq C 88 dX6_isSaid_73 (by decide) ?_ ?_
        · refine Sim.keep [1, 2, 3, 4, 0] rfl ?_
          exact hj88 _ _ _ _
        · refine s_aload_n C dX6_isSaid_76 1 rfl rfl ?_
          refine sm_getA 6 C hM fo_X6_33_6 rfl (by decide) dX6_isSaid_77 ?_
          refine s_iload C dX6_isSaid_80 0 rfl ?_
          refine sm_iald C hM dX6_isSaid_82 fun a18 => ?_
          refine s_bipush C (22 : Int32) dX6_isSaid_83 (by decide) ?_
          refine s_icmp_ne C 167 dX6_isSaid_85 (by decide) ?_ ?_
          · refine s_aload_n C dX6_isSaid_167 1 rfl rfl ?_
            refine sm_getA 54 C hM fo_X6_92_6 rfl (by decide) dX6_isSaid_168 ?_
            refine s_iload_n C dX6_isSaid_171 3 rfl rfl ?_
            refine s_aload_n C dX6_isSaid_172 1 rfl rfl ?_
            refine s_iload_n C dX6_isSaid_173 2 rfl rfl ?_
            refine s_aload_n C dX6_isSaid_174 1 rfl rfl ?_
            refine sm_getA 6 C hM fo_X6_33_6 rfl (by decide) dX6_isSaid_175 ?_
            refine s_iload C dX6_isSaid_178 0 rfl ?_
            refine sm_iald C hM dX6_isSaid_180 fun a19 => ?_
            refine s_aload_n C dX6_isSaid_181 1 rfl rfl ?_
            refine sm_getA 6 C hM fo_X6_33_6 rfl (by decide) dX6_isSaid_182 ?_
            refine s_iload C dX6_isSaid_185 0 rfl ?_
            refine s_iconst C (1 : Int32) dX6_isSaid_187 (by decide) ?_
            refine s_iadd C dX6_isSaid_188 ?_
            refine sm_iald C hM dX6_isSaid_189 fun a20 => ?_
            refine s_aload_n C dX6_isSaid_190 1 rfl rfl ?_
            refine sm_getA 6 C hM fo_X6_33_6 rfl (by decide) dX6_isSaid_191 ?_
            refine s_iload C dX6_isSaid_194 0 rfl ?_
            refine s_iconst C (2 : Int32) dX6_isSaid_196 (by decide) ?_
            refine s_iadd C dX6_isSaid_197 ?_
            refine sm_iald C hM dX6_isSaid_198 fun a21 => ?_
            refine sm_callI C 4 [.int v4.1, vr (aid mo 54)] (ct_X6_isLeaf hL hM M1 x1 a19 a20 a21) (lw_V q3521 q3523 qs105 q147 q3524) nd_X6_isLeaf rfl (le_fr hf rfl) (le_fr hlo rfl) rfl (Nat.le_of_ble_eq_true rfl) dX6_isSaid_199 fun r23 M22 => ?_
            refine sm_zast C hM dX6_isSaid_202 fun M24 => ?_
            refine s_iinc (la' := [(2, .int (v4.1 + (1 : Int32))), (4, .int a4), (0, vr mo), (1, .int x1), (3, .int v4.2)]) C 3 dX6_isSaid_203 rfl rfl (lt_nl e5 rfl) rfl ?_
            refine Sim.keep [2, 3, 0, 4] rfl ?_
            exact hj206 _ _ _
          · refine Sim.keep [1, 2, 3, 4, 0] rfl ?_
            exact hj88 _ _ _ _
      · refine s_aload_n C dX6_isSaid_37 1 rfl rfl ?_
        refine sm_getA 54 C hM fo_X6_92_6 rfl (by decide) dX6_isSaid_38 ?_
        refine s_iload_n C dX6_isSaid_41 3 rfl rfl ?_
        refine s_iconst C (1 : Int32) dX6_isSaid_42 (by decide) ?_
        refine s_isub C dX6_isSaid_43 ?_
        refine s_aload_n C dX6_isSaid_44 1 rfl rfl ?_
        refine sm_getA 54 C hM fo_X6_92_6 rfl (by decide) dX6_isSaid_45 ?_
        refine s_iload_n C dX6_isSaid_48 3 rfl rfl ?_
        refine s_iconst C (1 : Int32) dX6_isSaid_49 (by decide) ?_
        refine s_isub C dX6_isSaid_50 ?_
        refine sm_zald C hM dX6_isSaid_51 fun a25 => ?_
        have hj60 : ∀ (x2 : Int32) (x3 : Int32) (y1 : Int32) (y2 : Int32) (M26 : Ms), Sim (plug h0 mo) E (QM (plug h0 mo) E finI) M26 60 [(0, vr mo), (1, .int x1), (2, .int x2), (3, .int x3)] [.int y2, .int y1, vr (aid mo 54)] (g_isSaid_j60 rec4 x1 x2 x3 y1 y2 M26) := by
          intro x2 x3 y1 y2 M26
          refine sm_zast C hM dX6_isSaid_60 fun M27 => ?_
          refine s_goto C 206 dX6_isSaid_61 (by decide) ?_
          exact hj206 _ _ _
        refine s_if_ne C 59 dX6_isSaid_52 (by decide) ?_ ?_
        · refine s_iconst C (0 : Int32) dX6_isSaid_59 (by decide) ?_
          refine Sim.keep [1, 2, 3, 4] rfl ?_
          exact hj60 _ _ _ _ _
        · refine s_iconst C (1 : Int32) dX6_isSaid_55 (by decide) ?_
          refine s_goto C 60 dX6_isSaid_56 (by decide) ?_
          refine Sim.keep [1, 2, 3, 4] rfl ?_
          exact hj60 _ _ _ _ _
  refine s_istore_n (la' := [(3, .int (0 : Int32)), (2, .int (0 : Int32)), (0, vr mo), (1, .int x1)]) C 3 dX6_isSaid_3 rfl (lt_nl e5 rfl) rfl ?_
  refine Sim.keep [2, 3, 1, 0] rfl ?_
  exact hL4 _ _ _

def g_isVoter (x1 : Int32) (M : Ms) : Option (Int32 × Ms) :=
  (aI 0 6 (1 : Int32) M).bind fun a1 =>
  bn (g_isIn x1 (0 : Int32) (a1 - (1 : Int32)) M) fun r3 M2 =>
  if nrw 2 r3 = r3 then some (r3, M2) else none
theorem nd_X6_isVoter : yX6_isVoter.cls = RX6 ∧ yX6_isVoter.cls ≠ "java/lang/invoke/MethodHandle" ∧ yX6_isVoter.cls ≠ "java/lang/invoke/VarHandle" ∧ (parseMethodDescriptor yX6_isVoter.desc).map (fun d => d.parameters.length) = some 1 := ⟨rfl, by decide +kernel, by decide +kernel, by decide +kernel⟩
theorem ct_X6_isVoter {G : Gx} {RL : Lv} {Pl : Nat → Bool} {l : Launch} (hL : LvA G RL Pl) {h0 : Hp} {mo : Nat} (hM : MP Pl mo) (M : Ms) (x1 : Int32) : Ct (plug h0 mo) G RL l yX6_isVoter (ws_ yX6_isVoter cX6_isVoter 2 (some .boolean)) 1 22 finI [vr mo, .int x1] M (g_isVoter x1 M) := by
  refine Ct.of (Pl := Pl) [(0, vr mo), (1, .int x1)] (by decide) hL rfl (Nat.le_of_ble_eq_true rfl) ?_
  intro E C hn hf hlo e1 e2 e3 e4 e5
  subst e1; subst e2; subst e3; subst e4
  replace C : Cx E cX6_isVoter (some .boolean) RX6 := C
  unfold g_isVoter
  refine s_iload_n C dX6_isVoter_0 1 rfl rfl ?_
  refine s_iconst C (0 : Int32) dX6_isVoter_1 (by decide) ?_
  refine s_aload_n C dX6_isVoter_2 0 rfl rfl ?_
  refine sm_getA 6 C hM fo_X6_33_6 rfl (by decide) dX6_isVoter_3 ?_
  refine s_iconst C (1 : Int32) dX6_isVoter_6 (by decide) ?_
  refine sm_iald C hM dX6_isVoter_7 fun a1 => ?_
  refine s_iconst C (1 : Int32) dX6_isVoter_8 (by decide) ?_
  refine s_isub C dX6_isVoter_9 ?_
  refine sm_callSI C 3 [] (ct_X6_isIn hL hM M x1 (0 : Int32) (a1 - (1 : Int32))) (lw_S q3150 q3151 q147 q3152) nd_X6_isIn rfl (le_fr hf rfl) (le_fr hlo rfl) rfl (Nat.le_of_ble_eq_true rfl) dX6_isVoter_10 fun r3 M2 => ?_
  exact s_zret 2 C (by decide) (by decide) rfl dX6_isVoter_13

def g_puts (x1 : Int32) (M : Ms) : Option (Unit × Ms) :=
  (sI 1 42 (M.1 43) x1.toInt8.toInt32 M).bind fun M1 =>
  bd (mI 43 ((M1.1 43) + (1 : Int32)) M1) fun M2 =>
  some ((), M2)
theorem nd_X6_puts : yX6_puts.cls = RX6 ∧ yX6_puts.cls ≠ "java/lang/invoke/MethodHandle" ∧ yX6_puts.cls ≠ "java/lang/invoke/VarHandle" ∧ (parseMethodDescriptor yX6_puts.desc).map (fun d => d.parameters.length) = some 1 := ⟨rfl, by decide +kernel, by decide +kernel, by decide +kernel⟩
theorem ct_X6_puts {G : Gx} {RL : Lv} {Pl : Nat → Bool} {l : Launch} (hL : LvA G RL Pl) {h0 : Hp} {mo : Nat} (hM : MP Pl mo) (M : Ms) (x1 : Int32) : Ct (plug h0 mo) G RL l yX6_puts (ws_ yX6_puts cX6_puts 2 none) 0 0 finV [vr mo, .int x1] M (g_puts x1 M) := by
  refine Ct.of (Pl := Pl) [(0, vr mo), (1, .int x1)] (by decide) hL rfl (Nat.le_of_ble_eq_true rfl) ?_
  intro E C hn hf hlo e1 e2 e3 e4 e5
  subst e1; subst e2; subst e3; subst e4
  replace C : Cx E cX6_puts none RX6 := C
  unfold g_puts
  refine s_aload_n C dX6_puts_0 0 rfl rfl ?_
  refine sm_getA 42 C hM fo_X6_83_6 rfl (by decide) dX6_puts_1 ?_
  refine s_aload_n C dX6_puts_4 0 rfl rfl ?_
  refine sm_getI 43 C hM fo_X6_393_6 rfl dX6_puts_5 ?_
  refine s_iload_n C dX6_puts_8 1 rfl rfl ?_
  refine s_i2b C dX6_puts_9 ?_
  refine sm_bast C hM dX6_puts_10 fun M1 => ?_
  refine s_aload_n C dX6_puts_11 0 rfl rfl ?_
  refine s_dup C dX6_puts_12 rfl ?_
  refine sm_getI 43 C hM fo_X6_393_6 rfl dX6_puts_13 ?_
  refine s_iconst C (1 : Int32) dX6_puts_16 (by decide) ?_
  refine s_iadd C dX6_puts_17 ?_
  refine sm_putI 43 0 C hM fo_X6_393_6 rfl ⟨by decide, by decide, rfl⟩ rfl rfl dX6_puts_18 ?_
  refine s_bdh fun M2 => ?_
  exact s_vret C rfl dX6_puts_21

def g_laysNumber_j17 (x1 : Int32) (M1 : Ms) : Option (Unit × Ms) :=
  if (10 : Int32) = 0 then none else
  bn (g_puts ((48 : Int32) + (x1 - x1 / (10 : Int32) * (10 : Int32))) M1) fun _ M2 =>
  some ((), M2)
def g_laysNumber (x1 : Int32) (M : Ms) : Option (Unit × Ms) :=
  if x1 ≤ (9 : Int32) then
    g_laysNumber_j17 x1 M
  else
    if (10 : Int32) = 0 then none else
    bn (g_puts ((48 : Int32) + (x1 / (10 : Int32))) M) fun _ M3 =>
    g_laysNumber_j17 x1 M3
theorem nd_X6_laysNumber : yX6_laysNumber.cls = RX6 ∧ yX6_laysNumber.cls ≠ "java/lang/invoke/MethodHandle" ∧ yX6_laysNumber.cls ≠ "java/lang/invoke/VarHandle" ∧ (parseMethodDescriptor yX6_laysNumber.desc).map (fun d => d.parameters.length) = some 1 := ⟨rfl, by decide +kernel, by decide +kernel, by decide +kernel⟩
theorem ct_X6_laysNumber {G : Gx} {RL : Lv} {Pl : Nat → Bool} {l : Launch} (hL : LvA G RL Pl) {h0 : Hp} {mo : Nat} (hM : MP Pl mo) (M : Ms) (x1 : Int32) : Ct (plug h0 mo) G RL l yX6_laysNumber (ws_ yX6_laysNumber cX6_laysNumber 2 none) 1 21 finV [vr mo, .int x1] M (g_laysNumber x1 M) := by
  refine Ct.of (Pl := Pl) [(0, vr mo), (1, .int x1)] (by decide) hL rfl (Nat.le_of_ble_eq_true rfl) ?_
  intro E C hn hf hlo e1 e2 e3 e4 e5
  subst e1; subst e2; subst e3; subst e4
  replace C : Cx E cX6_laysNumber none RX6 := C
  unfold g_laysNumber
  refine s_iload_n C dX6_laysNumber_0 1 rfl rfl ?_
  refine s_bipush C (9 : Int32) dX6_laysNumber_1 (by decide) ?_
  have hj17 : ∀ (x1 : Int32) (M1 : Ms), Sim (plug h0 mo) E (QM (plug h0 mo) E finV) M1 17 [(0, vr mo), (1, .int x1)] [] (g_laysNumber_j17 x1 M1) := by
    intro x1 M1
    refine s_aload_n C dX6_laysNumber_17 0 rfl rfl ?_
    refine s_bipush C (48 : Int32) dX6_laysNumber_18 (by decide) ?_
    refine s_iload_n C dX6_laysNumber_20 1 rfl rfl ?_
    refine s_bipush C (10 : Int32) dX6_laysNumber_21 (by decide) ?_
    refine s_irem C dX6_laysNumber_23 ?_
    refine s_iadd C dX6_laysNumber_24 ?_
    refine sm_callV C 1 [] (ct_X6_puts hL hM M1 ((48 : Int32) + (x1 - x1 / (10 : Int32) * (10 : Int32)))) (lw_V q3434 q3436 qs91 q147 q3437) nd_X6_puts rfl (le_fr hf rfl) (le_fr hlo rfl) rfl (Nat.le_of_ble_eq_true rfl) dX6_laysNumber_25 fun _ M2 => ?_
    exact s_vret C rfl dX6_laysNumber_28
  refine s_icmp_le C 17 dX6_laysNumber_3 (by decide) ?_ ?_
  · exact hj17 _ _
  · refine s_aload_n C dX6_laysNumber_6 0 rfl rfl ?_
    refine s_bipush C (48 : Int32) dX6_laysNumber_7 (by decide) ?_
    refine s_iload_n C dX6_laysNumber_9 1 rfl rfl ?_
    refine s_bipush C (10 : Int32) dX6_laysNumber_10 (by decide) ?_
    refine s_idiv C dX6_laysNumber_12 ?_
    refine s_iadd C dX6_laysNumber_13 ?_
    refine sm_callV C 1 [] (ct_X6_puts hL hM M ((48 : Int32) + (x1 / (10 : Int32)))) (lw_V q3434 q3436 qs91 q147 q3437) nd_X6_puts rfl (le_fr hf rfl) (le_fr hlo rfl) rfl (Nat.le_of_ble_eq_true rfl) dX6_laysNumber_14 fun _ M3 => ?_
    exact hj17 _ _

def g_leafOf_j145 (y0 : Int32) (M3 : Ms) : Option (Int32 × Ms) :=
  some (y0, M3)
def g_leafOf  (M : Ms) : Option (Int32 × Ms) :=
  bn (g_isWord (1818583398 : Int64) M) fun r2 M1 =>
  if r2 = 0 then
    bn (g_isWord (482905517684 : Int64) M1) fun r5 M4 =>
    if r5 = 0 then
      bn (g_isWord (1786082164 : Int64) M4) fun r7 M6 =>
      if r7 = 0 then
        bn (g_isWord (439855505772 : Int64) M6) fun r9 M8 =>
        if r9 = 0 then
          bn (g_isWord (109300197582190 : Int64) M8) fun r11 M10 =>
          if r11 = 0 then
            bn (g_isWord (504363246962 : Int64) M10) fun r13 M12 =>
            if r13 = 0 then
              bn (g_isWord (114784769370228 : Int64) M12) fun r15 M14 =>
              if r15 = 0 then
                bn (g_isWord (465558725996 : Int64) M14) fun r17 M16 =>
                if r17 = 0 then
                  bn (g_isWord (1751475828 : Int64) M16) fun r19 M18 =>
                  if r19 = 0 then
                    bn (g_isWord (121450625394034 : Int64) M18) fun r21 M20 =>
                    if r21 = 0 then
                      g_leafOf_j145 (-1 : Int32) M20
                    else
                      g_leafOf_j145 (9 : Int32) M20
                  else
                    g_leafOf_j145 (8 : Int32) M18
                else
                  g_leafOf_j145 (7 : Int32) M16
              else
                g_leafOf_j145 (6 : Int32) M14
            else
              g_leafOf_j145 (5 : Int32) M12
          else
            g_leafOf_j145 (4 : Int32) M10
        else
          g_leafOf_j145 (3 : Int32) M8
      else
        g_leafOf_j145 (2 : Int32) M6
    else
      g_leafOf_j145 (1 : Int32) M4
  else
    g_leafOf_j145 (0 : Int32) M1
theorem nd_X6_leafOf : yX6_leafOf.cls = RX6 ∧ yX6_leafOf.cls ≠ "java/lang/invoke/MethodHandle" ∧ yX6_leafOf.cls ≠ "java/lang/invoke/VarHandle" ∧ (parseMethodDescriptor yX6_leafOf.desc).map (fun d => d.parameters.length) = some 0 := ⟨rfl, by decide +kernel, by decide +kernel, by decide +kernel⟩
theorem ct_X6_leafOf {G : Gx} {RL : Lv} {Pl : Nat → Bool} {l : Launch} (hL : LvA G RL Pl) {h0 : Hp} {mo : Nat} (hM : MP Pl mo) (M : Ms)  : Ct (plug h0 mo) G RL l yX6_leafOf (ws_ yX6_leafOf cX6_leafOf 1 (some .int)) 1 22 finI [vr mo] M (g_leafOf M) := by
  refine Ct.of (Pl := Pl) [(0, vr mo)] (by decide) hL rfl (Nat.le_of_ble_eq_true rfl) ?_
  intro E C hn hf hlo e1 e2 e3 e4 e5
  subst e1; subst e2; subst e3; subst e4
  replace C : Cx E cX6_leafOf (some .int) RX6 := C
  unfold g_leafOf
  refine s_aload_n C dX6_leafOf_0 0 rfl rfl ?_
  refine s_ldc2 C q2921 dX6_leafOf_1 ?_
  refine sm_callI C 1 [] (ct_X6_isWord hL hM M (1818583398 : Int64)) (lw_V q3134 q3136 qs45 q147 q3137) nd_X6_isWord rfl (le_fr hf rfl) (le_fr hlo rfl) rfl (Nat.le_of_ble_eq_true rfl) dX6_leafOf_4 fun r2 M1 => ?_
  have hj145 : ∀ (y0 : Int32) (M3 : Ms), Sim (plug h0 mo) E (QM (plug h0 mo) E finI) M3 145 [] [.int y0] (g_leafOf_j145 y0 M3) := by
    intro y0 M3
    exact s_iret C rfl dX6_leafOf_145
  refine s_if_eq C 14 dX6_leafOf_7 (by decide) ?_ ?_
  · refine s_aload_n C dX6_leafOf_14 0 rfl rfl ?_
    refine s_ldc2 C q2922 dX6_leafOf_15 ?_
    refine sm_callI C 1 [] (ct_X6_isWord hL hM M1 (482905517684 : Int64)) (lw_V q3134 q3136 qs45 q147 q3137) nd_X6_isWord rfl (le_fr hf rfl) (le_fr hlo rfl) rfl (Nat.le_of_ble_eq_true rfl) dX6_leafOf_18 fun r5 M4 => ?_
    refine s_if_eq C 28 dX6_leafOf_21 (by decide) ?_ ?_
    · refine s_aload_n C dX6_leafOf_28 0 rfl rfl ?_
      refine s_ldc2 C q2923 dX6_leafOf_29 ?_
      refine sm_callI C 1 [] (ct_X6_isWord hL hM M4 (1786082164 : Int64)) (lw_V q3134 q3136 qs45 q147 q3137) nd_X6_isWord rfl (le_fr hf rfl) (le_fr hlo rfl) rfl (Nat.le_of_ble_eq_true rfl) dX6_leafOf_32 fun r7 M6 => ?_
      refine s_if_eq C 42 dX6_leafOf_35 (by decide) ?_ ?_
      · refine s_aload_n C dX6_leafOf_42 0 rfl rfl ?_
        refine s_ldc2 C q2924 dX6_leafOf_43 ?_
        refine sm_callI C 1 [] (ct_X6_isWord hL hM M6 (439855505772 : Int64)) (lw_V q3134 q3136 qs45 q147 q3137) nd_X6_isWord rfl (le_fr hf rfl) (le_fr hlo rfl) rfl (Nat.le_of_ble_eq_true rfl) dX6_leafOf_46 fun r9 M8 => ?_
        refine s_if_eq C 56 dX6_leafOf_49 (by decide) ?_ ?_
        · refine s_aload_n C dX6_leafOf_56 0 rfl rfl ?_
          refine s_ldc2 C q2925 dX6_leafOf_57 ?_
          refine sm_callI C 1 [] (ct_X6_isWord hL hM M8 (109300197582190 : Int64)) (lw_V q3134 q3136 qs45 q147 q3137) nd_X6_isWord rfl (le_fr hf rfl) (le_fr hlo rfl) rfl (Nat.le_of_ble_eq_true rfl) dX6_leafOf_60 fun r11 M10 => ?_
          refine s_if_eq C 70 dX6_leafOf_63 (by decide) ?_ ?_
          · refine s_aload_n C dX6_leafOf_70 0 rfl rfl ?_
            refine s_ldc2 C q2926 dX6_leafOf_71 ?_
            refine sm_callI C 1 [] (ct_X6_isWord hL hM M10 (504363246962 : Int64)) (lw_V q3134 q3136 qs45 q147 q3137) nd_X6_isWord rfl (le_fr hf rfl) (le_fr hlo rfl) rfl (Nat.le_of_ble_eq_true rfl) dX6_leafOf_74 fun r13 M12 => ?_
            refine s_if_eq C 84 dX6_leafOf_77 (by decide) ?_ ?_
            · refine s_aload_n C dX6_leafOf_84 0 rfl rfl ?_
              refine s_ldc2 C q2927 dX6_leafOf_85 ?_
              refine sm_callI C 1 [] (ct_X6_isWord hL hM M12 (114784769370228 : Int64)) (lw_V q3134 q3136 qs45 q147 q3137) nd_X6_isWord rfl (le_fr hf rfl) (le_fr hlo rfl) rfl (Nat.le_of_ble_eq_true rfl) dX6_leafOf_88 fun r15 M14 => ?_
              refine s_if_eq C 99 dX6_leafOf_91 (by decide) ?_ ?_
              · refine s_aload_n C dX6_leafOf_99 0 rfl rfl ?_
                refine s_ldc2 C q2928 dX6_leafOf_100 ?_
                refine sm_callI C 1 [] (ct_X6_isWord hL hM M14 (465558725996 : Int64)) (lw_V q3134 q3136 qs45 q147 q3137) nd_X6_isWord rfl (le_fr hf rfl) (le_fr hlo rfl) rfl (Nat.le_of_ble_eq_true rfl) dX6_leafOf_103 fun r17 M16 => ?_
                refine s_if_eq C 114 dX6_leafOf_106 (by decide) ?_ ?_
                · refine s_aload_n C dX6_leafOf_114 0 rfl rfl ?_
                  refine s_ldc2 C q2929 dX6_leafOf_115 ?_
                  refine sm_callI C 1 [] (ct_X6_isWord hL hM M16 (1751475828 : Int64)) (lw_V q3134 q3136 qs45 q147 q3137) nd_X6_isWord rfl (le_fr hf rfl) (le_fr hlo rfl) rfl (Nat.le_of_ble_eq_true rfl) dX6_leafOf_118 fun r19 M18 => ?_
                  refine s_if_eq C 129 dX6_leafOf_121 (by decide) ?_ ?_
                  · refine s_aload_n C dX6_leafOf_129 0 rfl rfl ?_
                    refine s_ldc2 C q2930 dX6_leafOf_130 ?_
                    refine sm_callI C 1 [] (ct_X6_isWord hL hM M18 (121450625394034 : Int64)) (lw_V q3134 q3136 qs45 q147 q3137) nd_X6_isWord rfl (le_fr hf rfl) (le_fr hlo rfl) rfl (Nat.le_of_ble_eq_true rfl) dX6_leafOf_133 fun r21 M20 => ?_
                    refine s_if_eq C 144 dX6_leafOf_136 (by decide) ?_ ?_
                    · refine s_iconst C (-1 : Int32) dX6_leafOf_144 (by decide) ?_
                      refine Sim.keep [] rfl ?_
                      exact hj145 _ _
                    · refine s_bipush C (9 : Int32) dX6_leafOf_139 (by decide) ?_
                      refine s_goto C 145 dX6_leafOf_141 (by decide) ?_
                      refine Sim.keep [] rfl ?_
                      exact hj145 _ _
                  · refine s_bipush C (8 : Int32) dX6_leafOf_124 (by decide) ?_
                    refine s_goto C 145 dX6_leafOf_126 (by decide) ?_
                    refine Sim.keep [] rfl ?_
                    exact hj145 _ _
                · refine s_bipush C (7 : Int32) dX6_leafOf_109 (by decide) ?_
                  refine s_goto C 145 dX6_leafOf_111 (by decide) ?_
                  refine Sim.keep [] rfl ?_
                  exact hj145 _ _
              · refine s_bipush C (6 : Int32) dX6_leafOf_94 (by decide) ?_
                refine s_goto C 145 dX6_leafOf_96 (by decide) ?_
                refine Sim.keep [] rfl ?_
                exact hj145 _ _
            · refine s_iconst C (5 : Int32) dX6_leafOf_80 (by decide) ?_
              refine s_goto C 145 dX6_leafOf_81 (by decide) ?_
              refine Sim.keep [] rfl ?_
              exact hj145 _ _
          · refine s_iconst C (4 : Int32) dX6_leafOf_66 (by decide) ?_
            refine s_goto C 145 dX6_leafOf_67 (by decide) ?_
            refine Sim.keep [] rfl ?_
            exact hj145 _ _
        · refine s_iconst C (3 : Int32) dX6_leafOf_52 (by decide) ?_
          refine s_goto C 145 dX6_leafOf_53 (by decide) ?_
          refine Sim.keep [] rfl ?_
          exact hj145 _ _
      · refine s_iconst C (2 : Int32) dX6_leafOf_38 (by decide) ?_
        refine s_goto C 145 dX6_leafOf_39 (by decide) ?_
        refine Sim.keep [] rfl ?_
        exact hj145 _ _
    · refine s_iconst C (1 : Int32) dX6_leafOf_24 (by decide) ?_
      refine s_goto C 145 dX6_leafOf_25 (by decide) ?_
      refine Sim.keep [] rfl ?_
      exact hj145 _ _
  · refine s_iconst C (0 : Int32) dX6_leafOf_10 (by decide) ?_
    refine s_goto C 145 dX6_leafOf_11 (by decide) ?_
    refine Sim.keep [] rfl ?_
    exact hj145 _ _

def g_link_j24 (x1 : Int32) (x2 : Int32) (x3 : Int32) (y1 : Int32) (M3 : Ms) : Option (Int32 × Ms) :=
  bn (g_throwsIf y1 M3) fun r5 M4 =>
  if r5 = 0 then
    (aI 0 23 (((20 : Int32) * x1) + x2) M4).bind fun a6 =>
    swi x3 (bn (g_counts a6 x2 M4) fun r16 M15 =>
      bn (g_truth r16 M15) fun r18 M17 =>
      some (r18, M17)) [
      ((0 : Int32), some (a6, M4)),
      ((1 : Int32), bn (g_sum a6 x2 (1 : Int32) M4) fun r8 M7 =>
      some (r8, M7)),
      ((2 : Int32), bn (g_sum (255 : Int32) x2 (1 : Int32) M4) fun r10 M9 =>
      some (r10, M9)),
      ((3 : Int32), bn (g_sum a6 x2 (2 : Int32) M4) fun r12 M11 =>
      some (r12, M11)),
      ((4 : Int32), bn (g_sum (255 : Int32) x2 (2 : Int32) M4) fun r14 M13 =>
      some (r14, M13))]
  else
    some ((0 : Int32), M4)
def g_link_j19 (x1 : Int32) (x2 : Int32) (x3 : Int32) (M19 : Ms) : Option (Int32 × Ms) :=
  g_link_j24 x1 x2 x3 (1 : Int32) M19
def g_link (x1 : Int32) (x2 : Int32) (x3 : Int32) (M : Ms) : Option (Int32 × Ms) :=
  bn (g_isLink x1 x2 M) fun r2 M1 =>
  if r2 = 0 then
    g_link_j19 x1 x2 x3 M1
  else
    bn (g_isIn x3 (0 : Int32) (5 : Int32) M1) fun r21 M20 =>
    if r21 = 0 then
      g_link_j19 x1 x2 x3 M20
    else
      g_link_j24 x1 x2 x3 (0 : Int32) M20
theorem nd_X6_link : yX6_link.cls = RX6 ∧ yX6_link.cls ≠ "java/lang/invoke/MethodHandle" ∧ yX6_link.cls ≠ "java/lang/invoke/VarHandle" ∧ (parseMethodDescriptor yX6_link.desc).map (fun d => d.parameters.length) = some 3 := ⟨rfl, by decide +kernel, by decide +kernel, by decide +kernel⟩
theorem ct_X6_link {G : Gx} {RL : Lv} {Pl : Nat → Bool} {l : Launch} (hL : LvA G RL Pl) {h0 : Hp} {mo : Nat} (hM : MP Pl mo) (M : Ms) (x1 : Int32) (x2 : Int32) (x3 : Int32) : Ct (plug h0 mo) G RL l yX6_link (ws_ yX6_link cX6_link 5 (some .int)) 8 185 finI [vr mo, .int x1, .int x2, .int x3] M (g_link x1 x2 x3 M) := by
  refine Ct.of (Pl := Pl) [(0, vr mo), (1, .int x1), (2, .int x2), (3, .int x3)] (by decide) hL rfl (Nat.le_of_ble_eq_true rfl) ?_
  intro E C hn hf hlo e1 e2 e3 e4 e5
  subst e1; subst e2; subst e3; subst e4
  replace C : Cx E cX6_link (some .int) RX6 := C
  unfold g_link
  refine s_aload_n C dX6_link_0 0 rfl rfl ?_
  refine s_aload_n C dX6_link_1 0 rfl rfl ?_
  refine s_iload_n C dX6_link_2 1 rfl rfl ?_
  refine s_iload_n C dX6_link_3 2 rfl rfl ?_
  refine sm_callI C 2 [vr mo] (ct_X6_isLink hL hM M x1 x2) (lw_V q3307 q3309 qs78 q147 q3310) nd_X6_isLink rfl (le_fr hf rfl) (le_fr hlo rfl) rfl (Nat.le_of_ble_eq_true rfl) dX6_link_4 fun r2 M1 => ?_
  have hj24 : ∀ (x1 : Int32) (x2 : Int32) (x3 : Int32) (y1 : Int32) (M3 : Ms), Sim (plug h0 mo) E (QM (plug h0 mo) E finI) M3 24 [(0, vr mo), (1, .int x1), (2, .int x2), (3, .int x3)] [.int y1, vr mo] (g_link_j24 x1 x2 x3 y1 M3) := by
    intro x1 x2 x3 y1 M3
    refine sm_callI C 1 [] (ct_X6_throwsIf hL hM M3 y1) (lw_V q3197 q3199 qs58 q147 q3200) nd_X6_throwsIf rfl (le_fr hf rfl) (le_fr hlo rfl) rfl (Nat.le_of_ble_eq_true rfl) dX6_link_24 fun r5 M4 => ?_
    refine s_if_eq C 32 dX6_link_27 (by decide) ?_ ?_
    · refine s_aload_n C dX6_link_32 0 rfl rfl ?_
      refine sm_getA 23 C hM fo_X6_59_6 rfl (by decide) dX6_link_33 ?_
      refine s_bipush C (20 : Int32) dX6_link_36 (by decide) ?_
      refine s_iload_n C dX6_link_38 1 rfl rfl ?_
      refine s_imul C dX6_link_39 ?_
      refine s_iload_n C dX6_link_40 2 rfl rfl ?_
      refine s_iadd C dX6_link_41 ?_
      refine sm_iald C hM dX6_link_42 fun a6 => ?_
      refine s_istore (la' := [(4, .int a6), (0, vr mo), (1, .int x1), (2, .int x2), (3, .int x3)]) C dX6_link_43 (lt_nl e5 rfl) rfl ?_
      refine s_iload_n C dX6_link_45 4 rfl rfl ?_
      refine s_tsw C 121 dX6_link_46 [(0 : Int32), (1 : Int32), (2 : Int32), (3 : Int32), (4 : Int32)] rfl (by decide +kernel) (by decide) (by decide) ⟨⟨80, by decide, ?_⟩, ⟨⟨83, by decide, ?_⟩, ⟨⟨92, by decide, ?_⟩, ⟨⟨102, by decide, ?_⟩, ⟨⟨111, by decide, ?_⟩, trivial⟩⟩⟩⟩⟩ ?_
      · refine s_iload C dX6_link_80 0 rfl ?_
        exact s_iret C rfl dX6_link_82
      · refine s_aload_n C dX6_link_83 1 rfl rfl ?_
        refine s_iload C dX6_link_84 0 rfl ?_
        refine s_iload_n C dX6_link_86 3 rfl rfl ?_
        refine s_iconst C (1 : Int32) dX6_link_87 (by decide) ?_
        refine sm_callI C 3 [] (ct_X6_sum hL hM M4 a6 x2 (1 : Int32)) (lw_V q3237 q3239 qs68 q147 q3240) nd_X6_sum rfl (le_fr hf rfl) (le_fr hlo rfl) rfl (Nat.le_of_ble_eq_true rfl) dX6_link_88 fun r8 M7 => ?_
        exact s_iret C rfl dX6_link_91
      · refine s_aload_n C dX6_link_92 1 rfl rfl ?_
        refine s_sipush C (255 : Int32) dX6_link_93 (by decide) ?_
        refine s_iload_n C dX6_link_96 3 rfl rfl ?_
        refine s_iconst C (1 : Int32) dX6_link_97 (by decide) ?_
        refine sm_callI C 3 [] (ct_X6_sum hL hM M4 (255 : Int32) x2 (1 : Int32)) (lw_V q3237 q3239 qs68 q147 q3240) nd_X6_sum rfl (le_fr hf rfl) (le_fr hlo rfl) rfl (Nat.le_of_ble_eq_true rfl) dX6_link_98 fun r10 M9 => ?_
        exact s_iret C rfl dX6_link_101
      · refine s_aload_n C dX6_link_102 1 rfl rfl ?_
        refine s_iload C dX6_link_103 0 rfl ?_
        refine s_iload_n C dX6_link_105 3 rfl rfl ?_
        refine s_iconst C (2 : Int32) dX6_link_106 (by decide) ?_
        refine sm_callI C 3 [] (ct_X6_sum hL hM M4 a6 x2 (2 : Int32)) (lw_V q3237 q3239 qs68 q147 q3240) nd_X6_sum rfl (le_fr hf rfl) (le_fr hlo rfl) rfl (Nat.le_of_ble_eq_true rfl) dX6_link_107 fun r12 M11 => ?_
        exact s_iret C rfl dX6_link_110
      · refine s_aload_n C dX6_link_111 1 rfl rfl ?_
        refine s_sipush C (255 : Int32) dX6_link_112 (by decide) ?_
        refine s_iload_n C dX6_link_115 3 rfl rfl ?_
        refine s_iconst C (2 : Int32) dX6_link_116 (by decide) ?_
        refine sm_callI C 3 [] (ct_X6_sum hL hM M4 (255 : Int32) x2 (2 : Int32)) (lw_V q3237 q3239 qs68 q147 q3240) nd_X6_sum rfl (le_fr hf rfl) (le_fr hlo rfl) rfl (Nat.le_of_ble_eq_true rfl) dX6_link_117 fun r14 M13 => ?_
        exact s_iret C rfl dX6_link_120
      · refine s_aload_n C dX6_link_121 1 rfl rfl ?_
        refine s_iload C dX6_link_122 0 rfl ?_
        refine s_iload_n C dX6_link_124 3 rfl rfl ?_
        refine sm_callI C 2 [] (ct_X6_counts hL hM M4 a6 x2) (lw_V q3229 q3231 qs66 q147 q3232) nd_X6_counts rfl (le_fr hf rfl) (le_fr hlo rfl) rfl (Nat.le_of_ble_eq_true rfl) dX6_link_125 fun r16 M15 => ?_
        refine sm_callSI C 1 [] (ct_X6_truth hL hM M15 r16) (lw_S q3268 q3269 q147 q3270) nd_X6_truth rfl (le_fr hf rfl) (le_fr hlo rfl) rfl (Nat.le_of_ble_eq_true rfl) dX6_link_128 fun r18 M17 => ?_
        exact s_iret C rfl dX6_link_131
    · refine s_iconst C (0 : Int32) dX6_link_30 (by decide) ?_
      exact s_iret C rfl dX6_link_31
  have hj19 : ∀ (x1 : Int32) (x2 : Int32) (x3 : Int32) (M19 : Ms), Sim (plug h0 mo) E (QM (plug h0 mo) E finI) M19 19 [(0, vr mo), (1, .int x1), (2, .int x2), (3, .int x3)] [vr mo] (g_link_j19 x1 x2 x3 M19) := by
    intro x1 x2 x3 M19
    refine s_iconst C (1 : Int32) dX6_link_19 (by decide) ?_
    refine s_goto C 24 dX6_link_20 (by decide) ?_
    exact hj24 _ _ _ _ _
  refine s_if_eq C 19 dX6_link_7 (by decide) ?_ ?_
  · exact hj19 _ _ _ _
  · refine s_iload_n C dX6_link_10 3 rfl rfl ?_
    refine s_iconst C (0 : Int32) dX6_link_11 (by decide) ?_
    refine s_iconst C (5 : Int32) dX6_link_12 (by decide) ?_
    refine sm_callSI C 3 [vr mo] (ct_X6_isIn hL hM M1 x3 (0 : Int32) (5 : Int32)) (lw_S q3150 q3151 q147 q3152) nd_X6_isIn rfl (le_fr hf rfl) (le_fr hlo rfl) rfl (Nat.le_of_ble_eq_true rfl) dX6_link_13 fun r21 M20 => ?_
    refine s_if_ne C 23 dX6_link_16 (by decide) ?_ ?_
    · refine s_iconst C (0 : Int32) dX6_link_23 (by decide) ?_
      exact hj24 _ _ _ _ _
    · exact hj19 _ _ _ _

def g_looks_j21  (M4 : Ms) : Option (Int32 × Ms) :=
  some ((-1 : Int32), M4)
def g_looks (x1 : Int32) (x2 : Int32) (M : Ms) : Option (Int32 × Ms) :=
  bd (mI 0 (0 : Int32) M) fun M1 =>
  bn (g_isVoter x1 M1) fun r3 M2 =>
  if r3 = 0 then
    g_looks_j21 M2
  else
    bn (g_isBlock x2 M2) fun r6 M5 =>
    if r6 = 0 then
      g_looks_j21 M5
    else
      (aI 0 6 ((216 : Int32) + x1) M5).bind fun a7 =>
      if a7 = x2 then
        some ((1 : Int32), M5)
      else
        bn (g_keeps  M5) fun _ M8 =>
        bn (g_doesLook x1 x2 M8) fun _ M9 =>
        some ((0 : Int32), M9)
theorem nd_X6_looks : yX6_looks.cls = RX6 ∧ yX6_looks.cls ≠ "java/lang/invoke/MethodHandle" ∧ yX6_looks.cls ≠ "java/lang/invoke/VarHandle" ∧ (parseMethodDescriptor yX6_looks.desc).map (fun d => d.parameters.length) = some 2 := ⟨rfl, by decide +kernel, by decide +kernel, by decide +kernel⟩
theorem ct_X6_looks {G : Gx} {RL : Lv} {Pl : Nat → Bool} {l : Launch} (hL : LvA G RL Pl) {h0 : Hp} {mo : Nat} (hM : MP Pl mo) (M : Ms) (x1 : Int32) (x2 : Int32) : Ct (plug h0 mo) G RL l yX6_looks (ws_ yX6_looks cX6_looks 3 (some .int)) 2 43 finI [vr mo, .int x1, .int x2] M (g_looks x1 x2 M) := by
  refine Ct.of (Pl := Pl) [(0, vr mo), (1, .int x1), (2, .int x2)] (by decide) hL rfl (Nat.le_of_ble_eq_true rfl) ?_
  intro E C hn hf hlo e1 e2 e3 e4 e5
  subst e1; subst e2; subst e3; subst e4
  replace C : Cx E cX6_looks (some .int) RX6 := C
  unfold g_looks
  refine s_aload_n C dX6_looks_0 0 rfl rfl ?_
  refine s_iconst C (0 : Int32) dX6_looks_1 (by decide) ?_
  refine sm_putI 0 0 C hM fo_X6_1_6 rfl ⟨by decide, by decide, rfl⟩ rfl rfl dX6_looks_2 ?_
  refine s_bdh fun M1 => ?_
  refine s_aload_n C dX6_looks_5 0 rfl rfl ?_
  refine s_iload_n C dX6_looks_6 1 rfl rfl ?_
  refine sm_callI C 1 [] (ct_X6_isVoter hL hM M1 x1) (lw_V q3287 q3289 qs76 q147 q3290) nd_X6_isVoter rfl (le_fr hf rfl) (le_fr hlo rfl) rfl (Nat.le_of_ble_eq_true rfl) dX6_looks_7 fun r3 M2 => ?_
  have hj21 : ∀  (M4 : Ms), Sim (plug h0 mo) E (QM (plug h0 mo) E finI) M4 21 [] [] (g_looks_j21 M4) := by
    intro M4
    refine s_iconst C (-1 : Int32) dX6_looks_21 (by decide) ?_
    exact s_iret C rfl dX6_looks_22
  refine s_if_eq C 21 dX6_looks_10 (by decide) ?_ ?_
  · refine Sim.keep [] rfl ?_
    exact hj21 _
  · refine s_aload_n C dX6_looks_13 0 rfl rfl ?_
    refine s_iload_n C dX6_looks_14 2 rfl rfl ?_
    refine sm_callI C 1 [] (ct_X6_isBlock hL hM M2 x2) (lw_V q3193 q3195 qs57 q147 q3196) nd_X6_isBlock rfl (le_fr hf rfl) (le_fr hlo rfl) rfl (Nat.le_of_ble_eq_true rfl) dX6_looks_15 fun r6 M5 => ?_
    refine s_if_ne C 23 dX6_looks_18 (by decide) ?_ ?_
    · refine s_aload_n C dX6_looks_23 0 rfl rfl ?_
      refine sm_getA 6 C hM fo_X6_33_6 rfl (by decide) dX6_looks_24 ?_
      refine s_sipush C (216 : Int32) dX6_looks_27 (by decide) ?_
      refine s_iload_n C dX6_looks_30 1 rfl rfl ?_
      refine s_iadd C dX6_looks_31 ?_
      refine sm_iald C hM dX6_looks_32 fun a7 => ?_
      refine s_iload_n C dX6_looks_33 2 rfl rfl ?_
      refine s_icmp_ne C 39 dX6_looks_34 (by decide) ?_ ?_
      · refine s_aload_n C dX6_looks_39 0 rfl rfl ?_
        refine sm_callV C 0 [] (ct_X6_keeps hL hM M5 ) (lw_V q3319 q3321 qs80 q147 q3322) nd_X6_keeps rfl (le_fr hf rfl) (le_fr hlo rfl) rfl (Nat.le_of_ble_eq_true rfl) dX6_looks_40 fun _ M8 => ?_
        refine s_aload_n C dX6_looks_43 0 rfl rfl ?_
        refine s_iload_n C dX6_looks_44 1 rfl rfl ?_
        refine s_iload_n C dX6_looks_45 2 rfl rfl ?_
        refine sm_callV C 2 [] (ct_X6_doesLook hL hM M8 x1 x2) (lw_V q3339 q3341 qs84 q147 q3342) nd_X6_doesLook rfl (le_fr hf rfl) (le_fr hlo rfl) rfl (Nat.le_of_ble_eq_true rfl) dX6_looks_46 fun _ M9 => ?_
        refine s_iconst C (0 : Int32) dX6_looks_49 (by decide) ?_
        exact s_iret C rfl dX6_looks_50
      · refine s_iconst C (1 : Int32) dX6_looks_37 (by decide) ?_
        exact s_iret C rfl dX6_looks_38
    · refine Sim.keep [] rfl ?_
      exact hj21 _

def g_mean_j79 (rec43 : (Int32 × Int32 × Int32) → Ms → Option (Int32 × Ms)) (x1 : Int32) (x2 : Int32) (x3 : Int32) (x4 : Int32) (M12 : Ms) : Option (Int32 × Ms) :=
  rec43 (x2, x3, (x4 + (1 : Int32))) M12
def g_mean_L43 (x1 : Int32) : (Int32 × Int32 × Int32) → Ms → Option (Int32 × Ms) :=
  lp FU fun rec43 v43 M6 =>
    (aI 0 6 (2 : Int32) M6).bind fun a7 =>
    if a7 ≤ v43.2.2 then
      bn (g_least v43.1 v43.2.1 x1 M6) fun r9 M8 =>
      some (r9, M8)
    else
      bn (g_on v43.2.2 M6) fun r11 M10 =>
      if r11 = 0 then
        (aI 0 21 v43.2.2 M10).bind fun a13 =>
        bd ((v43.1 + a13)) fun a14 =>
        g_mean_j79 rec43 x1 a14 (v43.2.1 + (1 : Int32)) v43.2.2 M10
      else
        g_mean_j79 rec43 x1 v43.1 v43.2.1 v43.2.2 M10
def g_mean_j24 (x1 : Int32) (y1 : Int32) (M2 : Ms) : Option (Int32 × Ms) :=
  bn (g_throwsIf y1 M2) fun r4 M3 =>
  if r4 = 0 then
    bn (g_lays  M3) fun _ M5 =>
    g_mean_L43 x1 ((0 : Int32), (0 : Int32), (0 : Int32)) M5
  else
    some ((0 : Int32), M3)
def g_mean_j19 (x1 : Int32) (M15 : Ms) : Option (Int32 × Ms) :=
  g_mean_j24 x1 (1 : Int32) M15
def g_mean (x1 : Int32) (M : Ms) : Option (Int32 × Ms) :=
  (aI 0 6 (2 : Int32) M).bind fun a1 =>
  if a1 = 0 then
    g_mean_j19 x1 M
  else
    bn (g_isIn x1 (0 : Int32) (1 : Int32) M) fun r17 M16 =>
    if r17 = 0 then
      g_mean_j19 x1 M16
    else
      g_mean_j24 x1 (0 : Int32) M16
theorem nd_X6_mean : yX6_mean.cls = RX6 ∧ yX6_mean.cls ≠ "java/lang/invoke/MethodHandle" ∧ yX6_mean.cls ≠ "java/lang/invoke/VarHandle" ∧ (parseMethodDescriptor yX6_mean.desc).map (fun d => d.parameters.length) = some 1 := ⟨rfl, by decide +kernel, by decide +kernel, by decide +kernel⟩
theorem ct_X6_mean {G : Gx} {RL : Lv} {Pl : Nat → Bool} {l : Launch} (hL : LvA G RL Pl) {h0 : Hp} {mo : Nat} (hM : MP Pl mo) (M : Ms) (x1 : Int32) : Ct (plug h0 mo) G RL l yX6_mean (ws_ yX6_mean cX6_mean 5 (some .int)) 7 163 finI [vr mo, .int x1] M (g_mean x1 M) := by
  refine Ct.of (Pl := Pl) [(0, vr mo), (1, .int x1)] (by decide) hL rfl (Nat.le_of_ble_eq_true rfl) ?_
  intro E C hn hf hlo e1 e2 e3 e4 e5
  subst e1; subst e2; subst e3; subst e4
  replace C : Cx E cX6_mean (some .int) RX6 := C
  unfold g_mean
  refine s_aload_n C dX6_mean_0 0 rfl rfl ?_
  refine s_aload_n C dX6_mean_1 0 rfl rfl ?_
  refine sm_getA 6 C hM fo_X6_33_6 rfl (by decide) dX6_mean_2 ?_
  refine s_iconst C (2 : Int32) dX6_mean_5 (by decide) ?_
  refine sm_iald C hM dX6_mean_6 fun a1 => ?_
  have hj24 : ∀ (x1 : Int32) (y1 : Int32) (M2 : Ms), Sim (plug h0 mo) E (QM (plug h0 mo) E finI) M2 24 [(0, vr mo), (1, .int x1)] [.int y1, vr mo] (g_mean_j24 x1 y1 M2) := by
    intro x1 y1 M2
    refine sm_callI C 1 [] (ct_X6_throwsIf hL hM M2 y1) (lw_V q3197 q3199 qs58 q147 q3200) nd_X6_throwsIf rfl (le_fr hf rfl) (le_fr hlo rfl) rfl (Nat.le_of_ble_eq_true rfl) dX6_mean_24 fun r4 M3 => ?_
    refine s_if_eq C 32 dX6_mean_27 (by decide) ?_ ?_
    · refine s_aload_n C dX6_mean_32 0 rfl rfl ?_
      refine sm_callV C 0 [] (ct_X6_lays hL hM M3 ) (lw_V q3201 q3203 qs59 q147 q3204) nd_X6_lays rfl (le_fr hf rfl) (le_fr hlo rfl) rfl (Nat.le_of_ble_eq_true rfl) dX6_mean_33 fun _ M5 => ?_
      refine s_iconst C (0 : Int32) dX6_mean_36 (by decide) ?_
      refine s_istore_n (la' := [(2, .int (0 : Int32)), (0, vr mo), (1, .int x1)]) C 2 dX6_mean_37 rfl (lt_nl e5 rfl) rfl ?_
      refine s_iconst C (0 : Int32) dX6_mean_38 (by decide) ?_
      refine s_istore_n (la' := [(3, .int (0 : Int32)), (2, .int (0 : Int32)), (0, vr mo), (1, .int x1)]) C 3 dX6_mean_39 rfl (lt_nl e5 rfl) rfl ?_
      refine s_iconst C (0 : Int32) dX6_mean_40 (by decide) ?_
      have hL43 : ∀ (x1 : Int32) (v43 : (Int32 × Int32 × Int32)) (M6 : Ms), Sim (plug h0 mo) E (QM (plug h0 mo) E finI) M6 43 [(0, vr mo), (1, .int x1), (2, .int v43.1), (3, .int v43.2.1), (4, .int v43.2.2)] [] (g_mean_L43 x1 v43 M6) := by
        intro x1 v43 M6
        refine Sim.loop (fun v43 => [(0, vr mo), (1, .int x1), (2, .int v43.1), (3, .int v43.2.1), (4, .int v43.2.2)]) (fun _ => []) (fun rec43 hr43 v43 M6 => ?_) FU v43 M6
        refine s_iload C dX6_mean_43 4 rfl ?_
        refine s_aload_n C dX6_mean_45 0 rfl rfl ?_
        refine sm_getA 6 C hM fo_X6_33_6 rfl (by decide) dX6_mean_46 ?_
        refine s_iconst C (2 : Int32) dX6_mean_49 (by decide) ?_
        refine sm_iald C hM dX6_mean_50 fun a7 => ?_
        refine s_icmp_ge C 85 dX6_mean_51 (by decide) ?_ ?_
        · refine s_iload_n C dX6_mean_85 2 rfl rfl ?_
          refine s_iload_n C dX6_mean_86 3 rfl rfl ?_
          refine s_iload_n C dX6_mean_87 1 rfl rfl ?_
          refine sm_callSI C 3 [] (ct_X6_least hL hM M6 v43.1 v43.2.1 x1) (lw_S q3418 q3419 q147 q3420) nd_X6_least rfl (le_fr hf rfl) (le_fr hlo rfl) rfl (Nat.le_of_ble_eq_true rfl) dX6_mean_88 fun r9 M8 => ?_
          exact s_iret C rfl dX6_mean_91
        · refine s_aload_n C dX6_mean_54 0 rfl rfl ?_
          refine s_iload C dX6_mean_55 4 rfl ?_
          refine sm_callI C 1 [] (ct_X6_on hL hM M6 v43.2.2) (lw_V q3264 q3266 qs74 q147 q3267) nd_X6_on rfl (le_fr hf rfl) (le_fr hlo rfl) rfl (Nat.le_of_ble_eq_true rfl) dX6_mean_57 fun r11 M10 => ?_
          have hj79 : ∀ (x2 : Int32) (x3 : Int32) (x4 : Int32) (M12 : Ms), Sim (plug h0 mo) E (QM (plug h0 mo) E finI) M12 79 [(0, vr mo), (1, .int x1), (2, .int x2), (3, .int x3), (4, .int x4)] [] (g_mean_j79 rec43 x1 x2 x3 x4 M12) := by
            intro x2 x3 x4 M12
            refine s_iinc (la' := [(4, .int (x4 + (1 : Int32))), (0, vr mo), (1, .int x1), (2, .int x2), (3, .int x3)]) C 4 dX6_mean_79 rfl rfl (lt_nl e5 rfl) rfl ?_
            refine s_goto C 43 dX6_mean_82 (by decide) ?_
            refine Sim.keep [1, 2, 3, 4, 0] rfl ?_
            exact hr43 _ _
          refine s_if_eq C 66 dX6_mean_60 (by decide) ?_ ?_
          · refine s_iload_n C dX6_mean_66 2 rfl rfl ?_
            refine s_aload_n C dX6_mean_67 0 rfl rfl ?_
            refine sm_getA 21 C hM fo_X6_53_6 rfl (by decide) dX6_mean_68 ?_
            refine s_iload C dX6_mean_71 4 rfl ?_
            refine sm_iald C hM dX6_mean_73 fun a13 => ?_
            refine s_iadd C dX6_mean_74 ?_
            refine s_bdi fun a14 => ?_
            refine s_istore_n (la' := [(2, .int a14), (0, vr mo), (1, .int x1), (3, .int v43.2.1), (4, .int v43.2.2)]) C 2 dX6_mean_75 rfl (lt_nl e5 rfl) rfl ?_
            refine s_iinc (la' := [(3, .int (v43.2.1 + (1 : Int32))), (2, .int a14), (0, vr mo), (1, .int x1), (4, .int v43.2.2)]) C 3 dX6_mean_76 rfl rfl (lt_nl e5 rfl) rfl ?_
            refine Sim.keep [2, 3, 1, 0, 4] rfl ?_
            exact hj79 _ _ _ _
          · refine s_goto C 79 dX6_mean_63 (by decide) ?_
            exact hj79 _ _ _ _
      refine s_istore (la' := [(4, .int (0 : Int32)), (3, .int (0 : Int32)), (2, .int (0 : Int32)), (0, vr mo), (1, .int x1)]) C dX6_mean_41 (lt_nl e5 rfl) rfl ?_
      refine Sim.keep [3, 4, 2, 1, 0] rfl ?_
      exact hL43 _ _ _
    · refine s_iconst C (0 : Int32) dX6_mean_30 (by decide) ?_
      exact s_iret C rfl dX6_mean_31
  have hj19 : ∀ (x1 : Int32) (M15 : Ms), Sim (plug h0 mo) E (QM (plug h0 mo) E finI) M15 19 [(0, vr mo), (1, .int x1)] [vr mo] (g_mean_j19 x1 M15) := by
    intro x1 M15
    refine s_iconst C (1 : Int32) dX6_mean_19 (by decide) ?_
    refine s_goto C 24 dX6_mean_20 (by decide) ?_
    exact hj24 _ _ _
  refine s_if_eq C 19 dX6_mean_7 (by decide) ?_ ?_
  · exact hj19 _ _
  · refine s_iload_n C dX6_mean_10 1 rfl rfl ?_
    refine s_iconst C (0 : Int32) dX6_mean_11 (by decide) ?_
    refine s_iconst C (1 : Int32) dX6_mean_12 (by decide) ?_
    refine sm_callSI C 3 [vr mo] (ct_X6_isIn hL hM M x1 (0 : Int32) (1 : Int32)) (lw_S q3150 q3151 q147 q3152) nd_X6_isIn rfl (le_fr hf rfl) (le_fr hlo rfl) rfl (Nat.le_of_ble_eq_true rfl) dX6_mean_13 fun r17 M16 => ?_
    refine s_if_ne C 23 dX6_mean_16 (by decide) ?_ ?_
    · refine s_iconst C (0 : Int32) dX6_mean_23 (by decide) ?_
      exact hj24 _ _ _
    · exact hj19 _ _

def g_offenceOf_j88 (rec6 : (Int32 × Int32) → Ms → Option (Int32 × Ms)) (x1 : Int32) (x2 : Int32) (x3 : Int32) (x5 : Int32) (y0 : Int32) (M5 : Ms) : Option (Int32 × Ms) :=
  rec6 (y0, (x5 + (1 : Int32))) M5
def g_offenceOf_j86 (rec6 : (Int32 × Int32) → Ms → Option (Int32 × Ms)) (x1 : Int32) (x2 : Int32) (x3 : Int32) (x4 : Int32) (x5 : Int32) (M6 : Ms) : Option (Int32 × Ms) :=
  g_offenceOf_j88 rec6 x1 x2 x3 x5 x4 M6
def g_offenceOf_j81 (rec6 : (Int32 × Int32) → Ms → Option (Int32 × Ms)) (x1 : Int32) (x2 : Int32) (x3 : Int32) (x5 : Int32) (x6 : Int32) (M7 : Ms) : Option (Int32 × Ms) :=
  g_offenceOf_j88 rec6 x1 x2 x3 x5 x6 M7
def g_offenceOf_j62 (rec6 : (Int32 × Int32) → Ms → Option (Int32 × Ms)) (x1 : Int32) (x2 : Int32) (x3 : Int32) (x4 : Int32) (x5 : Int32) (y0 : Int32) (M4 : Ms) : Option (Int32 × Ms) :=
  if y0 ≤ 0 then
    g_offenceOf_j86 rec6 x1 x2 x3 x4 x5 M4
  else
    if x4 = 0 then
      g_offenceOf_j81 rec6 x1 x2 x3 x5 y0 M4
    else
      if x4 ≤ y0 then
        g_offenceOf_j86 rec6 x1 x2 x3 x4 x5 M4
      else
        g_offenceOf_j81 rec6 x1 x2 x3 x5 y0 M4
def g_offenceOf_L6 (x1 : Int32) (x2 : Int32) (x3 : Int32) : (Int32 × Int32) → Ms → Option (Int32 × Ms) :=
  lp FU fun rec6 v6 M1 =>
    (aI 0 6 (3 : Int32) M1).bind fun a2 =>
    if a2 ≤ v6.2 then
      some (v6.1, M1)
    else
      (aI 0 6 ((72 : Int32) + v6.2) M1).bind fun a3 =>
      if a3 = x1 then
        (aI 0 6 ((120 : Int32) + v6.2) M1).bind fun a8 =>
        (aI 0 6 ((168 : Int32) + v6.2) M1).bind fun a9 =>
        bn (g_offenceBy a8 a9 x2 x3 M1) fun r11 M10 =>
        g_offenceOf_j62 rec6 x1 x2 x3 v6.1 v6.2 r11 M10
      else
        g_offenceOf_j62 rec6 x1 x2 x3 v6.1 v6.2 (0 : Int32) M1
def g_offenceOf (x1 : Int32) (x2 : Int32) (x3 : Int32) (M : Ms) : Option (Int32 × Ms) :=
  g_offenceOf_L6 x1 x2 x3 ((0 : Int32), (0 : Int32)) M
theorem nd_X6_offenceOf : yX6_offenceOf.cls = RX6 ∧ yX6_offenceOf.cls ≠ "java/lang/invoke/MethodHandle" ∧ yX6_offenceOf.cls ≠ "java/lang/invoke/VarHandle" ∧ (parseMethodDescriptor yX6_offenceOf.desc).map (fun d => d.parameters.length) = some 3 := ⟨rfl, by decide +kernel, by decide +kernel, by decide +kernel⟩
theorem ct_X6_offenceOf {G : Gx} {RL : Lv} {Pl : Nat → Bool} {l : Launch} (hL : LvA G RL Pl) {h0 : Hp} {mo : Nat} (hM : MP Pl mo) (M : Ms) (x1 : Int32) (x2 : Int32) (x3 : Int32) : Ct (plug h0 mo) G RL l yX6_offenceOf (ws_ yX6_offenceOf cX6_offenceOf 7 (some .int)) 2 46 finI [vr mo, .int x1, .int x2, .int x3] M (g_offenceOf x1 x2 x3 M) := by
  refine Ct.of (Pl := Pl) [(0, vr mo), (1, .int x1), (2, .int x2), (3, .int x3)] (by decide) hL rfl (Nat.le_of_ble_eq_true rfl) ?_
  intro E C hn hf hlo e1 e2 e3 e4 e5
  subst e1; subst e2; subst e3; subst e4
  replace C : Cx E cX6_offenceOf (some .int) RX6 := C
  unfold g_offenceOf
  refine s_iconst C (0 : Int32) dX6_offenceOf_0 (by decide) ?_
  refine s_istore (la' := [(4, .int (0 : Int32)), (0, vr mo), (1, .int x1), (2, .int x2), (3, .int x3)]) C dX6_offenceOf_1 (lt_nl e5 rfl) rfl ?_
  refine s_iconst C (0 : Int32) dX6_offenceOf_3 (by decide) ?_
  have hL6 : ∀ (x1 : Int32) (x2 : Int32) (x3 : Int32) (v6 : (Int32 × Int32)) (M1 : Ms), Sim (plug h0 mo) E (QM (plug h0 mo) E finI) M1 6 [(0, vr mo), (1, .int x1), (2, .int x2), (3, .int x3), (4, .int v6.1), (5, .int v6.2)] [] (g_offenceOf_L6 x1 x2 x3 v6 M1) := by
    intro x1 x2 x3 v6 M1
    refine Sim.loop (fun v6 => [(0, vr mo), (1, .int x1), (2, .int x2), (3, .int x3), (4, .int v6.1), (5, .int v6.2)]) (fun _ => []) (fun rec6 hr6 v6 M1 => ?_) FU v6 M1
    refine s_iload C dX6_offenceOf_6 5 rfl ?_
    refine s_aload_n C dX6_offenceOf_8 0 rfl rfl ?_
    refine sm_getA 6 C hM fo_X6_33_6 rfl (by decide) dX6_offenceOf_9 ?_
    refine s_iconst C (3 : Int32) dX6_offenceOf_12 (by decide) ?_
    refine sm_iald C hM dX6_offenceOf_13 fun a2 => ?_
    refine s_icmp_ge C 96 dX6_offenceOf_14 (by decide) ?_ ?_
    · refine s_iload C dX6_offenceOf_96 4 rfl ?_
      exact s_iret C rfl dX6_offenceOf_98
    · refine s_aload_n C dX6_offenceOf_17 0 rfl rfl ?_
      refine sm_getA 6 C hM fo_X6_33_6 rfl (by decide) dX6_offenceOf_18 ?_
      refine s_bipush C (72 : Int32) dX6_offenceOf_21 (by decide) ?_
      refine s_iload C dX6_offenceOf_23 5 rfl ?_
      refine s_iadd C dX6_offenceOf_25 ?_
      refine sm_iald C hM dX6_offenceOf_26 fun a3 => ?_
      refine s_iload_n C dX6_offenceOf_27 1 rfl rfl ?_
      have hj62 : ∀ (x4 : Int32) (x5 : Int32) (y0 : Int32) (M4 : Ms), Sim (plug h0 mo) E (QM (plug h0 mo) E finI) M4 62 [(0, vr mo), (1, .int x1), (2, .int x2), (3, .int x3), (4, .int x4), (5, .int x5)] [.int y0] (g_offenceOf_j62 rec6 x1 x2 x3 x4 x5 y0 M4) := by
        intro x4 x5 y0 M4
        refine s_istore (la' := [(6, .int y0), (0, vr mo), (1, .int x1), (2, .int x2), (3, .int x3), (4, .int x4), (5, .int x5)]) C dX6_offenceOf_62 (lt_nl e5 rfl) rfl ?_
        refine s_iload C dX6_offenceOf_64 0 rfl ?_
        have hj88 : ∀ (x5 : Int32) (y0 : Int32) (M5 : Ms), Sim (plug h0 mo) E (QM (plug h0 mo) E finI) M5 88 [(0, vr mo), (1, .int x1), (2, .int x2), (3, .int x3), (5, .int x5)] [.int y0] (g_offenceOf_j88 rec6 x1 x2 x3 x5 y0 M5) := by
          intro x5 y0 M5
          refine s_istore (la' := [(4, .int y0), (0, vr mo), (1, .int x1), (2, .int x2), (3, .int x3), (5, .int x5)]) C dX6_offenceOf_88 (lt_nl e5 rfl) rfl ?_
          refine s_iinc (la' := [(5, .int (x5 + (1 : Int32))), (4, .int y0), (0, vr mo), (1, .int x1), (2, .int x2), (3, .int x3)]) C 5 dX6_offenceOf_90 rfl rfl (lt_nl e5 rfl) rfl ?_
          refine s_goto C 6 dX6_offenceOf_93 (by decide) ?_
          refine Sim.keep [2, 3, 4, 5, 1, 0] rfl ?_
          exact hr6 _ _
        have hj86 : ∀ (x4 : Int32) (x5 : Int32) (M6 : Ms), Sim (plug h0 mo) E (QM (plug h0 mo) E finI) M6 86 [(0, vr mo), (1, .int x1), (2, .int x2), (3, .int x3), (4, .int x4), (5, .int x5)] [] (g_offenceOf_j86 rec6 x1 x2 x3 x4 x5 M6) := by
          intro x4 x5 M6
          refine s_iload C dX6_offenceOf_86 4 rfl ?_
          refine Sim.keep [0, 1, 2, 3, 5] rfl ?_
          exact hj88 _ _ _
        refine s_if_le C 86 dX6_offenceOf_66 (by decide) ?_ ?_
        · refine Sim.keep [1, 2, 3, 4, 5, 6] rfl ?_
          exact hj86 _ _ _
        · refine s_iload C dX6_offenceOf_69 5 rfl ?_
          have hj81 : ∀ (x5 : Int32) (x6 : Int32) (M7 : Ms), Sim (plug h0 mo) E (QM (plug h0 mo) E finI) M7 81 [(0, vr mo), (1, .int x1), (2, .int x2), (3, .int x3), (5, .int x5), (6, .int x6)] [] (g_offenceOf_j81 rec6 x1 x2 x3 x5 x6 M7) := by
            intro x5 x6 M7
            refine s_iload C dX6_offenceOf_81 5 rfl ?_
            refine s_goto C 88 dX6_offenceOf_83 (by decide) ?_
            refine Sim.keep [0, 1, 2, 3, 4] rfl ?_
            exact hj88 _ _ _
          refine s_if_eq C 81 dX6_offenceOf_71 (by decide) ?_ ?_
          · refine Sim.keep [1, 2, 3, 4, 6, 0] rfl ?_
            exact hj81 _ _ _
          · refine s_iload C dX6_offenceOf_74 0 rfl ?_
            refine s_iload C dX6_offenceOf_76 5 rfl ?_
            refine s_icmp_ge C 86 dX6_offenceOf_78 (by decide) ?_ ?_
            · refine Sim.keep [1, 2, 3, 4, 5, 6] rfl ?_
              exact hj86 _ _ _
            · refine Sim.keep [1, 2, 3, 4, 6, 0] rfl ?_
              exact hj81 _ _ _
      refine s_icmp_ne C 61 dX6_offenceOf_28 (by decide) ?_ ?_
      · refine s_iconst C (0 : Int32) dX6_offenceOf_61 (by decide) ?_
        exact hj62 _ _ _ _
      · refine s_aload_n C dX6_offenceOf_31 0 rfl rfl ?_
        refine s_aload_n C dX6_offenceOf_32 0 rfl rfl ?_
        refine sm_getA 6 C hM fo_X6_33_6 rfl (by decide) dX6_offenceOf_33 ?_
        refine s_bipush C (120 : Int32) dX6_offenceOf_36 (by decide) ?_
        refine s_iload C dX6_offenceOf_38 5 rfl ?_
        refine s_iadd C dX6_offenceOf_40 ?_
        refine sm_iald C hM dX6_offenceOf_41 fun a8 => ?_
        refine s_aload_n C dX6_offenceOf_42 0 rfl rfl ?_
        refine sm_getA 6 C hM fo_X6_33_6 rfl (by decide) dX6_offenceOf_43 ?_
        refine s_sipush C (168 : Int32) dX6_offenceOf_46 (by decide) ?_
        refine s_iload C dX6_offenceOf_49 5 rfl ?_
        refine s_iadd C dX6_offenceOf_51 ?_
        refine sm_iald C hM dX6_offenceOf_52 fun a9 => ?_
        refine s_iload_n C dX6_offenceOf_53 2 rfl rfl ?_
        refine s_iload_n C dX6_offenceOf_54 3 rfl rfl ?_
        refine sm_callI C 4 [] (ct_X6_offenceBy hL hM M1 a8 a9 x2 x3) (lw_V q3217 q3219 qs63 q147 q3220) nd_X6_offenceBy rfl (le_fr hf rfl) (le_fr hlo rfl) rfl (Nat.le_of_ble_eq_true rfl) dX6_offenceOf_55 fun r11 M10 => ?_
        refine s_goto C 62 dX6_offenceOf_58 (by decide) ?_
        exact hj62 _ _ _ _
  refine s_istore (la' := [(5, .int (0 : Int32)), (4, .int (0 : Int32)), (0, vr mo), (1, .int x1), (2, .int x2), (3, .int x3)]) C dX6_offenceOf_4 (lt_nl e5 rfl) rfl ?_
  refine Sim.keep [2, 3, 4, 5, 1, 0] rfl ?_
  exact hL6 _ _ _ _ _
