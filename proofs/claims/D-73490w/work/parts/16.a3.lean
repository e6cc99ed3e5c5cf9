/-! THE CLASSES' METHODS (printed by hgenapp.py): functions on a heap where the library's things are single cells; contracts -/
set_option maxRecDepth 100000
def g_FinalLinks_lived_j151 (y0 : Int32) (h26 : Hp) : Option (Int32 × Hp) :=
  some (y0, h26)
def g_FinalLinks_lived_j141 (x3 : Int32) (x4 : Int32) (h25 : Hp) : Option (Int32 × Hp) :=
  if x3 = 0 then
    g_FinalLinks_lived_j151 (-1 : Int32) h25
  else
    g_FinalLinks_lived_j151 x4 h25
def g_FinalLinks_lived_j75 (x0 : Nat) (x2 : Int32) (x3 : Int32) (x4 : Int32) (h8 : Hp) : Option (Int32 × Hp) :=
  (getR [1] 7 x0 h8).bind fun a9 =>
  (getR [1] 5 x0 h8).bind fun a10 =>
  bn (dsp (tg h8 a9 % 500) none [(4, g_Judged_of a9 a10 h8)]) fun r11 h12 =>
  (getR [1] 14 x0 h12).bind fun a13 =>
  (astI [200] 0 a13 (0 : Int32) x3 h12).bind fun h14 =>
  (getR [1] 14 x0 h14).bind fun a15 =>
  (astI [200] 0 a15 (1 : Int32) x4 h14).bind fun h16 =>
  (getR [1] 14 x0 h16).bind fun a17 =>
  (getR [1] 7 x0 h16).bind fun a18 =>
  (getI [4] 2 a18 h16).bind fun a19 =>
  (astI [200] 0 a17 (2 : Int32) a19 h16).bind fun h20 =>
  (getR [1] 14 x0 h20).bind fun a21 =>
  (getR [1] 7 x0 h20).bind fun a22 =>
  (getI [4] 7 a22 h20).bind fun a23 =>
  (astI [200] 0 a21 (3 : Int32) a23 h20).bind fun h24 =>
  if x2 = 0 then
    g_FinalLinks_lived_j141 x3 x4 h24
  else
    if x4 ≤ 0 then
      g_FinalLinks_lived_j141 x3 x4 h24
    else
      bn (dsp (tg h24 x0 % 500) none [(1, g_FinalLinks_lives x0 h24)]) fun _ h27 =>
      g_FinalLinks_lived_j141 x3 x4 h27
def g_FinalLinks_lived_L17 (x0 : Nat) (x1 : Nat) (x2 : Int32) : (Int32 × Int32) → Hp → Option (Int32 × Hp) :=
  lp FU fun rec17 v17 h5 =>
    bn (dsp (tg h5 x1 % 500) none [(25, oAlSize x1 h5)]) fun r6 h7 =>
    if r6 ≤ v17.2 then
      g_FinalLinks_lived_j75 x0 x2 v17.1 v17.2 h7
    else
      if v17.1 = 0 then
        bn (dsp (tg h7 x1 % 500) none [(25, oAlGet x1 v17.2 h7)]) fun r28 h29 =>
        (cst [11, 13, 14] r28 h29).bind fun _ =>
        (getR [1] 5 x0 h29).bind fun a30 =>
        bn (dsp (tg h29 r28 % 500) none [(11, g_Casts_does r28 a30 h29), (13, g_Looks_does r28 a30 h29), (14, g_Grows_does r28 a30 h29)]) fun r31 h32 =>
        if r31 = 0 then
          rec17 (r31, (v17.2 + (1 : Int32))) h32
        else
          bn (dsp (tg h32 x1 % 500) none [(25, oAlGet x1 v17.2 h32)]) fun r33 h34 =>
          (cst [11, 13, 14] r33 h34).bind fun _ =>
          bn (dsp (tg h34 r33 % 500) none [(11, g_Casts_sort r33 h34), (13, g_Looks_sort r33 h34), (14, g_Grows_sort r33 h34)]) fun r35 h36 =>
          bd ((r31 + r35)) fun a37 =>
          rec17 (a37, v17.2) h36
      else
        g_FinalLinks_lived_j75 x0 x2 v17.1 v17.2 h7
def g_FinalLinks_lived (x0 : Nat) (x1 : Nat) (x2 : Int32) (h : Hp) : Option (Int32 × Hp) :=
  (getR [1] 5 x0 h).bind fun a1 =>
  (getR [1] 4 x0 h).bind fun a2 =>
  bn (dsp (tg h a1 % 500) none [(3, g_Tree_as a1 a2 h)]) fun r3 h4 =>
  g_FinalLinks_lived_L17 x0 x1 x2 ((0 : Int32), (0 : Int32)) h4
theorem ct_g_FinalLinks_lived {G : Gx} {RL : Lv} {l : Launch} (hL : LvA G RL plA) (hJ : JK G RL l) (x0 : Nat) (x1 : Nat) (x2 : Int32) (h : Hp) : Ct id G RL l yX1_lived (ws_ yX1_lived cX1_lived 5 (some .int)) 49 4198 finI [vr x0, vr x1, .int x2] h (g_FinalLinks_lived x0 x1 x2 h) := by
  refine Ct.of (Pl := plA) [(0, vr x0), (1, vr x1), (2, .int x2)] (by decide) hL rfl (Nat.le_of_ble_eq_true rfl) ?_
  intro E C e6 hf hlo e1 e2 e3 e4 e5
  subst e1; subst e2; subst e3
  replace C : Cx E cX1_lived (some .int) RX1 := C
  replace e6 : (eMe E).name = "lived" := e6
  unfold g_FinalLinks_lived
  refine s_aload_n C dX1_lived_0 0 rfl rfl ?_
  refine s_getR [1] C (fl1 ⟨fo_X1_38_1, rfl⟩) (pl_of e4 rfl) dX1_lived_1 fun a1 => ?_
  refine s_aload_n C dX1_lived_4 0 rfl rfl ?_
  refine s_getR [1] C (fl1 ⟨fo_X1_34_1, rfl⟩) (pl_of e4 rfl) dX1_lived_5 fun a2 => ?_
  refine s_dk 11 finR [] (fun r3 h4 => ?_) (fun hk => s_dsp 3 (fun ht => c_V C 1 [] 3 RX3 ro_3 (ct_g_Tree_as hL hJ a1 a2 h) (lw_V q2224 q2225 q2226 q114 q2227) nd_X3_as rfl (le_fr hf rfl) (le_fr hlo rfl) rfl (Nat.le_of_ble_eq_true rfl) dX1_lived_8 hk ht) s_dsp0)
  refine s_pop C dX1_lived_11 rfl ?_
  refine s_iconst C (0 : Int32) dX1_lived_12 (by decide) ?_
  refine s_istore_n (la' := [(3, .int (0 : Int32)), (0, vr x0), (1, vr x1), (2, .int x2)]) C 3 dX1_lived_13 rfl (lt_nl e5 rfl) rfl ?_
  refine s_iconst C (0 : Int32) dX1_lived_14 (by decide) ?_
  have hL17 : ∀ (x0 : Nat) (x1 : Nat) (x2 : Int32) (v17 : (Int32 × Int32)) (h5 : Hp), Sim id E (QM id E finI) h5 17 [(0, vr x0), (1, vr x1), (2, .int x2), (3, .int v17.1), (4, .int v17.2)] [] (g_FinalLinks_lived_L17 x0 x1 x2 v17 h5) := by
    intro x0 x1 x2 v17 h5
    refine Sim.loop (fun v17 => [(0, vr x0), (1, vr x1), (2, .int x2), (3, .int v17.1), (4, .int v17.2)]) (fun _ => []) (fun rec17 hr17 v17 h5 => ?_) FU v17 h5
    refine s_iload C dX1_lived_17 4 rfl ?_
    refine s_aload_n C dX1_lived_19 1 rfl rfl ?_
    refine s_dk 23 finI [.int v17.2] (fun r6 h7 => ?_) (fun hk => s_dsp 25 (fun ht => c_V C 0 [.int v17.2] 25 RJ2 ro_25 (jk_15 hJ x1 h5) (lw_V q2196 q731 q732 q111 q733) nd_J2_size rfl (le_fr hf rfl) (le_fr hlo rfl) rfl (Nat.le_of_ble_eq_true rfl) dX1_lived_20 hk ht) s_dsp0)
    have hj75 : ∀ (x0 : Nat) (x2 : Int32) (x3 : Int32) (x4 : Int32) (h8 : Hp), Sim id E (QM id E finI) h8 75 [(0, vr x0), (2, .int x2), (3, .int x3), (4, .int x4)] [] (g_FinalLinks_lived_j75 x0 x2 x3 x4 h8) := by
      intro x0 x2 x3 x4 h8
      refine s_aload_n C dX1_lived_75 0 rfl rfl ?_
      refine s_getR [1] C (fl1 ⟨fo_X1_52_1, rfl⟩) (pl_of e4 rfl) dX1_lived_76 fun a9 => ?_
      refine s_aload_n C dX1_lived_79 0 rfl rfl ?_
      refine s_getR [1] C (fl1 ⟨fo_X1_38_1, rfl⟩) (pl_of e4 rfl) dX1_lived_80 fun a10 => ?_
      refine s_dk 86 finR [] (fun r11 h12 => ?_) (fun hk => s_dsp 4 (fun ht => c_V C 1 [] 4 RX4 ro_4 (ct_g_Judged_of hL hJ a9 a10 h8) (lw_V q722 q723 q724 q130 q725) nd_X4_of rfl (le_fr hf rfl) (le_fr hlo rfl) rfl (Nat.le_of_ble_eq_true rfl) dX1_lived_83 hk ht) s_dsp0)
      refine s_pop C dX1_lived_86 rfl ?_
      refine s_aload_n C dX1_lived_87 0 rfl rfl ?_
      refine s_getR [1] C (fl1 ⟨fo_X1_72_1, rfl⟩) (pl_of e4 rfl) dX1_lived_88 fun a13 => ?_
      refine s_iconst C (0 : Int32) dX1_lived_91 (by decide) ?_
      refine s_iload_n C dX1_lived_92 2 rfl rfl ?_
      refine s_iast [200] C (fl1 ⟨by decide, rfl⟩) (pl_of e4 rfl) dX1_lived_93 fun h14 => ?_
      refine s_aload_n C dX1_lived_94 0 rfl rfl ?_
      refine s_getR [1] C (fl1 ⟨fo_X1_72_1, rfl⟩) (pl_of e4 rfl) dX1_lived_95 fun a15 => ?_
      refine s_iconst C (1 : Int32) dX1_lived_98 (by decide) ?_
      refine s_iload C dX1_lived_99 3 rfl ?_
      refine s_iast [200] C (fl1 ⟨by decide, rfl⟩) (pl_of e4 rfl) dX1_lived_101 fun h16 => ?_
      refine s_aload_n C dX1_lived_102 0 rfl rfl ?_
      refine s_getR [1] C (fl1 ⟨fo_X1_72_1, rfl⟩) (pl_of e4 rfl) dX1_lived_103 fun a17 => ?_
      refine s_iconst C (2 : Int32) dX1_lived_106 (by decide) ?_
      refine s_aload_n C dX1_lived_107 0 rfl rfl ?_
      refine s_getR [1] C (fl1 ⟨fo_X1_52_1, rfl⟩) (pl_of e4 rfl) dX1_lived_108 fun a18 => ?_
      refine s_getI [4] C (fl1 ⟨fo_X1_332_4, rfl⟩) (pl_of e4 rfl) dX1_lived_111 fun a19 => ?_
      refine s_iast [200] C (fl1 ⟨by decide, rfl⟩) (pl_of e4 rfl) dX1_lived_114 fun h20 => ?_
      refine s_aload_n C dX1_lived_115 0 rfl rfl ?_
      refine s_getR [1] C (fl1 ⟨fo_X1_72_1, rfl⟩) (pl_of e4 rfl) dX1_lived_116 fun a21 => ?_
      refine s_iconst C (3 : Int32) dX1_lived_119 (by decide) ?_
      refine s_aload_n C dX1_lived_120 0 rfl rfl ?_
      refine s_getR [1] C (fl1 ⟨fo_X1_52_1, rfl⟩) (pl_of e4 rfl) dX1_lived_121 fun a22 => ?_
      refine s_getI [4] C (fl1 ⟨fo_X1_348_4, rfl⟩) (pl_of e4 rfl) dX1_lived_124 fun a23 => ?_
      refine s_iast [200] C (fl1 ⟨by decide, rfl⟩) (pl_of e4 rfl) dX1_lived_127 fun h24 => ?_
      refine s_iload_n C dX1_lived_128 1 rfl rfl ?_
      have hj141 : ∀ (x3 : Int32) (x4 : Int32) (h25 : Hp), Sim id E (QM id E finI) h25 141 [(3, .int x3), (4, .int x4)] [] (g_FinalLinks_lived_j141 x3 x4 h25) := by
        intro x3 x4 h25
        refine s_iload_n C dX1_lived_141 0 rfl rfl ?_
        have hj151 : ∀ (y0 : Int32) (h26 : Hp), Sim id E (QM id E finI) h26 151 [] [.int y0] (g_FinalLinks_lived_j151 y0 h26) := by
          intro y0 h26
          exact s_iret C rfl dX1_lived_151
        refine s_if_ne C 149 dX1_lived_142 (by decide) ?_ ?_
        · refine s_iload C dX1_lived_149 1 rfl ?_
          refine Sim.keep [] rfl ?_
          exact hj151 _ _
        · refine s_iconst C (-1 : Int32) dX1_lived_145 (by decide) ?_
          refine s_goto C 151 dX1_lived_146 (by decide) ?_
          refine Sim.keep [] rfl ?_
          exact hj151 _ _
      refine s_if_eq C 141 dX1_lived_129 (by decide) ?_ ?_
      · refine Sim.keep [2, 3] rfl ?_
        exact hj141 _ _ _
      · refine s_iload C dX1_lived_132 3 rfl ?_
        refine s_if_le C 141 dX1_lived_134 (by decide) ?_ ?_
        · refine Sim.keep [2, 3] rfl ?_
          exact hj141 _ _ _
        · refine s_aload_n C dX1_lived_137 0 rfl rfl ?_
          refine s_dk 141 finV [] (fun _ h27 => ?_) (fun hk => s_dsp 1 (fun ht => c_V C 0 [] 1 RX1 ro_1 (ct_g_FinalLinks_lives hL hJ x0 h24) (lw_V q2326 q2328 qs26 q107 q2329) nd_X1_lives rfl (le_fr hf rfl) (le_fr hlo rfl) rfl (Nat.le_of_ble_eq_true rfl) dX1_lived_138 hk ht) s_dsp0)
          refine Sim.keep [2, 3] rfl ?_
          exact hj141 _ _ _
    refine s_icmp_ge C 75 dX1_lived_23 (by decide) ?_ ?_
    · refine Sim.keep [0, 2, 3, 4] rfl ?_
      exact hj75 _ _ _ _ _
    · refine s_iload_n C dX1_lived_26 3 rfl rfl ?_
      refine s_if_ne C 75 dX1_lived_27 (by decide) ?_ ?_
      · refine Sim.keep [0, 2, 3, 4] rfl ?_
        exact hj75 _ _ _ _ _
      · refine s_aload_n C dX1_lived_30 1 rfl rfl ?_
        refine s_iload C dX1_lived_31 4 rfl ?_
        refine s_dk 36 finR [] (fun r28 h29 => ?_) (fun hk => s_dsp 25 (fun ht => c_V C 1 [] 25 RJ2 ro_25 (jk_14 hJ x1 v17.2 h7) (lw_V q2177 q735 q736 q111 q737) nd_J2_get rfl (le_fr hf rfl) (le_fr hlo rfl) rfl (Nat.le_of_ble_eq_true rfl) dX1_lived_33 hk ht) s_dsp0)
        refine s_cast [11, 13, 14] "FinalLinks$Act" C q2608 (flc ao_FinalLinks_Act_11 (flc ao_FinalLinks_Act_13 (fl1 ao_FinalLinks_Act_14))) dX1_lived_36 ?_
        refine s_aload_n C dX1_lived_39 0 rfl rfl ?_
        refine s_getR [1] C (fl1 ⟨fo_X1_38_1, rfl⟩) (pl_of e4 rfl) dX1_lived_40 fun a30 => ?_
        refine s_dk 46 finI [] (fun r31 h32 => ?_) (fun hk => s_dsp 11 (fun ht => c_A C 1 [] 11 RX13 "FinalLinks$Act" ro_11 (ct_g_Casts_does hL hJ r28 a30 h29) (lw_U q2254 q2256 q2257 q2258 q159 q2259) q2255 ⟨by decide +kernel, by decide +kernel, by decide +kernel⟩ rfl (le_fr hf rfl) (le_fr hlo rfl) rfl (Nat.le_of_ble_eq_true rfl) dX1_lived_43 hk ht) (s_dsp 13 (fun ht => c_A C 1 [] 13 RX15 "FinalLinks$Act" ro_13 (ct_g_Looks_does hL hJ r28 a30 h29) (lw_U q2254 q2256 q2320 q2321 q161 q2322) q2255 ⟨by decide +kernel, by decide +kernel, by decide +kernel⟩ rfl (le_fr hf rfl) (le_fr hlo rfl) rfl (Nat.le_of_ble_eq_true rfl) dX1_lived_43 hk ht) (s_dsp 14 (fun ht => c_A C 1 [] 14 RX16 "FinalLinks$Act" ro_14 (ct_g_Grows_does hL hJ r28 a30 h29) (lw_U q2254 q2256 q2311 q2312 q162 q2313) q2255 ⟨by decide +kernel, by decide +kernel, by decide +kernel⟩ rfl (le_fr hf rfl) (le_fr hlo rfl) rfl (Nat.le_of_ble_eq_true rfl) dX1_lived_43 hk ht) s_dsp0)))
        refine s_istore_n (la' := [(3, .int r31), (0, vr x0), (1, vr x1), (2, .int x2), (4, .int v17.2)]) C 3 dX1_lived_46 rfl (lt_nl e5 rfl) rfl ?_
        refine s_iload_n C dX1_lived_47 0 rfl rfl ?_
        refine s_if_ne C 57 dX1_lived_48 (by decide) ?_ ?_
        · refine s_iload_n C dX1_lived_57 0 rfl rfl ?_
          refine s_aload_n C dX1_lived_58 2 rfl rfl ?_
          refine s_iload C dX1_lived_59 4 rfl ?_
          refine s_dk 64 finR [.int r31] (fun r33 h34 => ?_) (fun hk => s_dsp 25 (fun ht => c_V C 1 [.int r31] 25 RJ2 ro_25 (jk_14 hJ x1 v17.2 h32) (lw_V q2177 q735 q736 q111 q737) nd_J2_get rfl (le_fr hf rfl) (le_fr hlo rfl) rfl (Nat.le_of_ble_eq_true rfl) dX1_lived_61 hk ht) s_dsp0)
          refine s_cast [11, 13, 14] "FinalLinks$Act" C q2608 (flc ao_FinalLinks_Act_11 (flc ao_FinalLinks_Act_13 (fl1 ao_FinalLinks_Act_14))) dX1_lived_64 ?_
          refine s_dk 70 finI [.int r31] (fun r35 h36 => ?_) (fun hk => s_dsp 11 (fun ht => c_A C 0 [.int r31] 11 RX13 "FinalLinks$Act" ro_11 (ct_g_Casts_sort hL hJ r33 h34) (lw_U q2609 q2611 q2612 q2613 q159 q2614) q2610 ⟨by decide +kernel, by decide +kernel, by decide +kernel⟩ rfl (le_fr hf rfl) (le_fr hlo rfl) rfl (Nat.le_of_ble_eq_true rfl) dX1_lived_67 hk ht) (s_dsp 13 (fun ht => c_A C 0 [.int r31] 13 RX15 "FinalLinks$Act" ro_13 (ct_g_Looks_sort hL hJ r33 h34) (lw_U q2609 q2611 q2618 q2619 q161 q2620) q2610 ⟨by decide +kernel, by decide +kernel, by decide +kernel⟩ rfl (le_fr hf rfl) (le_fr hlo rfl) rfl (Nat.le_of_ble_eq_true rfl) dX1_lived_67 hk ht) (s_dsp 14 (fun ht => c_A C 0 [.int r31] 14 RX16 "FinalLinks$Act" ro_14 (ct_g_Grows_sort hL hJ r33 h34) (lw_U q2609 q2611 q2615 q2616 q162 q2617) q2610 ⟨by decide +kernel, by decide +kernel, by decide +kernel⟩ rfl (le_fr hf rfl) (le_fr hlo rfl) rfl (Nat.le_of_ble_eq_true rfl) dX1_lived_67 hk ht) s_dsp0)))
          refine s_iadd C dX1_lived_70 ?_
          refine s_bdi fun a37 => ?_
          refine s_istore_n (la' := [(3, .int a37), (0, vr x0), (1, vr x1), (2, .int x2), (4, .int v17.2)]) C 3 dX1_lived_71 rfl (lt_nl e5 rfl) rfl ?_
          refine s_goto C 17 dX1_lived_72 (by decide) ?_
          refine Sim.keep [1, 2, 3, 0, 4] rfl ?_
          exact hr17 _ _
        · refine s_iinc (la' := [(4, .int (v17.2 + (1 : Int32))), (3, .int r31), (0, vr x0), (1, vr x1), (2, .int x2)]) C 4 dX1_lived_51 rfl rfl (lt_nl e5 rfl) rfl ?_
          refine s_goto C 17 dX1_lived_54 (by decide) ?_
          refine Sim.keep [2, 3, 4, 1, 0] rfl ?_
          exact hr17 _ _
  refine s_istore (la' := [(4, .int (0 : Int32)), (3, .int (0 : Int32)), (0, vr x0), (1, vr x1), (2, .int x2)]) C dX1_lived_15 (lt_nl e5 rfl) rfl ?_
  refine Sim.keep [2, 3, 4, 1, 0] rfl ?_
  exact hL17 _ _ _ _ _

def g_FinalLinks_takeAll (x0 : Nat) (h : Hp) : Option (Int32 × Hp) :=
  (getI [1] 1 x0 h).bind fun a1 =>
  (putI [1] 0 1 x0 (0 : Int32) h).bind fun h2 =>
  some (a1, h2)
theorem ct_g_FinalLinks_takeAll {G : Gx} {RL : Lv} {l : Launch} (hL : LvA G RL plA) (hJ : JK G RL l) (x0 : Nat) (h : Hp) : Ct id G RL l yX1_takeAll (ws_ yX1_takeAll cX1_takeAll 2 (some .int)) 0 0 finI [vr x0] h (g_FinalLinks_takeAll x0 h) := by
  refine Ct.of (Pl := plA) [(0, vr x0)] (by decide) hL rfl (Nat.le_of_ble_eq_true rfl) ?_
  intro E C e6 hf hlo e1 e2 e3 e4 e5
  subst e1; subst e2; subst e3
  replace C : Cx E cX1_takeAll (some .int) RX1 := C
  replace e6 : (eMe E).name = "takeAll" := e6
  unfold g_FinalLinks_takeAll
  refine s_aload_n C dX1_takeAll_0 0 rfl rfl ?_
  refine s_getI [1] C (fl1 ⟨fo_X1_83_1, rfl⟩) (pl_of e4 rfl) dX1_takeAll_1 fun a1 => ?_
  refine s_istore_n (la' := [(1, .int a1), (0, vr x0)]) C 1 dX1_takeAll_4 rfl (lt_nl e5 rfl) rfl ?_
  refine s_aload_n C dX1_takeAll_5 1 rfl rfl ?_
  refine s_iconst C (0 : Int32) dX1_takeAll_6 (by decide) ?_
  refine s_putI [1] 0 C (by decide) (by decide) (fl1 ⟨⟨by decide, fo_X1_83_1, rfl⟩, rfl⟩) (pl_of e4 rfl) (fl1 (Or.inl rfl)) dX1_takeAll_7 fun h2 => ?_
  refine s_iload_n C dX1_takeAll_10 0 rfl rfl ?_
  exact s_iret C rfl dX1_takeAll_11

def g_Reader_init (x0 : Nat) (x1 : Nat) (x2 : Int32) (x3 : Int32) (x4 : Nat) (h : Hp) : Option (Unit × Hp) :=
  if x0 = 0 then none else
  (putR [7, 15, 16] 9 x0 10 h).bind fun h2 =>
  (putR [7, 15, 16] 0 x0 x1 h2).bind fun h3 =>
  (putI [7, 15, 16] 0 1 x0 x2 h3).bind fun h4 =>
  (putI [7, 15, 16] 0 2 x0 x3 h4).bind fun h5 =>
  (putR [7, 15, 16] 4 x0 x4 h5).bind fun h6 =>
  some ((), h6)
theorem ct_g_Reader_init {G : Gx} {RL : Lv} {l : Launch} (hL : LvA G RL plA) (hJ : JK G RL l) (x0 : Nat) (x1 : Nat) (x2 : Int32) (x3 : Int32) (x4 : Nat) (h : Hp) : Ct id G RL l yX7_init (ws_ yX7_init cX7_init 5 none) 1 20 finV [vr x0, vr x1, .int x2, .int x3, vr x4] h (g_Reader_init x0 x1 x2 x3 x4 h) := by
  refine Ct.of (Pl := plA) [(0, vr x0), (1, vr x1), (2, .int x2), (3, .int x3), (4, vr x4)] (by decide) hL rfl (Nat.le_of_ble_eq_true rfl) ?_
  intro E C e6 hf hlo e1 e2 e3 e4 e5
  subst e1; subst e2; subst e3
  replace C : Cx E cX7_init none RX7 := C
  replace e6 : (eMe E).name = "<init>" := e6
  unfold g_Reader_init
  refine s_aload_n C dX7_init_0 0 rfl rfl ?_
  refine s_nz fun z1 => ?_
  refine s_objI C z1 q1507 q177 q178 (le_fr hf rfl) (le_fr hlo rfl) (Nat.le_of_ble_eq_true rfl) dX7_init_1 ?_
  refine s_aload_n C dX7_init_4 0 rfl rfl ?_
  refine s_ldcS C (List.mem_of_getElem? (i := 1) rfl) (by decide) (by decide) dX7_init_5 ?_
  refine s_putR [7, 15, 16] C (flc ⟨by decide, fo_X7_11_7, rfl⟩ (flc ⟨by decide, fo_X7_11_15, rfl⟩ (fl1 ⟨by decide, fo_X7_11_16, rfl⟩))) (pl_of e4 rfl) (flc (Or.inl rfl) (flc (Or.inl rfl) (fl1 (Or.inl rfl)))) dX7_init_7 fun h2 => ?_
  refine s_aload_n C dX7_init_10 0 rfl rfl ?_
  refine s_aload_n C dX7_init_11 1 rfl rfl ?_
  refine s_putR [7, 15, 16] C (flc ⟨by decide, fo_X7_17_7, rfl⟩ (flc ⟨by decide, fo_X7_17_15, rfl⟩ (fl1 ⟨by decide, fo_X7_17_16, rfl⟩))) (pl_of e4 rfl) (flc (Or.inr ⟨e6, fx_X7_17_7⟩) (flc (Or.inr ⟨e6, fx_X7_17_15⟩) (fl1 (Or.inr ⟨e6, fx_X7_17_16⟩)))) dX7_init_12 fun h3 => ?_
  refine s_aload_n C dX7_init_15 0 rfl rfl ?_
  refine s_iload_n C dX7_init_16 2 rfl rfl ?_
  refine s_putI [7, 15, 16] 0 C (by decide) (by decide) (flc ⟨⟨by decide, fo_X7_21_7, rfl⟩, rfl⟩ (flc ⟨⟨by decide, fo_X7_21_15, rfl⟩, rfl⟩ (fl1 ⟨⟨by decide, fo_X7_21_16, rfl⟩, rfl⟩))) (pl_of e4 rfl) (flc (Or.inr ⟨e6, fx_X7_21_7⟩) (flc (Or.inr ⟨e6, fx_X7_21_15⟩) (fl1 (Or.inr ⟨e6, fx_X7_21_16⟩)))) dX7_init_17 fun h4 => ?_
  refine s_aload_n C dX7_init_20 0 rfl rfl ?_
  refine s_iload_n C dX7_init_21 3 rfl rfl ?_
  refine s_putI [7, 15, 16] 0 C (by decide) (by decide) (flc ⟨⟨by decide, fo_X7_25_7, rfl⟩, rfl⟩ (flc ⟨⟨by decide, fo_X7_25_15, rfl⟩, rfl⟩ (fl1 ⟨⟨by decide, fo_X7_25_16, rfl⟩, rfl⟩))) (pl_of e4 rfl) (flc (Or.inr ⟨e6, fx_X7_25_7⟩) (flc (Or.inr ⟨e6, fx_X7_25_15⟩) (fl1 (Or.inr ⟨e6, fx_X7_25_16⟩)))) dX7_init_22 fun h5 => ?_
  refine s_aload_n C dX7_init_25 0 rfl rfl ?_
  refine s_aload C dX7_init_26 4 rfl ?_
  refine s_putR [7, 15, 16] C (flc ⟨by decide, fo_X7_28_7, rfl⟩ (flc ⟨by decide, fo_X7_28_15, rfl⟩ (fl1 ⟨by decide, fo_X7_28_16, rfl⟩))) (pl_of e4 rfl) (flc (Or.inr ⟨e6, fx_X7_28_7⟩) (flc (Or.inr ⟨e6, fx_X7_28_15⟩) (fl1 (Or.inr ⟨e6, fx_X7_28_16⟩)))) dX7_init_28 fun h6 => ?_
  exact s_vret C rfl dX7_init_31

def g_BookReader_init (x0 : Nat) (x1 : Nat) (x2 : Int32) (x3 : Nat) (h : Hp) : Option (Unit × Hp) :=
  if x0 = 0 then none else
  bn (g_Reader_init x0 x1 x2 (400 : Int32) x3 h) fun _ h1 =>
  bn (newO 25 3 h1) fun o3 h4 =>
  bn (oAlInit o3 h4) fun _ h5 =>
  (putR [15] 10 x0 o3 h5).bind fun h6 =>
  some ((), h6)
theorem ct_g_BookReader_init {G : Gx} {RL : Lv} {l : Launch} (hL : LvA G RL plA) (hJ : JK G RL l) (x0 : Nat) (x1 : Nat) (x2 : Int32) (x3 : Nat) (h : Hp) : Ct id G RL l yX17_init (ws_ yX17_init cX17_init 4 none) 41 4020 finV [vr x0, vr x1, .int x2, vr x3] h (g_BookReader_init x0 x1 x2 x3 h) := by
  refine Ct.of (Pl := plA) [(0, vr x0), (1, vr x1), (2, .int x2), (3, vr x3)] (by decide) hL rfl (Nat.le_of_ble_eq_true rfl) ?_
  intro E C e6 hf hlo e1 e2 e3 e4 e5
  subst e1; subst e2; subst e3
  replace C : Cx E cX17_init none RX17 := C
  replace e6 : (eMe E).name = "<init>" := e6
  unfold g_BookReader_init
  refine s_aload_n C dX17_init_0 0 rfl rfl ?_
  refine s_aload_n C dX17_init_1 1 rfl rfl ?_
  refine s_iload_n C dX17_init_2 2 rfl rfl ?_
  refine s_sipush C (400 : Int32) dX17_init_3 (by decide) ?_
  refine s_aload_n C dX17_init_6 3 rfl rfl ?_
  refine s_nz fun z2 => ?_
  refine c_I C 4 [] z2 (ct_g_Reader_init hL hJ x0 x1 x2 (400 : Int32) x3 h) (lw_meth q1506) q148 q2550 q1505 rfl nd_X7_init.2 rfl (le_fr hf rfl) (le_fr hlo rfl) rfl (Nat.le_of_ble_eq_true rfl) dX17_init_7 fun _ h1 => ?_
  refine s_aload_n C dX17_init_10 0 rfl rfl ?_
  refine s_newO 25 3 C no_X17_9 (pl_of1 e4 rfl) dX17_init_11 fun o3 h4 zo3 => ?_
  refine s_dup C dX17_init_14 rfl ?_
  refine c_I C 0 [vr o3, vr x0] zo3 (jk_11 hJ o3 h4) (lw_meth q189) q111 q2552 q188 rfl nd_J2_init.2 rfl (le_fr hf rfl) (le_fr hlo rfl) rfl (Nat.le_of_ble_eq_true rfl) dX17_init_15 fun _ h5 => ?_
  refine s_putR [15] C (fl1 ⟨by decide, fo_X17_14_15, rfl⟩) (pl_of e4 rfl) (fl1 (Or.inr ⟨e6, fx_X17_14_15⟩)) dX17_init_18 fun h6 => ?_
  exact s_vret C rfl dX17_init_21

def g_Act_init (x0 : Nat) (h : Hp) : Option (Unit × Hp) :=
  if x0 = 0 then none else
  some ((), h)
theorem ct_g_Act_init {G : Gx} {RL : Lv} {l : Launch} (hL : LvA G RL plA) (hJ : JK G RL l) (x0 : Nat) (h : Hp) : Ct id G RL l yX12_init (ws_ yX12_init cX12_init 1 none) 1 20 finV [vr x0] h (g_Act_init x0 h) := by
  refine Ct.of (Pl := plA) [(0, vr x0)] (by decide) hL rfl (Nat.le_of_ble_eq_true rfl) ?_
  intro E C e6 hf hlo e1 e2 e3 e4 e5
  subst e1; subst e2; subst e3
  replace C : Cx E cX12_init none RX12 := C
  replace e6 : (eMe E).name = "<init>" := e6
  unfold g_Act_init
  refine s_aload_n C dX12_init_0 0 rfl rfl ?_
  refine s_nz fun z1 => ?_
  refine s_objI C z1 q2209 q177 q178 (le_fr hf rfl) (le_fr hlo rfl) (Nat.le_of_ble_eq_true rfl) dX12_init_1 ?_
  exact s_vret C rfl dX12_init_4

def g_Casts_init (x0 : Nat) (x1 : Int32) (x2 : Int32) (x3 : Int32) (h : Hp) : Option (Unit × Hp) :=
  if x0 = 0 then none else
  bn (g_Act_init x0 h) fun _ h1 =>
  (putI [11] 0 0 x0 x1 h1).bind fun h3 =>
  (putI [11] 0 1 x0 x2 h3).bind fun h4 =>
  (putI [11] 0 2 x0 x3 h4).bind fun h5 =>
  some ((), h5)
theorem ct_g_Casts_init {G : Gx} {RL : Lv} {l : Launch} (hL : LvA G RL plA) (hJ : JK G RL l) (x0 : Nat) (x1 : Int32) (x2 : Int32) (x3 : Int32) (h : Hp) : Ct id G RL l yX13_init (ws_ yX13_init cX13_init 4 none) 2 40 finV [vr x0, .int x1, .int x2, .int x3] h (g_Casts_init x0 x1 x2 x3 h) := by
  refine Ct.of (Pl := plA) [(0, vr x0), (1, .int x1), (2, .int x2), (3, .int x3)] (by decide) hL rfl (Nat.le_of_ble_eq_true rfl) ?_
  intro E C e6 hf hlo e1 e2 e3 e4 e5
  subst e1; subst e2; subst e3
  replace C : Cx E cX13_init none RX13 := C
  replace e6 : (eMe E).name = "<init>" := e6
  unfold g_Casts_init
  refine s_aload_n C dX13_init_0 0 rfl rfl ?_
  refine s_nz fun z2 => ?_
  refine c_IN C 0 [] _ z2 (ct_g_Act_init hL hJ x0 h) (lw_meth q2208) q158 q2206 q2207 rfl nd_X12_init.2 rfl (le_fr hf rfl) (le_fr hlo rfl) rfl (Nat.le_of_ble_eq_true rfl) dX13_init_1 fun _ h1 => ?_
  refine s_aload_n C dX13_init_4 0 rfl rfl ?_
  refine s_iload_n C dX13_init_5 1 rfl rfl ?_
  refine s_putI [11] 0 C (by decide) (by decide) (fl1 ⟨⟨by decide, fo_X13_7_11, rfl⟩, rfl⟩) (pl_of e4 rfl) (fl1 (Or.inr ⟨e6, fx_X13_7_11⟩)) dX13_init_6 fun h3 => ?_
  refine s_aload_n C dX13_init_9 0 rfl rfl ?_
  refine s_iload_n C dX13_init_10 2 rfl rfl ?_
  refine s_putI [11] 0 C (by decide) (by decide) (fl1 ⟨⟨by decide, fo_X13_13_11, rfl⟩, rfl⟩) (pl_of e4 rfl) (fl1 (Or.inr ⟨e6, fx_X13_13_11⟩)) dX13_init_11 fun h4 => ?_
  refine s_aload_n C dX13_init_14 0 rfl rfl ?_
  refine s_iload_n C dX13_init_15 3 rfl rfl ?_
  refine s_putI [11] 0 C (by decide) (by decide) (fl1 ⟨⟨by decide, fo_X13_16_11, rfl⟩, rfl⟩) (pl_of e4 rfl) (fl1 (Or.inr ⟨e6, fx_X13_16_11⟩)) dX13_init_16 fun h5 => ?_
  exact s_vret C rfl dX13_init_19

def g_Grows_init (x0 : Nat) (x1 : Int32) (h : Hp) : Option (Unit × Hp) :=
  if x0 = 0 then none else
  bn (g_Act_init x0 h) fun _ h1 =>
  (putI [14] 0 0 x0 x1 h1).bind fun h3 =>
  some ((), h3)
theorem ct_g_Grows_init {G : Gx} {RL : Lv} {l : Launch} (hL : LvA G RL plA) (hJ : JK G RL l) (x0 : Nat) (x1 : Int32) (h : Hp) : Ct id G RL l yX16_init (ws_ yX16_init cX16_init 2 none) 2 40 finV [vr x0, .int x1] h (g_Grows_init x0 x1 h) := by
  refine Ct.of (Pl := plA) [(0, vr x0), (1, .int x1)] (by decide) hL rfl (Nat.le_of_ble_eq_true rfl) ?_
  intro E C e6 hf hlo e1 e2 e3 e4 e5
  subst e1; subst e2; subst e3
  replace C : Cx E cX16_init none RX16 := C
  replace e6 : (eMe E).name = "<init>" := e6
  unfold g_Grows_init
  refine s_aload_n C dX16_init_0 0 rfl rfl ?_
  refine s_nz fun z2 => ?_
  refine c_IN C 0 [] _ z2 (ct_g_Act_init hL hJ x0 h) (lw_meth q2208) q158 q2360 q2207 rfl nd_X12_init.2 rfl (le_fr hf rfl) (le_fr hlo rfl) rfl (Nat.le_of_ble_eq_true rfl) dX16_init_1 fun _ h1 => ?_
  refine s_aload_n C dX16_init_4 0 rfl rfl ?_
  refine s_iload_n C dX16_init_5 1 rfl rfl ?_
  refine s_putI [14] 0 C (by decide) (by decide) (fl1 ⟨⟨by decide, fo_X16_9_14, rfl⟩, rfl⟩) (pl_of e4 rfl) (fl1 (Or.inr ⟨e6, fx_X16_9_14⟩)) dX16_init_6 fun h3 => ?_
  exact s_vret C rfl dX16_init_9

def g_Looks_init (x0 : Nat) (x1 : Int32) (x2 : Int32) (h : Hp) : Option (Unit × Hp) :=
  if x0 = 0 then none else
  bn (g_Act_init x0 h) fun _ h1 =>
  (putI [13] 0 0 x0 x1 h1).bind fun h3 =>
  (putI [13] 0 1 x0 x2 h3).bind fun h4 =>
  some ((), h4)
theorem ct_g_Looks_init {G : Gx} {RL : Lv} {l : Launch} (hL : LvA G RL plA) (hJ : JK G RL l) (x0 : Nat) (x1 : Int32) (x2 : Int32) (h : Hp) : Ct id G RL l yX15_init (ws_ yX15_init cX15_init 3 none) 2 40 finV [vr x0, .int x1, .int x2] h (g_Looks_init x0 x1 x2 h) := by
  refine Ct.of (Pl := plA) [(0, vr x0), (1, .int x1), (2, .int x2)] (by decide) hL rfl (Nat.le_of_ble_eq_true rfl) ?_
  intro E C e6 hf hlo e1 e2 e3 e4 e5
  subst e1; subst e2; subst e3
  replace C : Cx E cX15_init none RX15 := C
  replace e6 : (eMe E).name = "<init>" := e6
  unfold g_Looks_init
  refine s_aload_n C dX15_init_0 0 rfl rfl ?_
  refine s_nz fun z2 => ?_
  refine c_IN C 0 [] _ z2 (ct_g_Act_init hL hJ x0 h) (lw_meth q2208) q158 q2343 q2207 rfl nd_X12_init.2 rfl (le_fr hf rfl) (le_fr hlo rfl) rfl (Nat.le_of_ble_eq_true rfl) dX15_init_1 fun _ h1 => ?_
  refine s_aload_n C dX15_init_4 0 rfl rfl ?_
  refine s_iload_n C dX15_init_5 1 rfl rfl ?_
  refine s_putI [13] 0 C (by decide) (by decide) (fl1 ⟨⟨by decide, fo_X15_7_13, rfl⟩, rfl⟩) (pl_of e4 rfl) (fl1 (Or.inr ⟨e6, fx_X15_7_13⟩)) dX15_init_6 fun h3 => ?_
  refine s_aload_n C dX15_init_9 0 rfl rfl ?_
  refine s_iload_n C dX15_init_10 2 rfl rfl ?_
  refine s_putI [13] 0 C (by decide) (by decide) (fl1 ⟨⟨by decide, fo_X15_13_13, rfl⟩, rfl⟩) (pl_of e4 rfl) (fl1 (Or.inr ⟨e6, fx_X15_13_13⟩)) dX15_init_11 fun h4 => ?_
  exact s_vret C rfl dX15_init_14

def g_Chain_find_j45 (y0 : Int32) (h12 : Hp) : Option (Int32 × Hp) :=
  some (y0, h12)
def g_Chain_find (x0 : Nat) (x1 : Nat) (x2 : Int32) (h : Hp) : Option (Int32 × Hp) :=
  (getR [2] 5 x0 h).bind fun a1 =>
  bn (dsp (tg h a1 % 500) none [(33, oMpHas [1022, 1033] a1 x1 h)]) fun r2 h3 =>
  if r2 = 0 then
    some ((-1 : Int32), h3)
  else
    (getR [2] 5 x0 h3).bind fun a4 =>
    bn (dsp (tg h3 a4 % 500) none [(33, oMpGet 1033 a4 x1 h3)]) fun r5 h6 =>
    (cst [35] r5 h6).bind fun _ =>
    bn (dsp (tg h6 r5 % 500) none [(35, oIntValue r5 h6)]) fun r7 h8 =>
    bd ((r7 - x2)) fun a9 =>
    bn (g_FinalLinks_isIn a9 (0 : Int32) (99 : Int32) h8) fun r10 h11 =>
    if r10 = 0 then
      g_Chain_find_j45 (-1 : Int32) h11
    else
      g_Chain_find_j45 a9 h11
theorem ct_g_Chain_find {G : Gx} {RL : Lv} {l : Launch} (hL : LvA G RL plA) (hJ : JK G RL l) (x0 : Nat) (x1 : Nat) (x2 : Int32) (h : Hp) : Ct id G RL l yX2_find (ws_ yX2_find cX2_find 4 (some .int)) 41 4022 finI [vr x0, vr x1, .int x2] h (g_Chain_find x0 x1 x2 h) := by
  refine Ct.of (Pl := plA) [(0, vr x0), (1, vr x1), (2, .int x2)] (by decide) hL rfl (Nat.le_of_ble_eq_true rfl) ?_
  intro E C e6 hf hlo e1 e2 e3 e4 e5
  subst e1; subst e2; subst e3
  replace C : Cx E cX2_find (some .int) RX2 := C
  replace e6 : (eMe E).name = "find" := e6
  unfold g_Chain_find
  refine s_aload_n C dX2_find_0 0 rfl rfl ?_
  refine s_getR [2] C (fl1 ⟨fo_X2_31_2, rfl⟩) (pl_of e4 rfl) dX2_find_1 fun a1 => ?_
  refine s_aload_n C dX2_find_4 1 rfl rfl ?_
  refine s_dk 8 finI [] (fun r2 h3 => ?_) (fun hk => s_dsp 33 (fun ht => c_V C 1 [] 33 RJ4 ro_33 (jk_23 hJ a1 x1 h) (lw_V q2083 q1390 q1391 q113 q1394) nd_J4_containsKey rfl (le_fr hf rfl) (le_fr hlo rfl) rfl (Nat.le_of_ble_eq_true rfl) dX2_find_5 hk ht) s_dsp0)
  refine s_if_ne C 13 dX2_find_8 (by decide) ?_ ?_
  · refine s_aload_n C dX2_find_13 0 rfl rfl ?_
    refine s_getR [2] C (fl1 ⟨fo_X2_31_2, rfl⟩) (pl_of e4 rfl) dX2_find_14 fun a4 => ?_
    refine s_aload_n C dX2_find_17 1 rfl rfl ?_
    refine s_dk 21 finR [] (fun r5 h6 => ?_) (fun hk => s_dsp 33 (fun ht => c_V C 1 [] 33 RJ4 ro_33 (jk_24 hJ a4 x1 h3) (lw_V q2084 q1397 q1398 q113 q1401) nd_J4_get rfl (le_fr hf rfl) (le_fr hlo rfl) rfl (Nat.le_of_ble_eq_true rfl) dX2_find_18 hk ht) s_dsp0)
    refine s_cast [35] "java/lang/Integer" C q2085 (fl1 ao_java_lang_Integer_35) dX2_find_21 ?_
    refine s_dk 27 finI [] (fun r7 h8 => ?_) (fun hk => s_dsp 35 (fun ht => c_V C 0 [] 35 RJ9 ro_35 (jk_0 hJ r5 h6) (lw_V q2086 q1053 q1054 q119 q1055) nd_J9_intValue rfl (le_fr hf rfl) (le_fr hlo rfl) rfl (Nat.le_of_ble_eq_true rfl) dX2_find_24 hk ht) s_dsp0)
    refine s_iload_n C dX2_find_27 2 rfl rfl ?_
    refine s_isub C dX2_find_28 ?_
    refine s_bdi fun a9 => ?_
    refine s_istore_n (la' := [(3, .int a9), (0, vr x0), (1, vr x1), (2, .int x2)]) C 3 dX2_find_29 rfl (lt_nl e5 rfl) rfl ?_
    refine s_iload_n C dX2_find_30 0 rfl rfl ?_
    refine s_iconst C (0 : Int32) dX2_find_31 (by decide) ?_
    refine s_bipush C (99 : Int32) dX2_find_32 (by decide) ?_
    refine c_SN C 3 [] _ (ct_g_FinalLinks_isIn hL hJ a9 (0 : Int32) (99 : Int32) h8) (lw_meth q1776) q107 q2087 q1775 nd_X1_isIn.2 rfl (le_fr hf rfl) (le_fr hlo rfl) rfl (Nat.le_of_ble_eq_true rfl) dX2_find_34 fun r10 h11 => ?_
    have hj45 : ∀ (y0 : Int32) (h12 : Hp), Sim id E (QM id E finI) h12 45 [] [.int y0] (g_Chain_find_j45 y0 h12) := by
      intro y0 h12
      exact s_iret C rfl dX2_find_45
    refine s_if_eq C 44 dX2_find_37 (by decide) ?_ ?_
    · refine s_iconst C (-1 : Int32) dX2_find_44 (by decide) ?_
      refine Sim.keep [] rfl ?_
      exact hj45 _ _
    · refine s_iload_n C dX2_find_40 0 rfl rfl ?_
      refine s_goto C 45 dX2_find_41 (by decide) ?_
      refine Sim.keep [] rfl ?_
      exact hj45 _ _
  · refine s_iconst C (-1 : Int32) dX2_find_11 (by decide) ?_
    exact s_iret C rfl dX2_find_12

def g_Reader_byteAt_j22 (y0 : Int32) (h2 : Hp) : Option (Int32 × Hp) :=
  some (y0, h2)
def g_Reader_byteAt (x0 : Nat) (x1 : Int32) (h : Hp) : Option (Int32 × Hp) :=
  (getI [7, 15, 16] 1 x0 h).bind fun a1 =>
  if a1 ≤ x1 then
    g_Reader_byteAt_j22 (0 : Int32) h
  else
    (getR [7, 15, 16] 0 x0 h).bind fun a3 =>
    (aldI [201] a3 x1 h).bind fun a4 =>
    g_Reader_byteAt_j22 (a4 &&& (255 : Int32)) h
theorem ct_g_Reader_byteAt {G : Gx} {RL : Lv} {l : Launch} (hL : LvA G RL plA) (hJ : JK G RL l) (x0 : Nat) (x1 : Int32) (h : Hp) : Ct id G RL l yX7_byteAt (ws_ yX7_byteAt cX7_byteAt 2 (some .int)) 0 0 finI [vr x0, .int x1] h (g_Reader_byteAt x0 x1 h) := by
  refine Ct.of (Pl := plA) [(0, vr x0), (1, .int x1)] (by decide) hL rfl (Nat.le_of_ble_eq_true rfl) ?_
  intro E C e6 hf hlo e1 e2 e3 e4 e5
  subst e1; subst e2; subst e3
  replace C : Cx E cX7_byteAt (some .int) RX7 := C
  replace e6 : (eMe E).name = "byteAt" := e6
  unfold g_Reader_byteAt
  refine s_iload_n C dX7_byteAt_0 1 rfl rfl ?_
  refine s_aload_n C dX7_byteAt_1 0 rfl rfl ?_
  refine s_getI [7, 15, 16] C (flc ⟨fo_X7_21_7, rfl⟩ (flc ⟨fo_X7_21_15, rfl⟩ (fl1 ⟨fo_X7_21_16, rfl⟩))) (pl_of e4 rfl) dX7_byteAt_2 fun a1 => ?_
  have hj22 : ∀ (y0 : Int32) (h2 : Hp), Sim id E (QM id E finI) h2 22 [] [.int y0] (g_Reader_byteAt_j22 y0 h2) := by
    intro y0 h2
    exact s_iret C rfl dX7_byteAt_22
  refine s_icmp_ge C 21 dX7_byteAt_5 (by decide) ?_ ?_
  · refine s_iconst C (0 : Int32) dX7_byteAt_21 (by decide) ?_
    refine Sim.keep [] rfl ?_
    exact hj22 _ _
  · refine s_aload_n C dX7_byteAt_8 0 rfl rfl ?_
    refine s_getR [7, 15, 16] C (flc ⟨fo_X7_17_7, rfl⟩ (flc ⟨fo_X7_17_15, rfl⟩ (fl1 ⟨fo_X7_17_16, rfl⟩))) (pl_of e4 rfl) dX7_byteAt_9 fun a3 => ?_
    refine s_iload_n C dX7_byteAt_12 1 rfl rfl ?_
    refine s_bald [201] C (fl1 rfl) (pl_of e4 rfl) dX7_byteAt_13 fun a4 => ?_
    refine s_sipush C (255 : Int32) dX7_byteAt_14 (by decide) ?_
    refine s_iand C dX7_byteAt_17 ?_
    refine s_goto C 22 dX7_byteAt_18 (by decide) ?_
    refine Sim.keep [] rfl ?_
    exact hj22 _ _

def g_Reader_isDigit_j17 (y0 : Int32) (h1 : Hp) : Option (Int32 × Hp) :=
  if nrw 2 y0 = y0 then some (y0, h1) else none
def g_Reader_isDigit_j16  (h2 : Hp) : Option (Int32 × Hp) :=
  g_Reader_isDigit_j17 (0 : Int32) h2
def g_Reader_isDigit (x0 : Int32) (h : Hp) : Option (Int32 × Hp) :=
  if x0 < (48 : Int32) then
    g_Reader_isDigit_j16 h
  else
    if (57 : Int32) < x0 then
      g_Reader_isDigit_j16 h
    else
      g_Reader_isDigit_j17 (1 : Int32) h
theorem ct_g_Reader_isDigit {G : Gx} {RL : Lv} {l : Launch} (hL : LvA G RL plA) (hJ : JK G RL l) (x0 : Int32) (h : Hp) : Ct id G RL l yX7_isDigit (ws_ yX7_isDigit cX7_isDigit 1 (some .boolean)) 0 0 finI [.int x0] h (g_Reader_isDigit x0 h) := by
  refine Ct.of (Pl := plA) [(0, .int x0)] (by decide) hL rfl (Nat.le_of_ble_eq_true rfl) ?_
  intro E C e6 hf hlo e1 e2 e3 e4 e5
  subst e1; subst e2; subst e3
  replace C : Cx E cX7_isDigit (some .boolean) RX7 := C
  replace e6 : (eMe E).name = "isDigit" := e6
  unfold g_Reader_isDigit
  refine s_iload_n C dX7_isDigit_0 0 rfl rfl ?_
  refine s_bipush C (48 : Int32) dX7_isDigit_1 (by decide) ?_
  have hj17 : ∀ (y0 : Int32) (h1 : Hp), Sim id E (QM id E finI) h1 17 [] [.int y0] (g_Reader_isDigit_j17 y0 h1) := by
    intro y0 h1
    exact s_zret 2 C (by decide) (by decide) rfl dX7_isDigit_17
  have hj16 : ∀  (h2 : Hp), Sim id E (QM id E finI) h2 16 [] [] (g_Reader_isDigit_j16 h2) := by
    intro h2
    refine s_iconst C (0 : Int32) dX7_isDigit_16 (by decide) ?_
    exact hj17 _ _
  refine s_icmp_lt C 16 dX7_isDigit_3 (by decide) ?_ ?_
  · refine Sim.keep [] rfl ?_
    exact hj16 _
  · refine s_iload_n C dX7_isDigit_6 0 rfl rfl ?_
    refine s_bipush C (57 : Int32) dX7_isDigit_7 (by decide) ?_
    refine s_icmp_gt C 16 dX7_isDigit_9 (by decide) ?_ ?_
    · refine Sim.keep [] rfl ?_
      exact hj16 _
    · refine s_iconst C (1 : Int32) dX7_isDigit_12 (by decide) ?_
      refine s_goto C 17 dX7_isDigit_13 (by decide) ?_
      refine Sim.keep [] rfl ?_
      exact hj17 _ _

def g_Reader_isLetter_j17 (y0 : Int32) (h1 : Hp) : Option (Int32 × Hp) :=
  if nrw 2 y0 = y0 then some (y0, h1) else none
def g_Reader_isLetter_j16  (h2 : Hp) : Option (Int32 × Hp) :=
  g_Reader_isLetter_j17 (0 : Int32) h2
def g_Reader_isLetter (x0 : Int32) (h : Hp) : Option (Int32 × Hp) :=
  if x0 < (97 : Int32) then
    g_Reader_isLetter_j16 h
  else
    if (122 : Int32) < x0 then
      g_Reader_isLetter_j16 h
    else
      g_Reader_isLetter_j17 (1 : Int32) h
theorem ct_g_Reader_isLetter {G : Gx} {RL : Lv} {l : Launch} (hL : LvA G RL plA) (hJ : JK G RL l) (x0 : Int32) (h : Hp) : Ct id G RL l yX7_isLetter (ws_ yX7_isLetter cX7_isLetter 1 (some .boolean)) 0 0 finI [.int x0] h (g_Reader_isLetter x0 h) := by
  refine Ct.of (Pl := plA) [(0, .int x0)] (by decide) hL rfl (Nat.le_of_ble_eq_true rfl) ?_
  intro E C e6 hf hlo e1 e2 e3 e4 e5
  subst e1; subst e2; subst e3
  replace C : Cx E cX7_isLetter (some .boolean) RX7 := C
  replace e6 : (eMe E).name = "isLetter" := e6
  unfold g_Reader_isLetter
  refine s_iload_n C dX7_isLetter_0 0 rfl rfl ?_
  refine s_bipush C (97 : Int32) dX7_isLetter_1 (by decide) ?_
  have hj17 : ∀ (y0 : Int32) (h1 : Hp), Sim id E (QM id E finI) h1 17 [] [.int y0] (g_Reader_isLetter_j17 y0 h1) := by
    intro y0 h1
    exact s_zret 2 C (by decide) (by decide) rfl dX7_isLetter_17
  have hj16 : ∀  (h2 : Hp), Sim id E (QM id E finI) h2 16 [] [] (g_Reader_isLetter_j16 h2) := by
    intro h2
    refine s_iconst C (0 : Int32) dX7_isLetter_16 (by decide) ?_
    exact hj17 _ _
  refine s_icmp_lt C 16 dX7_isLetter_3 (by decide) ?_ ?_
  · refine Sim.keep [] rfl ?_
    exact hj16 _
  · refine s_iload_n C dX7_isLetter_6 0 rfl rfl ?_
    refine s_bipush C (122 : Int32) dX7_isLetter_7 (by decide) ?_
    refine s_icmp_gt C 16 dX7_isLetter_9 (by decide) ?_ ?_
    · refine Sim.keep [] rfl ?_
      exact hj16 _
    · refine s_iconst C (1 : Int32) dX7_isLetter_12 (by decide) ?_
      refine s_goto C 17 dX7_isLetter_13 (by decide) ?_
      refine Sim.keep [] rfl ?_
      exact hj17 _ _

def g_Reader_go_j339 (rec221 : Int32 → Hp → Option (Unit × Hp)) (x0 : Nat) (x2 : Int32) (x3 : Int32) (x4 : Nat) (h37 : Hp) : Option (Unit × Hp) :=
  (getI [7, 15, 16] 3 x0 h37).bind fun a38 =>
  (putI [7, 15, 16] 0 3 x0 (a38 + (1 : Int32)) h37).bind fun h39 =>
  rec221 x3 h39
def g_Reader_go_j303 (rec221 : Int32 → Hp → Option (Unit × Hp)) (x0 : Nat) (x2 : Int32) (x3 : Int32) (x4 : Nat) (h34 : Hp) : Option (Unit × Hp) :=
  (getI [7, 15, 16] 3 x0 h34).bind fun a35 =>
  (getI [7, 15, 16] 6 x0 h34).bind fun a36 =>
  if (3 : Int32) ≤ (a35 - a36) then
    g_Reader_go_j339 rec221 x0 x2 x3 x4 h34
  else
    (getI [7, 15, 16] 7 x0 h34).bind fun a40 =>
    (getI [7, 15, 16] 3 x0 h34).bind fun a41 =>
    bn (dsp (tg h34 x0 % 500) none [(7, g_Reader_byteAt x0 a41 h34), (15, g_Reader_byteAt x0 a41 h34), (16, g_Reader_byteAt x0 a41 h34)]) fun r42 h43 =>
    (putI [7, 15, 16] 0 7 x0 ((((10 : Int32) * a40) + r42) - (48 : Int32)) h43).bind fun h44 =>
    g_Reader_go_j339 rec221 x0 x2 x3 x4 h44
def g_Reader_go_j273 (rec221 : Int32 → Hp → Option (Unit × Hp)) (x0 : Nat) (x2 : Int32) (x4 : Nat) (y0 : Int32) (h31 : Hp) : Option (Unit × Hp) :=
  (getI [7, 15, 16] 3 x0 h31).bind fun a32 =>
  (getI [7, 15, 16] 6 x0 h31).bind fun a33 =>
  if (7 : Int32) ≤ (a32 - a33) then
    g_Reader_go_j303 rec221 x0 x2 y0 x4 h31
  else
    (getI [7, 15, 16] 3 x0 h31).bind fun a45 =>
    bn (dsp (tg h31 x0 % 500) none [(7, g_Reader_byteAt x0 a45 h31), (15, g_Reader_byteAt x0 a45 h31), (16, g_Reader_byteAt x0 a45 h31)]) fun r46 h47 =>
    bn (dsp (tg h47 x4 % 500) none [(29, oSbC x4 ((r46.toUInt32 % 65536).toInt32) h47)]) fun r48 h49 =>
    g_Reader_go_j303 rec221 x0 x2 y0 x4 h49
def g_Reader_go_j272 (rec221 : Int32 → Hp → Option (Unit × Hp)) (x0 : Nat) (x2 : Int32) (x4 : Nat) (h50 : Hp) : Option (Unit × Hp) :=
  g_Reader_go_j273 rec221 x0 x2 x4 (0 : Int32) h50
def g_Reader_go_j249 (rec221 : Int32 → Hp → Option (Unit × Hp)) (x0 : Nat) (x2 : Int32) (x3 : Int32) (x4 : Nat) (h30 : Hp) : Option (Unit × Hp) :=
  if x3 = 0 then
    g_Reader_go_j272 rec221 x0 x2 x4 h30
  else
    (getI [7, 15, 16] 3 x0 h30).bind fun a51 =>
    bn (dsp (tg h30 x0 % 500) none [(7, g_Reader_byteAt x0 a51 h30), (15, g_Reader_byteAt x0 a51 h30), (16, g_Reader_byteAt x0 a51 h30)]) fun r52 h53 =>
    bn (g_Reader_isLetter r52 h53) fun r54 h55 =>
    if r54 = x2 then
      g_Reader_go_j273 rec221 x0 x2 x4 (1 : Int32) h55
    else
      g_Reader_go_j272 rec221 x0 x2 x4 h55
def g_Reader_go_j401 (y0 : Nat) (y1 : Int32) (h64 : Hp) : Option (Unit × Hp) :=
  (putI [7, 15, 16] 0 5 y0 y1 h64).bind fun h65 =>
  some ((), h65)
def g_Reader_go_j388 (y0 : Nat) (h66 : Hp) : Option (Unit × Hp) :=
  g_Reader_go_j401 y0 (1 : Int32) h66
def g_Reader_go_j385 (x2 : Int32) (y0 : Nat) (y1 : Int32) (y2 : Int32) (h69 : Hp) : Option (Unit × Hp) :=
  if y1 ≤ y2 then
    if x2 = 0 then
      g_Reader_go_j401 y0 (3 : Int32) h69
    else
      g_Reader_go_j401 y0 (2 : Int32) h69
  else
    g_Reader_go_j388 y0 h69
def g_Reader_go_L221 (x0 : Nat) (x2 : Int32) (x4 : Nat) : Int32 → Hp → Option (Unit × Hp) :=
  lp FU fun rec221 v221 h24 =>
    (getI [7, 15, 16] 3 x0 h24).bind fun a25 =>
    bn (dsp (tg h24 x0 % 500) none [(7, g_Reader_byteAt x0 a25 h24), (15, g_Reader_byteAt x0 a25 h24), (16, g_Reader_byteAt x0 a25 h24)]) fun r26 h27 =>
    bn (g_Reader_isLetter r26 h27) fun r28 h29 =>
    if r28 = 0 then
      (getI [7, 15, 16] 3 x0 h29).bind fun a56 =>
      bn (dsp (tg h29 x0 % 500) none [(7, g_Reader_byteAt x0 a56 h29), (15, g_Reader_byteAt x0 a56 h29), (16, g_Reader_byteAt x0 a56 h29)]) fun r57 h58 =>
      bn (g_Reader_isDigit r57 h58) fun r59 h60 =>
      if r59 = 0 then
        bn (dsp (tg h60 x4 % 500) none [(29, oSbStr x4 h60)]) fun r61 h62 =>
        (putR [7, 15, 16] 9 x0 r61 h62).bind fun h63 =>
        if v221 = 0 then
          g_Reader_go_j388 x0 h63
        else
          (getI [7, 15, 16] 3 x0 h63).bind fun a67 =>
          (getI [7, 15, 16] 6 x0 h63).bind fun a68 =>
          if x2 = 0 then
            g_Reader_go_j385 x2 x0 (a67 - a68) (3 : Int32) h63
          else
            g_Reader_go_j385 x2 x0 (a67 - a68) (7 : Int32) h63
      else
        g_Reader_go_j249 rec221 x0 x2 v221 x4 h60
    else
      g_Reader_go_j249 rec221 x0 x2 v221 x4 h29
def g_Reader_go_j200 (x0 : Nat) (x1 : Int32) (h17 : Hp) : Option (Unit × Hp) :=
  bn (g_Reader_isLetter x1 h17) fun r18 h19 =>
  (putI [7, 15, 16] 0 7 x0 (0 : Int32) h19).bind fun h20 =>
  bn (newO 29 4 h20) fun o21 h22 =>
  bn (oSbInit o21 h22) fun _ h23 =>
  g_Reader_go_L221 x0 r18 o21 (1 : Int32) h23
def g_Reader_go_j181 (x0 : Nat) (x1 : Int32) (y0 : Nat) (y1 : Int32) (h72 : Hp) : Option (Unit × Hp) :=
  (putI [7, 15, 16] 0 5 y0 y1 h72).bind fun h73 =>
  (putI [7, 15, 16] 0 8 x0 x1 h73).bind fun h74 =>
  (getI [7, 15, 16] 3 x0 h74).bind fun a75 =>
  (putI [7, 15, 16] 0 3 x0 (a75 + (1 : Int32)) h74).bind fun h76 =>
  some ((), h76)
def g_Reader_go_j175 (x0 : Nat) (x1 : Int32) (y0 : Nat) (h77 : Hp) : Option (Unit × Hp) :=
  g_Reader_go_j181 x0 x1 y0 (6 : Int32) h77
def g_Reader_go_j94 (x0 : Nat) (h9 : Hp) : Option (Unit × Hp) :=
  (getI [7, 15, 16] 3 x0 h9).bind fun a10 =>
  (getI [7, 15, 16] 1 x0 h9).bind fun a11 =>
  if a10 < a11 then
    (getI [7, 15, 16] 3 x0 h9).bind fun a12 =>
    bn (dsp (tg h9 x0 % 500) none [(7, g_Reader_byteAt x0 a12 h9), (15, g_Reader_byteAt x0 a12 h9), (16, g_Reader_byteAt x0 a12 h9)]) fun r13 h14 =>
    bn (g_Reader_isLetter r13 h14) fun r15 h16 =>
    if r15 = 0 then
      bn (g_Reader_isDigit r13 h16) fun r70 h71 =>
      if r70 = 0 then
        if r13 = (59 : Int32) then
          g_Reader_go_j181 x0 r13 x0 (4 : Int32) h71
        else
          if r13 = (60 : Int32) then
            g_Reader_go_j175 x0 r13 x0 h71
          else
            if r13 = (61 : Int32) then
              g_Reader_go_j175 x0 r13 x0 h71
            else
              if r13 = (62 : Int32) then
                g_Reader_go_j175 x0 r13 x0 h71
              else
                if r13 = (40 : Int32) then
                  g_Reader_go_j175 x0 r13 x0 h71
                else
                  if r13 = (41 : Int32) then
                    g_Reader_go_j175 x0 r13 x0 h71
                  else
                    g_Reader_go_j181 x0 r13 x0 (1 : Int32) h71
      else
        g_Reader_go_j200 x0 r13 h71
    else
      g_Reader_go_j200 x0 r13 h16
  else
    (putI [7, 15, 16] 0 5 x0 (0 : Int32) h9).bind fun h78 =>
    some ((), h78)
def g_Reader_go_j50 (x0 : Nat) (h4 : Hp) : Option (Unit × Hp) :=
  (getI [7, 15, 16] 3 x0 h4).bind fun a5 =>
  (putI [7, 15, 16] 0 6 x0 a5 h4).bind fun h6 =>
  (getI [7, 15, 16] 1 x0 h6).bind fun a7 =>
  (getI [7, 15, 16] 2 x0 h6).bind fun a8 =>
  if a7 ≤ a8 then
    g_Reader_go_j94 x0 h6
  else
    (getI [7, 15, 16] 6 x0 h6).bind fun a79 =>
    (getI [7, 15, 16] 2 x0 h6).bind fun a80 =>
    if a79 < a80 then
      g_Reader_go_j94 x0 h6
    else
      (getI [7, 15, 16] 2 x0 h6).bind fun a81 =>
      (putI [7, 15, 16] 0 6 x0 a81 h6).bind fun h82 =>
      (putI [7, 15, 16] 0 5 x0 (5 : Int32) h82).bind fun h83 =>
      some ((), h83)
def g_Reader_go_j37 (rec0 : Unit → Hp → Option (Unit × Hp)) (x0 : Nat) (h87 : Hp) : Option (Unit × Hp) :=
  (getI [7, 15, 16] 3 x0 h87).bind fun a88 =>
  (putI [7, 15, 16] 0 3 x0 (a88 + (1 : Int32)) h87).bind fun h89 =>
  rec0 () h89
def g_Reader_go_L0 (x0 : Nat) : Unit → Hp → Option (Unit × Hp) :=
  lp FU fun rec0 v0 h1 =>
    (getI [7, 15, 16] 3 x0 h1).bind fun a2 =>
    (getI [7, 15, 16] 1 x0 h1).bind fun a3 =>
    if a3 ≤ a2 then
      g_Reader_go_j50 x0 h1
    else
      (getI [7, 15, 16] 3 x0 h1).bind fun a84 =>
      bn (dsp (tg h1 x0 % 500) none [(7, g_Reader_byteAt x0 a84 h1), (15, g_Reader_byteAt x0 a84 h1), (16, g_Reader_byteAt x0 a84 h1)]) fun r85 h86 =>
      if r85 = (32 : Int32) then
        g_Reader_go_j37 rec0 x0 h86
      else
        (getI [7, 15, 16] 3 x0 h86).bind fun a90 =>
        bn (dsp (tg h86 x0 % 500) none [(7, g_Reader_byteAt x0 a90 h86), (15, g_Reader_byteAt x0 a90 h86), (16, g_Reader_byteAt x0 a90 h86)]) fun r91 h92 =>
        if r91 = (10 : Int32) then
          g_Reader_go_j37 rec0 x0 h92
        else
          g_Reader_go_j50 x0 h92
def g_Reader_go (x0 : Nat) (h : Hp) : Option (Unit × Hp) :=
  g_Reader_go_L0 x0 () h
theorem ct_g_Reader_go {G : Gx} {RL : Lv} {l : Launch} (hL : LvA G RL plA) (hJ : JK G RL l) (x0 : Nat) (h : Hp) : Ct id G RL l yX7_go (ws_ yX7_go cX7_go 5 none) 41 4021 finV [vr x0] h (g_Reader_go x0 h) := by
  refine Ct.of (Pl := plA) [(0, vr x0)] (by decide) hL rfl (Nat.le_of_ble_eq_true rfl) ?_
  intro E C e6 hf hlo e1 e2 e3 e4 e5
  subst e1; subst e2; subst e3
  replace C : Cx E cX7_go none RX7 := C
  replace e6 : (eMe E).name = "go" := e6
  unfold g_Reader_go
  have hL0 : ∀ (x0 : Nat) (v0 : Unit) (h1 : Hp), Sim id E (QM id E finV) h1 0 [(0, vr x0)] [] (g_Reader_go_L0 x0 v0 h1) := by
    intro x0 v0 h1
    refine Sim.loop (fun v0 => [(0, vr x0)]) (fun _ => []) (fun rec0 hr0 v0 h1 => ?_) FU v0 h1
    refine s_aload_n C dX7_go_0 0 rfl rfl ?_
    refine s_getI [7, 15, 16] C (flc ⟨fo_X7_32_7, rfl⟩ (flc ⟨fo_X7_32_15, rfl⟩ (fl1 ⟨fo_X7_32_16, rfl⟩))) (pl_of e4 rfl) dX7_go_1 fun a2 => ?_
    refine s_aload_n C dX7_go_4 0 rfl rfl ?_
    refine s_getI [7, 15, 16] C (flc ⟨fo_X7_21_7, rfl⟩ (flc ⟨fo_X7_21_15, rfl⟩ (fl1 ⟨fo_X7_21_16, rfl⟩))) (pl_of e4 rfl) dX7_go_5 fun a3 => ?_
    have hj50 : ∀ (x0 : Nat) (h4 : Hp), Sim id E (QM id E finV) h4 50 [(0, vr x0)] [] (g_Reader_go_j50 x0 h4) := by
      intro x0 h4
      refine s_aload_n C dX7_go_50 0 rfl rfl ?_
      refine s_aload_n C dX7_go_51 0 rfl rfl ?_
      refine s_getI [7, 15, 16] C (flc ⟨fo_X7_32_7, rfl⟩ (flc ⟨fo_X7_32_15, rfl⟩ (fl1 ⟨fo_X7_32_16, rfl⟩))) (pl_of e4 rfl) dX7_go_52 fun a5 => ?_
      refine s_putI [7, 15, 16] 0 C (by decide) (by decide) (flc ⟨⟨by decide, fo_X7_39_7, rfl⟩, rfl⟩ (flc ⟨⟨by decide, fo_X7_39_15, rfl⟩, rfl⟩ (fl1 ⟨⟨by decide, fo_X7_39_16, rfl⟩, rfl⟩))) (pl_of e4 rfl) (flc (Or.inl rfl) (flc (Or.inl rfl) (fl1 (Or.inl rfl)))) dX7_go_55 fun h6 => ?_
      refine s_aload_n C dX7_go_58 0 rfl rfl ?_
      refine s_getI [7, 15, 16] C (flc ⟨fo_X7_21_7, rfl⟩ (flc ⟨fo_X7_21_15, rfl⟩ (fl1 ⟨fo_X7_21_16, rfl⟩))) (pl_of e4 rfl) dX7_go_59 fun a7 => ?_
      refine s_aload_n C dX7_go_62 0 rfl rfl ?_
      refine s_getI [7, 15, 16] C (flc ⟨fo_X7_25_7, rfl⟩ (flc ⟨fo_X7_25_15, rfl⟩ (fl1 ⟨fo_X7_25_16, rfl⟩))) (pl_of e4 rfl) dX7_go_63 fun a8 => ?_
      have hj94 : ∀ (x0 : Nat) (h9 : Hp), Sim id E (QM id E finV) h9 94 [(0, vr x0)] [] (g_Reader_go_j94 x0 h9) := by
        intro x0 h9
        refine s_aload_n C dX7_go_94 0 rfl rfl ?_
        refine s_getI [7, 15, 16] C (flc ⟨fo_X7_32_7, rfl⟩ (flc ⟨fo_X7_32_15, rfl⟩ (fl1 ⟨fo_X7_32_16, rfl⟩))) (pl_of e4 rfl) dX7_go_95 fun a10 => ?_
        refine s_aload_n C dX7_go_98 0 rfl rfl ?_
        refine s_getI [7, 15, 16] C (flc ⟨fo_X7_21_7, rfl⟩ (flc ⟨fo_X7_21_15, rfl⟩ (fl1 ⟨fo_X7_21_16, rfl⟩))) (pl_of e4 rfl) dX7_go_99 fun a11 => ?_
        refine s_icmp_lt C 111 dX7_go_102 (by decide) ?_ ?_
        · refine s_aload_n C dX7_go_111 0 rfl rfl ?_
          refine s_aload_n C dX7_go_112 0 rfl rfl ?_
          refine s_getI [7, 15, 16] C (flc ⟨fo_X7_32_7, rfl⟩ (flc ⟨fo_X7_32_15, rfl⟩ (fl1 ⟨fo_X7_32_16, rfl⟩))) (pl_of e4 rfl) dX7_go_113 fun a12 => ?_
          refine s_dk 119 finI [] (fun r13 h14 => ?_) (fun hk => s_dsp 7 (fun ht => c_P C 1 [] 7 "FinalLinks$ChainReader" ro_7 (ct_g_Reader_byteAt hL hJ x0 a12 h9) (lw_meth q1565) q148 q1562 q1564 (List.mem_of_getElem? (i := 0) rfl) nd_X7_byteAt.2 rfl (le_fr hf rfl) (le_fr hlo rfl) rfl (Nat.le_of_ble_eq_true rfl) dX7_go_116 hk ht) (s_dsp 15 (fun ht => c_P C 1 [] 15 "FinalLinks$BookReader" ro_15 (ct_g_Reader_byteAt hL hJ x0 a12 h9) (lw_meth q1565) q148 q1562 q1564 (List.mem_of_getElem? (i := 2) rfl) nd_X7_byteAt.2 rfl (le_fr hf rfl) (le_fr hlo rfl) rfl (Nat.le_of_ble_eq_true rfl) dX7_go_116 hk ht) (s_dsp 16 (fun ht => c_P C 1 [] 16 "FinalLinks$SentenceReader" ro_16 (ct_g_Reader_byteAt hL hJ x0 a12 h9) (lw_meth q1565) q148 q1562 q1564 (List.mem_of_getElem? (i := 4) rfl) nd_X7_byteAt.2 rfl (le_fr hf rfl) (le_fr hlo rfl) rfl (Nat.le_of_ble_eq_true rfl) dX7_go_116 hk ht) s_dsp0)))
          refine s_istore_n (la' := [(1, .int r13), (0, vr x0)]) C 1 dX7_go_119 rfl (lt_nl e5 rfl) rfl ?_
          refine s_iload_n C dX7_go_120 0 rfl rfl ?_
          refine c_S C 1 [] (ct_g_Reader_isLetter hL hJ r13 h14) (lw_S q1566 q1567 q148 q1568) nd_X7_isLetter.2 rfl (le_fr hf rfl) (le_fr hlo rfl) rfl (Nat.le_of_ble_eq_true rfl) dX7_go_121 fun r15 h16 => ?_
          have hj200 : ∀ (x0 : Nat) (x1 : Int32) (h17 : Hp), Sim id E (QM id E finV) h17 200 [(0, vr x0), (1, .int x1)] [] (g_Reader_go_j200 x0 x1 h17) := by
            intro x0 x1 h17
            refine s_iload_n C dX7_go_200 1 rfl rfl ?_
            refine c_S C 1 [] (ct_g_Reader_isLetter hL hJ x1 h17) (lw_S q1566 q1567 q148 q1568) nd_X7_isLetter.2 rfl (le_fr hf rfl) (le_fr hlo rfl) rfl (Nat.le_of_ble_eq_true rfl) dX7_go_201 fun r18 h19 => ?_
            refine s_istore_n (la' := [(2, .int r18), (0, vr x0), (1, .int x1)]) C 2 dX7_go_204 rfl (lt_nl e5 rfl) rfl ?_
            refine s_iconst C (1 : Int32) dX7_go_205 (by decide) ?_
            refine s_istore_n (la' := [(3, .int (1 : Int32)), (2, .int r18), (0, vr x0), (1, .int x1)]) C 3 dX7_go_206 rfl (lt_nl e5 rfl) rfl ?_
            refine s_aload_n C dX7_go_207 2 rfl rfl ?_
            refine s_iconst C (0 : Int32) dX7_go_208 (by decide) ?_
            refine s_putI [7, 15, 16] 0 C (by decide) (by decide) (flc ⟨⟨by decide, fo_X7_55_7, rfl⟩, rfl⟩ (flc ⟨⟨by decide, fo_X7_55_15, rfl⟩, rfl⟩ (fl1 ⟨⟨by decide, fo_X7_55_16, rfl⟩, rfl⟩))) (pl_of e4 rfl) (flc (Or.inl rfl) (flc (Or.inl rfl) (fl1 (Or.inl rfl)))) dX7_go_209 fun h20 => ?_
            refine s_newO 29 4 C no_X7_58 (pl_of1 e4 rfl) dX7_go_212 fun o21 h22 zo21 => ?_
            refine s_dup C dX7_go_215 rfl ?_
            refine c_I C 0 [vr o21] zo21 (jk_6 hJ o21 h22) (lw_meth q1576) q151 q1574 q1575 rfl nd_J33_init.2 rfl (le_fr hf rfl) (le_fr hlo rfl) rfl (Nat.le_of_ble_eq_true rfl) dX7_go_216 fun _ h23 => ?_
            have hL221 : ∀ (x0 : Nat) (x2 : Int32) (x4 : Nat) (v221 : Int32) (h24 : Hp), Sim id E (QM id E finV) h24 221 [(0, vr x0), (2, .int x2), (3, .int v221), (4, vr x4)] [] (g_Reader_go_L221 x0 x2 x4 v221 h24) := by
              intro x0 x2 x4 v221 h24
              refine Sim.loop (fun v221 => [(0, vr x0), (2, .int x2), (3, .int v221), (4, vr x4)]) (fun _ => []) (fun rec221 hr221 v221 h24 => ?_) FU v221 h24
              refine s_aload_n C dX7_go_221 0 rfl rfl ?_
              refine s_aload_n C dX7_go_222 0 rfl rfl ?_
              refine s_getI [7, 15, 16] C (flc ⟨fo_X7_32_7, rfl⟩ (flc ⟨fo_X7_32_15, rfl⟩ (fl1 ⟨fo_X7_32_16, rfl⟩))) (pl_of e4 rfl) dX7_go_223 fun a25 => ?_
              refine s_dk 229 finI [] (fun r26 h27 => ?_) (fun hk => s_dsp 7 (fun ht => c_P C 1 [] 7 "FinalLinks$ChainReader" ro_7 (ct_g_Reader_byteAt hL hJ x0 a25 h24) (lw_meth q1565) q148 q1562 q1564 (List.mem_of_getElem? (i := 0) rfl) nd_X7_byteAt.2 rfl (le_fr hf rfl) (le_fr hlo rfl) rfl (Nat.le_of_ble_eq_true rfl) dX7_go_226 hk ht) (s_dsp 15 (fun ht => c_P C 1 [] 15 "FinalLinks$BookReader" ro_15 (ct_g_Reader_byteAt hL hJ x0 a25 h24) (lw_meth q1565) q148 q1562 q1564 (List.mem_of_getElem? (i := 2) rfl) nd_X7_byteAt.2 rfl (le_fr hf rfl) (le_fr hlo rfl) rfl (Nat.le_of_ble_eq_true rfl) dX7_go_226 hk ht) (s_dsp 16 (fun ht => c_P C 1 [] 16 "FinalLinks$SentenceReader" ro_16 (ct_g_Reader_byteAt hL hJ x0 a25 h24) (lw_meth q1565) q148 q1562 q1564 (List.mem_of_getElem? (i := 4) rfl) nd_X7_byteAt.2 rfl (le_fr hf rfl) (le_fr hlo rfl) rfl (Nat.le_of_ble_eq_true rfl) dX7_go_226 hk ht) s_dsp0)))
              refine c_S C 1 [] (ct_g_Reader_isLetter hL hJ r26 h27) (lw_S q1566 q1567 q148 q1568) nd_X7_isLetter.2 rfl (le_fr hf rfl) (le_fr hlo rfl) rfl (Nat.le_of_ble_eq_true rfl) dX7_go_229 fun r28 h29 => ?_
              have hj249 : ∀ (x3 : Int32) (h30 : Hp), Sim id E (QM id E finV) h30 249 [(0, vr x0), (2, .int x2), (3, .int x3), (4, vr x4)] [] (g_Reader_go_j249 rec221 x0 x2 x3 x4 h30) := by
                intro x3 h30
                refine s_iload_n C dX7_go_249 2 rfl rfl ?_
                have hj273 : ∀ (y0 : Int32) (h31 : Hp), Sim id E (QM id E finV) h31 273 [(0, vr x0), (2, .int x2), (4, vr x4)] [.int y0] (g_Reader_go_j273 rec221 x0 x2 x4 y0 h31) := by
                  intro y0 h31
                  refine s_istore_n (la' := [(3, .int y0), (0, vr x0), (2, .int x2), (4, vr x4)]) C 3 dX7_go_273 rfl (lt_nl e5 rfl) rfl ?_
                  refine s_aload_n C dX7_go_274 1 rfl rfl ?_
                  refine s_getI [7, 15, 16] C (flc ⟨fo_X7_32_7, rfl⟩ (flc ⟨fo_X7_32_15, rfl⟩ (fl1 ⟨fo_X7_32_16, rfl⟩))) (pl_of e4 rfl) dX7_go_275 fun a32 => ?_
                  refine s_aload_n C dX7_go_278 1 rfl rfl ?_
                  refine s_getI [7, 15, 16] C (flc ⟨fo_X7_39_7, rfl⟩ (flc ⟨fo_X7_39_15, rfl⟩ (fl1 ⟨fo_X7_39_16, rfl⟩))) (pl_of e4 rfl) dX7_go_279 fun a33 => ?_
                  refine s_isub C dX7_go_282 ?_
                  refine s_bipush C (7 : Int32) dX7_go_283 (by decide) ?_
                  have hj303 : ∀ (x3 : Int32) (h34 : Hp), Sim id E (QM id E finV) h34 303 [(0, vr x0), (2, .int x2), (3, .int x3), (4, vr x4)] [] (g_Reader_go_j303 rec221 x0 x2 x3 x4 h34) := by
                    intro x3 h34
                    refine s_aload_n C dX7_go_303 0 rfl rfl ?_
                    refine s_getI [7, 15, 16] C (flc ⟨fo_X7_32_7, rfl⟩ (flc ⟨fo_X7_32_15, rfl⟩ (fl1 ⟨fo_X7_32_16, rfl⟩))) (pl_of e4 rfl) dX7_go_304 fun a35 => ?_
                    refine s_aload_n C dX7_go_307 0 rfl rfl ?_
                    refine s_getI [7, 15, 16] C (flc ⟨fo_X7_39_7, rfl⟩ (flc ⟨fo_X7_39_15, rfl⟩ (fl1 ⟨fo_X7_39_16, rfl⟩))) (pl_of e4 rfl) dX7_go_308 fun a36 => ?_
                    refine s_isub C dX7_go_311 ?_
                    refine s_iconst C (3 : Int32) dX7_go_312 (by decide) ?_
                    have hj339 : ∀ (x3 : Int32) (h37 : Hp), Sim id E (QM id E finV) h37 339 [(0, vr x0), (2, .int x2), (3, .int x3), (4, vr x4)] [] (g_Reader_go_j339 rec221 x0 x2 x3 x4 h37) := by
                      intro x3 h37
                      refine s_aload_n C dX7_go_339 0 rfl rfl ?_
                      refine s_dup C dX7_go_340 rfl ?_
                      refine s_getI [7, 15, 16] C (flc ⟨fo_X7_32_7, rfl⟩ (flc ⟨fo_X7_32_15, rfl⟩ (fl1 ⟨fo_X7_32_16, rfl⟩))) (pl_of e4 rfl) dX7_go_341 fun a38 => ?_
                      refine s_iconst C (1 : Int32) dX7_go_344 (by decide) ?_
                      refine s_iadd C dX7_go_345 ?_
                      refine s_putI [7, 15, 16] 0 C (by decide) (by decide) (flc ⟨⟨by decide, fo_X7_32_7, rfl⟩, rfl⟩ (flc ⟨⟨by decide, fo_X7_32_15, rfl⟩, rfl⟩ (fl1 ⟨⟨by decide, fo_X7_32_16, rfl⟩, rfl⟩))) (pl_of e4 rfl) (flc (Or.inl rfl) (flc (Or.inl rfl) (fl1 (Or.inl rfl)))) dX7_go_346 fun h39 => ?_
                      refine s_goto C 221 dX7_go_349 (by decide) ?_
                      exact hr221 _ _
                    refine s_icmp_ge C 339 dX7_go_313 (by decide) ?_ ?_
                    · exact hj339 _ _
                    · refine s_aload_n C dX7_go_316 0 rfl rfl ?_
                      refine s_bipush C (10 : Int32) dX7_go_317 (by decide) ?_
                      refine s_aload_n C dX7_go_319 0 rfl rfl ?_
                      refine s_getI [7, 15, 16] C (flc ⟨fo_X7_55_7, rfl⟩ (flc ⟨fo_X7_55_15, rfl⟩ (fl1 ⟨fo_X7_55_16, rfl⟩))) (pl_of e4 rfl) dX7_go_320 fun a40 => ?_
                      refine s_imul C dX7_go_323 ?_
                      refine s_aload_n C dX7_go_324 0 rfl rfl ?_
                      refine s_aload_n C dX7_go_325 0 rfl rfl ?_
                      refine s_getI [7, 15, 16] C (flc ⟨fo_X7_32_7, rfl⟩ (flc ⟨fo_X7_32_15, rfl⟩ (fl1 ⟨fo_X7_32_16, rfl⟩))) (pl_of e4 rfl) dX7_go_326 fun a41 => ?_
                      refine s_dk 332 finI [.int ((10 : Int32) * a40), vr x0] (fun r42 h43 => ?_) (fun hk => s_dsp 7 (fun ht => c_P C 1 [.int ((10 : Int32) * a40), vr x0] 7 "FinalLinks$ChainReader" ro_7 (ct_g_Reader_byteAt hL hJ x0 a41 h34) (lw_meth q1565) q148 q1562 q1564 (List.mem_of_getElem? (i := 0) rfl) nd_X7_byteAt.2 rfl (le_fr hf rfl) (le_fr hlo rfl) rfl (Nat.le_of_ble_eq_true rfl) dX7_go_329 hk ht) (s_dsp 15 (fun ht => c_P C 1 [.int ((10 : Int32) * a40), vr x0] 15 "FinalLinks$BookReader" ro_15 (ct_g_Reader_byteAt hL hJ x0 a41 h34) (lw_meth q1565) q148 q1562 q1564 (List.mem_of_getElem? (i := 2) rfl) nd_X7_byteAt.2 rfl (le_fr hf rfl) (le_fr hlo rfl) rfl (Nat.le_of_ble_eq_true rfl) dX7_go_329 hk ht) (s_dsp 16 (fun ht => c_P C 1 [.int ((10 : Int32) * a40), vr x0] 16 "FinalLinks$SentenceReader" ro_16 (ct_g_Reader_byteAt hL hJ x0 a41 h34) (lw_meth q1565) q148 q1562 q1564 (List.mem_of_getElem? (i := 4) rfl) nd_X7_byteAt.2 rfl (le_fr hf rfl) (le_fr hlo rfl) rfl (Nat.le_of_ble_eq_true rfl) dX7_go_329 hk ht) s_dsp0)))
                      refine s_iadd C dX7_go_332 ?_
                      refine s_bipush C (48 : Int32) dX7_go_333 (by decide) ?_
                      refine s_isub C dX7_go_335 ?_
                      refine s_putI [7, 15, 16] 0 C (by decide) (by decide) (flc ⟨⟨by decide, fo_X7_55_7, rfl⟩, rfl⟩ (flc ⟨⟨by decide, fo_X7_55_15, rfl⟩, rfl⟩ (fl1 ⟨⟨by decide, fo_X7_55_16, rfl⟩, rfl⟩))) (pl_of e4 rfl) (flc (Or.inl rfl) (flc (Or.inl rfl) (fl1 (Or.inl rfl)))) dX7_go_336 fun h44 => ?_
                      exact hj339 _ _
                  refine s_icmp_ge C 303 dX7_go_285 (by decide) ?_ ?_
                  · refine Sim.keep [1, 2, 0, 3] rfl ?_
                    exact hj303 _ _
                  · refine s_aload C dX7_go_288 3 rfl ?_
                    refine s_aload_n C dX7_go_290 1 rfl rfl ?_
                    refine s_aload_n C dX7_go_291 1 rfl rfl ?_
                    refine s_getI [7, 15, 16] C (flc ⟨fo_X7_32_7, rfl⟩ (flc ⟨fo_X7_32_15, rfl⟩ (fl1 ⟨fo_X7_32_16, rfl⟩))) (pl_of e4 rfl) dX7_go_292 fun a45 => ?_
                    refine s_dk 298 finI [vr x4] (fun r46 h47 => ?_) (fun hk => s_dsp 7 (fun ht => c_P C 1 [vr x4] 7 "FinalLinks$ChainReader" ro_7 (ct_g_Reader_byteAt hL hJ x0 a45 h31) (lw_meth q1565) q148 q1562 q1564 (List.mem_of_getElem? (i := 0) rfl) nd_X7_byteAt.2 rfl (le_fr hf rfl) (le_fr hlo rfl) rfl (Nat.le_of_ble_eq_true rfl) dX7_go_295 hk ht) (s_dsp 15 (fun ht => c_P C 1 [vr x4] 15 "FinalLinks$BookReader" ro_15 (ct_g_Reader_byteAt hL hJ x0 a45 h31) (lw_meth q1565) q148 q1562 q1564 (List.mem_of_getElem? (i := 2) rfl) nd_X7_byteAt.2 rfl (le_fr hf rfl) (le_fr hlo rfl) rfl (Nat.le_of_ble_eq_true rfl) dX7_go_295 hk ht) (s_dsp 16 (fun ht => c_P C 1 [vr x4] 16 "FinalLinks$SentenceReader" ro_16 (ct_g_Reader_byteAt hL hJ x0 a45 h31) (lw_meth q1565) q148 q1562 q1564 (List.mem_of_getElem? (i := 4) rfl) nd_X7_byteAt.2 rfl (le_fr hf rfl) (le_fr hlo rfl) rfl (Nat.le_of_ble_eq_true rfl) dX7_go_295 hk ht) s_dsp0)))
                    refine s_i2c C dX7_go_298 ?_
                    refine s_dk 302 finR [] (fun r48 h49 => ?_) (fun hk => s_dsp 29 (fun ht => c_V C 1 [] 29 RJ33 ro_29 (jk_7 hJ x4 ((r46.toUInt32 % 65536).toInt32) h47) (lw_V q1600 q1601 q1602 q151 q1603) nd_J33_append rfl (le_fr hf rfl) (le_fr hlo rfl) rfl (Nat.le_of_ble_eq_true rfl) dX7_go_299 hk ht) s_dsp0)
                    refine s_pop C dX7_go_302 rfl ?_
                    refine Sim.keep [1, 2, 0, 3] rfl ?_
                    exact hj303 _ _
                have hj272 : ∀  (h50 : Hp), Sim id E (QM id E finV) h50 272 [(0, vr x0), (2, .int x2), (4, vr x4)] [] (g_Reader_go_j272 rec221 x0 x2 x4 h50) := by
                  intro h50
                  refine s_iconst C (0 : Int32) dX7_go_272 (by decide) ?_
                  exact hj273 _ _
                refine s_if_eq C 272 dX7_go_250 (by decide) ?_ ?_
                · refine Sim.keep [0, 1, 3] rfl ?_
                  exact hj272 _
                · refine s_aload_n C dX7_go_253 0 rfl rfl ?_
                  refine s_aload_n C dX7_go_254 0 rfl rfl ?_
                  refine s_getI [7, 15, 16] C (flc ⟨fo_X7_32_7, rfl⟩ (flc ⟨fo_X7_32_15, rfl⟩ (fl1 ⟨fo_X7_32_16, rfl⟩))) (pl_of e4 rfl) dX7_go_255 fun a51 => ?_
                  refine s_dk 261 finI [] (fun r52 h53 => ?_) (fun hk => s_dsp 7 (fun ht => c_P C 1 [] 7 "FinalLinks$ChainReader" ro_7 (ct_g_Reader_byteAt hL hJ x0 a51 h30) (lw_meth q1565) q148 q1562 q1564 (List.mem_of_getElem? (i := 0) rfl) nd_X7_byteAt.2 rfl (le_fr hf rfl) (le_fr hlo rfl) rfl (Nat.le_of_ble_eq_true rfl) dX7_go_258 hk ht) (s_dsp 15 (fun ht => c_P C 1 [] 15 "FinalLinks$BookReader" ro_15 (ct_g_Reader_byteAt hL hJ x0 a51 h30) (lw_meth q1565) q148 q1562 q1564 (List.mem_of_getElem? (i := 2) rfl) nd_X7_byteAt.2 rfl (le_fr hf rfl) (le_fr hlo rfl) rfl (Nat.le_of_ble_eq_true rfl) dX7_go_258 hk ht) (s_dsp 16 (fun ht => c_P C 1 [] 16 "FinalLinks$SentenceReader" ro_16 (ct_g_Reader_byteAt hL hJ x0 a51 h30) (lw_meth q1565) q148 q1562 q1564 (List.mem_of_getElem? (i := 4) rfl) nd_X7_byteAt.2 rfl (le_fr hf rfl) (le_fr hlo rfl) rfl (Nat.le_of_ble_eq_true rfl) dX7_go_258 hk ht) s_dsp0)))
                  refine c_S C 1 [] (ct_g_Reader_isLetter hL hJ r52 h53) (lw_S q1566 q1567 q148 q1568) nd_X7_isLetter.2 rfl (le_fr hf rfl) (le_fr hlo rfl) rfl (Nat.le_of_ble_eq_true rfl) dX7_go_261 fun r54 h55 => ?_
                  refine s_iload_n C dX7_go_264 1 rfl rfl ?_
                  refine s_icmp_ne C 272 dX7_go_265 (by decide) ?_ ?_
                  · refine Sim.keep [0, 1, 3] rfl ?_
                    exact hj272 _
                  · refine s_iconst C (1 : Int32) dX7_go_268 (by decide) ?_
                    refine s_goto C 273 dX7_go_269 (by decide) ?_
                    refine Sim.keep [0, 1, 3] rfl ?_
                    exact hj273 _ _
              refine s_if_ne C 249 dX7_go_232 (by decide) ?_ ?_
              · exact hj249 _ _
              · refine s_aload_n C dX7_go_235 0 rfl rfl ?_
                refine s_aload_n C dX7_go_236 0 rfl rfl ?_
                refine s_getI [7, 15, 16] C (flc ⟨fo_X7_32_7, rfl⟩ (flc ⟨fo_X7_32_15, rfl⟩ (fl1 ⟨fo_X7_32_16, rfl⟩))) (pl_of e4 rfl) dX7_go_237 fun a56 => ?_
                refine s_dk 243 finI [] (fun r57 h58 => ?_) (fun hk => s_dsp 7 (fun ht => c_P C 1 [] 7 "FinalLinks$ChainReader" ro_7 (ct_g_Reader_byteAt hL hJ x0 a56 h29) (lw_meth q1565) q148 q1562 q1564 (List.mem_of_getElem? (i := 0) rfl) nd_X7_byteAt.2 rfl (le_fr hf rfl) (le_fr hlo rfl) rfl (Nat.le_of_ble_eq_true rfl) dX7_go_240 hk ht) (s_dsp 15 (fun ht => c_P C 1 [] 15 "FinalLinks$BookReader" ro_15 (ct_g_Reader_byteAt hL hJ x0 a56 h29) (lw_meth q1565) q148 q1562 q1564 (List.mem_of_getElem? (i := 2) rfl) nd_X7_byteAt.2 rfl (le_fr hf rfl) (le_fr hlo rfl) rfl (Nat.le_of_ble_eq_true rfl) dX7_go_240 hk ht) (s_dsp 16 (fun ht => c_P C 1 [] 16 "FinalLinks$SentenceReader" ro_16 (ct_g_Reader_byteAt hL hJ x0 a56 h29) (lw_meth q1565) q148 q1562 q1564 (List.mem_of_getElem? (i := 4) rfl) nd_X7_byteAt.2 rfl (le_fr hf rfl) (le_fr hlo rfl) rfl (Nat.le_of_ble_eq_true rfl) dX7_go_240 hk ht) s_dsp0)))
                refine c_S C 1 [] (ct_g_Reader_isDigit hL hJ r57 h58) (lw_S q1569 q1570 q148 q1571) nd_X7_isDigit.2 rfl (le_fr hf rfl) (le_fr hlo rfl) rfl (Nat.le_of_ble_eq_true rfl) dX7_go_243 fun r59 h60 => ?_
                refine s_if_eq C 352 dX7_go_246 (by decide) ?_ ?_
                · refine s_aload_n C dX7_go_352 0 rfl rfl ?_
                  refine s_aload C dX7_go_353 3 rfl ?_
                  refine s_dk 358 finR [vr x0] (fun r61 h62 => ?_) (fun hk => s_dsp 29 (fun ht => c_V C 0 [vr x0] 29 RJ33 ro_29 (jk_10 hJ x4 h60) (lw_V q1662 q1663 q1664 q151 q1665) nd_J33_toString rfl (le_fr hf rfl) (le_fr hlo rfl) rfl (Nat.le_of_ble_eq_true rfl) dX7_go_355 hk ht) s_dsp0)
                  refine s_putR [7, 15, 16] C (flc ⟨by decide, fo_X7_11_7, rfl⟩ (flc ⟨by decide, fo_X7_11_15, rfl⟩ (fl1 ⟨by decide, fo_X7_11_16, rfl⟩))) (pl_of e4 rfl) (flc (Or.inl rfl) (flc (Or.inl rfl) (fl1 (Or.inl rfl)))) dX7_go_358 fun h63 => ?_
                  refine s_aload_n C dX7_go_361 0 rfl rfl ?_
                  refine s_iload_n C dX7_go_362 2 rfl rfl ?_
                  have hj401 : ∀ (y0 : Nat) (y1 : Int32) (h64 : Hp), Sim id E (QM id E finV) h64 401 [] [.int y1, vr y0] (g_Reader_go_j401 y0 y1 h64) := by
                    intro y0 y1 h64
                    refine s_putI [7, 15, 16] 0 C (by decide) (by decide) (flc ⟨⟨by decide, fo_X7_42_7, rfl⟩, rfl⟩ (flc ⟨⟨by decide, fo_X7_42_15, rfl⟩, rfl⟩ (fl1 ⟨⟨by decide, fo_X7_42_16, rfl⟩, rfl⟩))) (pl_of e4 rfl) (flc (Or.inl rfl) (flc (Or.inl rfl) (fl1 (Or.inl rfl)))) dX7_go_401 fun h65 => ?_
                    exact s_vret C rfl dX7_go_404
                  have hj388 : ∀ (y0 : Nat) (h66 : Hp), Sim id E (QM id E finV) h66 388 [] [vr y0] (g_Reader_go_j388 y0 h66) := by
                    intro y0 h66
                    refine s_iconst C (1 : Int32) dX7_go_388 (by decide) ?_
                    refine s_goto C 401 dX7_go_389 (by decide) ?_
                    exact hj401 _ _ _
                  refine s_if_eq C 388 dX7_go_363 (by decide) ?_ ?_
                  · refine Sim.keep [] rfl ?_
                    exact hj388 _ _
                  · refine s_aload_n C dX7_go_366 0 rfl rfl ?_
                    refine s_getI [7, 15, 16] C (flc ⟨fo_X7_32_7, rfl⟩ (flc ⟨fo_X7_32_15, rfl⟩ (fl1 ⟨fo_X7_32_16, rfl⟩))) (pl_of e4 rfl) dX7_go_367 fun a67 => ?_
                    refine s_aload_n C dX7_go_370 0 rfl rfl ?_
                    refine s_getI [7, 15, 16] C (flc ⟨fo_X7_39_7, rfl⟩ (flc ⟨fo_X7_39_15, rfl⟩ (fl1 ⟨fo_X7_39_16, rfl⟩))) (pl_of e4 rfl) dX7_go_371 fun a68 => ?_
                    refine s_isub C dX7_go_374 ?_
                    refine s_iload_n C dX7_go_375 1 rfl rfl ?_
                    have hj385 : ∀ (x2 : Int32) (y0 : Nat) (y1 : Int32) (y2 : Int32) (h69 : Hp), Sim id E (QM id E finV) h69 385 [(2, .int x2)] [.int y2, .int y1, vr y0] (g_Reader_go_j385 x2 y0 y1 y2 h69) := by
                      intro x2 y0 y1 y2 h69
                      refine s_icmp_le C 392 dX7_go_385 (by decide) ?_ ?_
                      · refine s_iload_n C dX7_go_392 0 rfl rfl ?_
                        refine s_if_eq C 400 dX7_go_393 (by decide) ?_ ?_
                        · refine s_iconst C (3 : Int32) dX7_go_400 (by decide) ?_
                          refine Sim.keep [] rfl ?_
                          exact hj401 _ _ _
                        · refine s_iconst C (2 : Int32) dX7_go_396 (by decide) ?_
                          refine s_goto C 401 dX7_go_397 (by decide) ?_
                          refine Sim.keep [] rfl ?_
                          exact hj401 _ _ _
                      · refine Sim.keep [] rfl ?_
                        exact hj388 _ _
                    refine s_if_eq C 384 dX7_go_376 (by decide) ?_ ?_
                    · refine s_iconst C (3 : Int32) dX7_go_384 (by decide) ?_
                      refine Sim.keep [1] rfl ?_
                      exact hj385 _ _ _ _ _
                    · refine s_bipush C (7 : Int32) dX7_go_379 (by decide) ?_
                      refine s_goto C 385 dX7_go_381 (by decide) ?_
                      refine Sim.keep [1] rfl ?_
                      exact hj385 _ _ _ _ _
                · exact hj249 _ _
            refine s_astore (la' := [(4, vr o21), (3, .int (1 : Int32)), (2, .int r18), (0, vr x0), (1, .int x1)]) C dX7_go_219 (lt_nl e5 rfl) rfl ?_
            refine Sim.keep [3, 2, 1, 0] rfl ?_
            exact hL221 _ _ _ _ _
          refine s_if_ne C 200 dX7_go_124 (by decide) ?_ ?_
          · refine Sim.keep [1, 0] rfl ?_
            exact hj200 _ _ _
          · refine s_iload_n C dX7_go_127 0 rfl rfl ?_
            refine c_S C 1 [] (ct_g_Reader_isDigit hL hJ r13 h16) (lw_S q1569 q1570 q148 q1571) nd_X7_isDigit.2 rfl (le_fr hf rfl) (le_fr hlo rfl) rfl (Nat.le_of_ble_eq_true rfl) dX7_go_128 fun r70 h71 => ?_
            refine s_if_ne C 200 dX7_go_131 (by decide) ?_ ?_
            · refine Sim.keep [1, 0] rfl ?_
              exact hj200 _ _ _
            · refine s_aload_n C dX7_go_134 1 rfl rfl ?_
              refine s_iload_n C dX7_go_135 0 rfl rfl ?_
              refine s_bipush C (59 : Int32) dX7_go_136 (by decide) ?_
              have hj181 : ∀ (x0 : Nat) (x1 : Int32) (y0 : Nat) (y1 : Int32) (h72 : Hp), Sim id E (QM id E finV) h72 181 [(0, vr x0), (1, .int x1)] [.int y1, vr y0] (g_Reader_go_j181 x0 x1 y0 y1 h72) := by
                intro x0 x1 y0 y1 h72
                refine s_putI [7, 15, 16] 0 C (by decide) (by decide) (flc ⟨⟨by decide, fo_X7_42_7, rfl⟩, rfl⟩ (flc ⟨⟨by decide, fo_X7_42_15, rfl⟩, rfl⟩ (fl1 ⟨⟨by decide, fo_X7_42_16, rfl⟩, rfl⟩))) (pl_of e4 rfl) (flc (Or.inl rfl) (flc (Or.inl rfl) (fl1 (Or.inl rfl)))) dX7_go_181 fun h73 => ?_
                refine s_aload_n C dX7_go_184 0 rfl rfl ?_
                refine s_iload_n C dX7_go_185 1 rfl rfl ?_
                refine s_putI [7, 15, 16] 0 C (by decide) (by decide) (flc ⟨⟨by decide, fo_X7_52_7, rfl⟩, rfl⟩ (flc ⟨⟨by decide, fo_X7_52_15, rfl⟩, rfl⟩ (fl1 ⟨⟨by decide, fo_X7_52_16, rfl⟩, rfl⟩))) (pl_of e4 rfl) (flc (Or.inl rfl) (flc (Or.inl rfl) (fl1 (Or.inl rfl)))) dX7_go_186 fun h74 => ?_
                refine s_aload_n C dX7_go_189 0 rfl rfl ?_
                refine s_dup C dX7_go_190 rfl ?_
                refine s_getI [7, 15, 16] C (flc ⟨fo_X7_32_7, rfl⟩ (flc ⟨fo_X7_32_15, rfl⟩ (fl1 ⟨fo_X7_32_16, rfl⟩))) (pl_of e4 rfl) dX7_go_191 fun a75 => ?_
                refine s_iconst C (1 : Int32) dX7_go_194 (by decide) ?_
                refine s_iadd C dX7_go_195 ?_
                refine s_putI [7, 15, 16] 0 C (by decide) (by decide) (flc ⟨⟨by decide, fo_X7_32_7, rfl⟩, rfl⟩ (flc ⟨⟨by decide, fo_X7_32_15, rfl⟩, rfl⟩ (fl1 ⟨⟨by decide, fo_X7_32_16, rfl⟩, rfl⟩))) (pl_of e4 rfl) (flc (Or.inl rfl) (flc (Or.inl rfl) (fl1 (Or.inl rfl)))) dX7_go_196 fun h76 => ?_
                exact s_vret C rfl dX7_go_199
              refine s_icmp_ne C 145 dX7_go_138 (by decide) ?_ ?_
              · refine s_iload_n C dX7_go_145 0 rfl rfl ?_
                refine s_bipush C (60 : Int32) dX7_go_146 (by decide) ?_
                have hj175 : ∀ (x0 : Nat) (x1 : Int32) (y0 : Nat) (h77 : Hp), Sim id E (QM id E finV) h77 175 [(0, vr x0), (1, .int x1)] [vr y0] (g_Reader_go_j175 x0 x1 y0 h77) := by
                  intro x0 x1 y0 h77
                  refine s_bipush C (6 : Int32) dX7_go_175 (by decide) ?_
                  refine s_goto C 181 dX7_go_177 (by decide) ?_
                  exact hj181 _ _ _ _ _
                refine s_icmp_eq C 175 dX7_go_148 (by decide) ?_ ?_
                · refine Sim.keep [1, 0] rfl ?_
                  exact hj175 _ _ _ _
                · refine s_iload_n C dX7_go_151 0 rfl rfl ?_
                  refine s_bipush C (61 : Int32) dX7_go_152 (by decide) ?_
                  refine s_icmp_eq C 175 dX7_go_154 (by decide) ?_ ?_
                  · refine Sim.keep [1, 0] rfl ?_
                    exact hj175 _ _ _ _
                  · refine s_iload_n C dX7_go_157 0 rfl rfl ?_
                    refine s_bipush C (62 : Int32) dX7_go_158 (by decide) ?_
                    refine s_icmp_eq C 175 dX7_go_160 (by decide) ?_ ?_
                    · refine Sim.keep [1, 0] rfl ?_
                      exact hj175 _ _ _ _
                    · refine s_iload_n C dX7_go_163 0 rfl rfl ?_
                      refine s_bipush C (40 : Int32) dX7_go_164 (by decide) ?_
                      refine s_icmp_eq C 175 dX7_go_166 (by decide) ?_ ?_
                      · refine Sim.keep [1, 0] rfl ?_
                        exact hj175 _ _ _ _
                      · refine s_iload_n C dX7_go_169 0 rfl rfl ?_
                        refine s_bipush C (41 : Int32) dX7_go_170 (by decide) ?_
                        refine s_icmp_ne C 180 dX7_go_172 (by decide) ?_ ?_
                        · refine s_iconst C (1 : Int32) dX7_go_180 (by decide) ?_
                          refine Sim.keep [1, 0] rfl ?_
                          exact hj181 _ _ _ _ _
                        · refine Sim.keep [1, 0] rfl ?_
                          exact hj175 _ _ _ _
              · refine s_iconst C (4 : Int32) dX7_go_141 (by decide) ?_
                refine s_goto C 181 dX7_go_142 (by decide) ?_
                refine Sim.keep [1, 0] rfl ?_
                exact hj181 _ _ _ _ _
        · refine s_aload_n C dX7_go_105 0 rfl rfl ?_
          refine s_iconst C (0 : Int32) dX7_go_106 (by decide) ?_
          refine s_putI [7, 15, 16] 0 C (by decide) (by decide) (flc ⟨⟨by decide, fo_X7_42_7, rfl⟩, rfl⟩ (flc ⟨⟨by decide, fo_X7_42_15, rfl⟩, rfl⟩ (fl1 ⟨⟨by decide, fo_X7_42_16, rfl⟩, rfl⟩))) (pl_of e4 rfl) (flc (Or.inl rfl) (flc (Or.inl rfl) (fl1 (Or.inl rfl)))) dX7_go_107 fun h78 => ?_
          exact s_vret C rfl dX7_go_110
      refine s_icmp_le C 94 dX7_go_66 (by decide) ?_ ?_
      · exact hj94 _ _
      · refine s_aload_n C dX7_go_69 0 rfl rfl ?_
        refine s_getI [7, 15, 16] C (flc ⟨fo_X7_39_7, rfl⟩ (flc ⟨fo_X7_39_15, rfl⟩ (fl1 ⟨fo_X7_39_16, rfl⟩))) (pl_of e4 rfl) dX7_go_70 fun a79 => ?_
        refine s_aload_n C dX7_go_73 0 rfl rfl ?_
        refine s_getI [7, 15, 16] C (flc ⟨fo_X7_25_7, rfl⟩ (flc ⟨fo_X7_25_15, rfl⟩ (fl1 ⟨fo_X7_25_16, rfl⟩))) (pl_of e4 rfl) dX7_go_74 fun a80 => ?_
        refine s_icmp_lt C 94 dX7_go_77 (by decide) ?_ ?_
        · exact hj94 _ _
        · refine s_aload_n C dX7_go_80 0 rfl rfl ?_
          refine s_aload_n C dX7_go_81 0 rfl rfl ?_
          refine s_getI [7, 15, 16] C (flc ⟨fo_X7_25_7, rfl⟩ (flc ⟨fo_X7_25_15, rfl⟩ (fl1 ⟨fo_X7_25_16, rfl⟩))) (pl_of e4 rfl) dX7_go_82 fun a81 => ?_
          refine s_putI [7, 15, 16] 0 C (by decide) (by decide) (flc ⟨⟨by decide, fo_X7_39_7, rfl⟩, rfl⟩ (flc ⟨⟨by decide, fo_X7_39_15, rfl⟩, rfl⟩ (fl1 ⟨⟨by decide, fo_X7_39_16, rfl⟩, rfl⟩))) (pl_of e4 rfl) (flc (Or.inl rfl) (flc (Or.inl rfl) (fl1 (Or.inl rfl)))) dX7_go_85 fun h82 => ?_
          refine s_aload_n C dX7_go_88 0 rfl rfl ?_
          refine s_iconst C (5 : Int32) dX7_go_89 (by decide) ?_
          refine s_putI [7, 15, 16] 0 C (by decide) (by decide) (flc ⟨⟨by decide, fo_X7_42_7, rfl⟩, rfl⟩ (flc ⟨⟨by decide, fo_X7_42_15, rfl⟩, rfl⟩ (fl1 ⟨⟨by decide, fo_X7_42_16, rfl⟩, rfl⟩))) (pl_of e4 rfl) (flc (Or.inl rfl) (flc (Or.inl rfl) (fl1 (Or.inl rfl)))) dX7_go_90 fun h83 => ?_
          exact s_vret C rfl dX7_go_93
    refine s_icmp_ge C 50 dX7_go_8 (by decide) ?_ ?_
    · exact hj50 _ _
    · refine s_aload_n C dX7_go_11 0 rfl rfl ?_
      refine s_aload_n C dX7_go_12 0 rfl rfl ?_
      refine s_getI [7, 15, 16] C (flc ⟨fo_X7_32_7, rfl⟩ (flc ⟨fo_X7_32_15, rfl⟩ (fl1 ⟨fo_X7_32_16, rfl⟩))) (pl_of e4 rfl) dX7_go_13 fun a84 => ?_
      refine s_dk 19 finI [] (fun r85 h86 => ?_) (fun hk => s_dsp 7 (fun ht => c_P C 1 [] 7 "FinalLinks$ChainReader" ro_7 (ct_g_Reader_byteAt hL hJ x0 a84 h1) (lw_meth q1565) q148 q1562 q1564 (List.mem_of_getElem? (i := 0) rfl) nd_X7_byteAt.2 rfl (le_fr hf rfl) (le_fr hlo rfl) rfl (Nat.le_of_ble_eq_true rfl) dX7_go_16 hk ht) (s_dsp 15 (fun ht => c_P C 1 [] 15 "FinalLinks$BookReader" ro_15 (ct_g_Reader_byteAt hL hJ x0 a84 h1) (lw_meth q1565) q148 q1562 q1564 (List.mem_of_getElem? (i := 2) rfl) nd_X7_byteAt.2 rfl (le_fr hf rfl) (le_fr hlo rfl) rfl (Nat.le_of_ble_eq_true rfl) dX7_go_16 hk ht) (s_dsp 16 (fun ht => c_P C 1 [] 16 "FinalLinks$SentenceReader" ro_16 (ct_g_Reader_byteAt hL hJ x0 a84 h1) (lw_meth q1565) q148 q1562 q1564 (List.mem_of_getElem? (i := 4) rfl) nd_X7_byteAt.2 rfl (le_fr hf rfl) (le_fr hlo rfl) rfl (Nat.le_of_ble_eq_true rfl) dX7_go_16 hk ht) s_dsp0)))
      refine s_bipush C (32 : Int32) dX7_go_19 (by decide) ?_
      have hj37 : ∀  (h87 : Hp), Sim id E (QM id E finV) h87 37 [(0, vr x0)] [] (g_Reader_go_j37 rec0 x0 h87) := by
        intro h87
        refine s_aload_n C dX7_go_37 0 rfl rfl ?_
        refine s_dup C dX7_go_38 rfl ?_
        refine s_getI [7, 15, 16] C (flc ⟨fo_X7_32_7, rfl⟩ (flc ⟨fo_X7_32_15, rfl⟩ (fl1 ⟨fo_X7_32_16, rfl⟩))) (pl_of e4 rfl) dX7_go_39 fun a88 => ?_
        refine s_iconst C (1 : Int32) dX7_go_42 (by decide) ?_
        refine s_iadd C dX7_go_43 ?_
        refine s_putI [7, 15, 16] 0 C (by decide) (by decide) (flc ⟨⟨by decide, fo_X7_32_7, rfl⟩, rfl⟩ (flc ⟨⟨by decide, fo_X7_32_15, rfl⟩, rfl⟩ (fl1 ⟨⟨by decide, fo_X7_32_16, rfl⟩, rfl⟩))) (pl_of e4 rfl) (flc (Or.inl rfl) (flc (Or.inl rfl) (fl1 (Or.inl rfl)))) dX7_go_44 fun h89 => ?_
        refine s_goto C 0 dX7_go_47 (by decide) ?_
        exact hr0 _ _
      refine s_icmp_eq C 37 dX7_go_21 (by decide) ?_ ?_
      · exact hj37 _
      · refine s_aload_n C dX7_go_24 0 rfl rfl ?_
        refine s_aload_n C dX7_go_25 0 rfl rfl ?_
        refine s_getI [7, 15, 16] C (flc ⟨fo_X7_32_7, rfl⟩ (flc ⟨fo_X7_32_15, rfl⟩ (fl1 ⟨fo_X7_32_16, rfl⟩))) (pl_of e4 rfl) dX7_go_26 fun a90 => ?_
        refine s_dk 32 finI [] (fun r91 h92 => ?_) (fun hk => s_dsp 7 (fun ht => c_P C 1 [] 7 "FinalLinks$ChainReader" ro_7 (ct_g_Reader_byteAt hL hJ x0 a90 h86) (lw_meth q1565) q148 q1562 q1564 (List.mem_of_getElem? (i := 0) rfl) nd_X7_byteAt.2 rfl (le_fr hf rfl) (le_fr hlo rfl) rfl (Nat.le_of_ble_eq_true rfl) dX7_go_29 hk ht) (s_dsp 15 (fun ht => c_P C 1 [] 15 "FinalLinks$BookReader" ro_15 (ct_g_Reader_byteAt hL hJ x0 a90 h86) (lw_meth q1565) q148 q1562 q1564 (List.mem_of_getElem? (i := 2) rfl) nd_X7_byteAt.2 rfl (le_fr hf rfl) (le_fr hlo rfl) rfl (Nat.le_of_ble_eq_true rfl) dX7_go_29 hk ht) (s_dsp 16 (fun ht => c_P C 1 [] 16 "FinalLinks$SentenceReader" ro_16 (ct_g_Reader_byteAt hL hJ x0 a90 h86) (lw_meth q1565) q148 q1562 q1564 (List.mem_of_getElem? (i := 4) rfl) nd_X7_byteAt.2 rfl (le_fr hf rfl) (le_fr hlo rfl) rfl (Nat.le_of_ble_eq_true rfl) dX7_go_29 hk ht) s_dsp0)))
        refine s_bipush C (10 : Int32) dX7_go_32 (by decide) ?_
        refine s_icmp_ne C 50 dX7_go_34 (by decide) ?_ ?_
        · exact hj50 _ _
        · exact hj37 _
  exact hL0 _ _ _

def g_Reader_isName_j48 (y0 : Int32) (h2 : Hp) : Option (Int32 × Hp) :=
  if nrw 2 y0 = y0 then some (y0, h2) else none
def g_Reader_isName_j47  (h3 : Hp) : Option (Int32 × Hp) :=
  g_Reader_isName_j48 (0 : Int32) h3
def g_Reader_isName (x0 : Nat) (h : Hp) : Option (Int32 × Hp) :=
  (getI [7, 15, 16] 5 x0 h).bind fun a1 =>
  if a1 = (2 : Int32) then
    bn (newO 29 4 h) fun o4 h5 =>
    bn (oSbInit o4 h5) fun _ h6 =>
    bn (dsp (tg h6 o4 % 500) none [(29, oSbS o4 14 h6)]) fun r7 h8 =>
    (getR [7, 15, 16] 9 x0 h8).bind fun a9 =>
    bn (dsp (tg h8 r7 % 500) none [(29, oSbS r7 a9 h8)]) fun r10 h11 =>
    bn (dsp (tg h11 r10 % 500) none [(29, oSbS r10 14 h11)]) fun r12 h13 =>
    bn (dsp (tg h13 r12 % 500) none [(29, oSbStr r12 h13)]) fun r14 h15 =>
    bn (dsp (tg h15 13 % 500) none [(28, oIndexOf 13 r14 h15)]) fun r16 h17 =>
    if 0 ≤ r16 then
      g_Reader_isName_j47 h17
    else
      g_Reader_isName_j48 (1 : Int32) h17
  else
    g_Reader_isName_j47 h
theorem ct_g_Reader_isName {G : Gx} {RL : Lv} {l : Launch} (hL : LvA G RL plA) (hJ : JK G RL l) (x0 : Nat) (h : Hp) : Ct id G RL l yX7_isName (ws_ yX7_isName cX7_isName 1 (some .boolean)) 41 4022 finI [vr x0] h (g_Reader_isName x0 h) := by
  refine Ct.of (Pl := plA) [(0, vr x0)] (by decide) hL rfl (Nat.le_of_ble_eq_true rfl) ?_
  intro E C e6 hf hlo e1 e2 e3 e4 e5
  subst e1; subst e2; subst e3
  replace C : Cx E cX7_isName (some .boolean) RX7 := C
  replace e6 : (eMe E).name = "isName" := e6
  unfold g_Reader_isName
  refine s_aload_n C dX7_isName_0 0 rfl rfl ?_
  refine s_getI [7, 15, 16] C (flc ⟨fo_X7_42_7, rfl⟩ (flc ⟨fo_X7_42_15, rfl⟩ (fl1 ⟨fo_X7_42_16, rfl⟩))) (pl_of e4 rfl) dX7_isName_1 fun a1 => ?_
  refine s_iconst C (2 : Int32) dX7_isName_4 (by decide) ?_
  have hj48 : ∀ (y0 : Int32) (h2 : Hp), Sim id E (QM id E finI) h2 48 [] [.int y0] (g_Reader_isName_j48 y0 h2) := by
    intro y0 h2
    exact s_zret 2 C (by decide) (by decide) rfl dX7_isName_48
  have hj47 : ∀  (h3 : Hp), Sim id E (QM id E finI) h3 47 [] [] (g_Reader_isName_j47 h3) := by
    intro h3
    refine s_iconst C (0 : Int32) dX7_isName_47 (by decide) ?_
    exact hj48 _ _
  refine s_icmp_ne C 47 dX7_isName_5 (by decide) ?_ ?_
  · refine Sim.keep [] rfl ?_
    exact hj47 _
  · refine s_ldcS C (List.mem_of_getElem? (i := 4) rfl) (by decide) (by decide) dX7_isName_8 ?_
    refine s_newO 29 4 C no_X7_58 (pl_of1 e4 rfl) dX7_isName_10 fun o4 h5 zo4 => ?_
    refine s_dup C dX7_isName_13 rfl ?_
    refine c_I C 0 [vr o4, vr 13] zo4 (jk_6 hJ o4 h5) (lw_meth q1576) q151 q1574 q1575 rfl nd_J33_init.2 rfl (le_fr hf rfl) (le_fr hlo rfl) rfl (Nat.le_of_ble_eq_true rfl) dX7_isName_14 fun _ h6 => ?_
    refine s_ldcS C (List.mem_of_getElem? (i := 5) rfl) (by decide) (by decide) dX7_isName_17 ?_
    refine s_dk 22 finR [vr 13] (fun r7 h8 => ?_) (fun hk => s_dsp 29 (fun ht => c_V C 1 [vr 13] 29 RJ33 ro_29 (jk_9 hJ o4 14 h6) (lw_V q1792 q1793 q1794 q151 q1795) nd_J33_append_2 rfl (le_fr hf rfl) (le_fr hlo rfl) rfl (Nat.le_of_ble_eq_true rfl) dX7_isName_19 hk ht) s_dsp0)
    refine s_aload_n C dX7_isName_22 0 rfl rfl ?_
    refine s_getR [7, 15, 16] C (flc ⟨fo_X7_11_7, rfl⟩ (flc ⟨fo_X7_11_15, rfl⟩ (fl1 ⟨fo_X7_11_16, rfl⟩))) (pl_of e4 rfl) dX7_isName_23 fun a9 => ?_
    refine s_dk 29 finR [vr 13] (fun r10 h11 => ?_) (fun hk => s_dsp 29 (fun ht => c_V C 1 [vr 13] 29 RJ33 ro_29 (jk_9 hJ r7 a9 h8) (lw_V q1792 q1793 q1794 q151 q1795) nd_J33_append_2 rfl (le_fr hf rfl) (le_fr hlo rfl) rfl (Nat.le_of_ble_eq_true rfl) dX7_isName_26 hk ht) s_dsp0)
    refine s_ldcS C (List.mem_of_getElem? (i := 5) rfl) (by decide) (by decide) dX7_isName_29 ?_
    refine s_dk 34 finR [vr 13] (fun r12 h13 => ?_) (fun hk => s_dsp 29 (fun ht => c_V C 1 [vr 13] 29 RJ33 ro_29 (jk_9 hJ r10 14 h11) (lw_V q1792 q1793 q1794 q151 q1795) nd_J33_append_2 rfl (le_fr hf rfl) (le_fr hlo rfl) rfl (Nat.le_of_ble_eq_true rfl) dX7_isName_31 hk ht) s_dsp0)
    refine s_dk 37 finR [vr 13] (fun r14 h15 => ?_) (fun hk => s_dsp 29 (fun ht => c_V C 0 [vr 13] 29 RJ33 ro_29 (jk_10 hJ r12 h13) (lw_V q1662 q1663 q1664 q151 q1665) nd_J33_toString rfl (le_fr hf rfl) (le_fr hlo rfl) rfl (Nat.le_of_ble_eq_true rfl) dX7_isName_34 hk ht) s_dsp0)
    refine s_dk 40 finI [] (fun r16 h17 => ?_) (fun hk => s_dsp 28 (fun ht => c_V C 1 [] 28 RJ27 ro_28 (jk_5 hJ 13 r14 h15) (lw_V q1831 q1832 q1833 q139 q1834) nd_J27_indexOf rfl (le_fr hf rfl) (le_fr hlo rfl) rfl (Nat.le_of_ble_eq_true rfl) dX7_isName_37 hk ht) s_dsp0)
    refine s_if_ge C 47 dX7_isName_40 (by decide) ?_ ?_
    · refine Sim.keep [] rfl ?_
      exact hj47 _
    · refine s_iconst C (1 : Int32) dX7_isName_43 (by decide) ?_
      refine s_goto C 48 dX7_isName_44 (by decide) ?_
      refine Sim.keep [] rfl ?_
      exact hj48 _ _

def g_Fault_init (x0 : Nat) (x1 : Int32) (x2 : Int32) (h : Hp) : Option (Unit × Hp) :=
  if x0 = 0 then none else
  bn (oExInit x0 0 0 (0 : Int32) (0 : Int32) h) fun _ h1 =>
  (putI [8] 0 6 x0 x1 h1).bind fun h3 =>
  (putI [8] 0 7 x0 x2 h3).bind fun h4 =>
  some ((), h4)
theorem ct_g_Fault_init {G : Gx} {RL : Lv} {l : Launch} (hL : LvA G RL plA) (hJ : JK G RL l) (x0 : Nat) (x1 : Int32) (x2 : Int32) (h : Hp) : Ct id G RL l yX9_init (ws_ yX9_init cX9_init 3 none) 41 4024 finV [vr x0, .int x1, .int x2] h (g_Fault_init x0 x1 x2 h) := by
  refine Ct.of (Pl := plA) [(0, vr x0), (1, .int x1), (2, .int x2)] (by decide) hL rfl (Nat.le_of_ble_eq_true rfl) ?_
  intro E C e6 hf hlo e1 e2 e3 e4 e5
  subst e1; subst e2; subst e3
  replace C : Cx E cX9_init none RX9 := C
  replace e6 : (eMe E).name = "<init>" := e6
  unfold g_Fault_init
  refine s_aload_n C dX9_init_0 0 rfl rfl ?_
  refine s_null C dX9_init_1 ?_
  refine s_null C dX9_init_2 ?_
  refine s_iconst C (0 : Int32) dX9_init_3 (by decide) ?_
  refine s_iconst C (0 : Int32) dX9_init_4 (by decide) ?_
  refine s_nz fun z2 => ?_
  refine c_I C 4 [] z2 (jk_38 hJ x0 0 0 (0 : Int32) (0 : Int32) h) (lw_meth q1753) q123 q1751 q1752 rfl nd_J13_init_2.2 rfl (le_fr hf rfl) (le_fr hlo rfl) rfl (Nat.le_of_ble_eq_true rfl) dX9_init_5 fun _ h1 => ?_
  refine s_aload_n C dX9_init_8 0 rfl rfl ?_
  refine s_iload_n C dX9_init_9 1 rfl rfl ?_
  refine s_putI [8] 0 C (by decide) (by decide) (fl1 ⟨⟨by decide, fo_X9_7_8, rfl⟩, rfl⟩) (pl_of e4 rfl) (fl1 (Or.inr ⟨e6, fx_X9_7_8⟩)) dX9_init_10 fun h3 => ?_
  refine s_aload_n C dX9_init_13 0 rfl rfl ?_
  refine s_iload_n C dX9_init_14 2 rfl rfl ?_
  refine s_putI [8] 0 C (by decide) (by decide) (fl1 ⟨⟨by decide, fo_X9_13_8, rfl⟩, rfl⟩) (pl_of e4 rfl) (fl1 (Or.inr ⟨e6, fx_X9_13_8⟩)) dX9_init_15 fun h4 => ?_
  exact s_vret C rfl dX9_init_18

def g_Reader_is_j24 (y0 : Int32) (h2 : Hp) : Option (Int32 × Hp) :=
  if nrw 2 y0 = y0 then some (y0, h2) else none
def g_Reader_is_j23  (h3 : Hp) : Option (Int32 × Hp) :=
  g_Reader_is_j24 (0 : Int32) h3
def g_Reader_is (x0 : Nat) (x1 : Nat) (h : Hp) : Option (Int32 × Hp) :=
  (getI [7, 15, 16] 5 x0 h).bind fun a1 =>
  if a1 = (2 : Int32) then
    (getR [7, 15, 16] 9 x0 h).bind fun a4 =>
    bn (dsp (tg h a4 % 500) none [(28, oEquals a4 x1 h)]) fun r5 h6 =>
    if r5 = 0 then
      g_Reader_is_j23 h6
    else
      g_Reader_is_j24 (1 : Int32) h6
  else
    g_Reader_is_j23 h
theorem ct_g_Reader_is {G : Gx} {RL : Lv} {l : Launch} (hL : LvA G RL plA) (hJ : JK G RL l) (x0 : Nat) (x1 : Nat) (h : Hp) : Ct id G RL l yX7_is (ws_ yX7_is cX7_is 2 (some .boolean)) 41 4022 finI [vr x0, vr x1] h (g_Reader_is x0 x1 h) := by
  refine Ct.of (Pl := plA) [(0, vr x0), (1, vr x1)] (by decide) hL rfl (Nat.le_of_ble_eq_true rfl) ?_
  intro E C e6 hf hlo e1 e2 e3 e4 e5
  subst e1; subst e2; subst e3
  replace C : Cx E cX7_is (some .boolean) RX7 := C
  replace e6 : (eMe E).name = "is" := e6
  unfold g_Reader_is
  refine s_aload_n C dX7_is_0 0 rfl rfl ?_
  refine s_getI [7, 15, 16] C (flc ⟨fo_X7_42_7, rfl⟩ (flc ⟨fo_X7_42_15, rfl⟩ (fl1 ⟨fo_X7_42_16, rfl⟩))) (pl_of e4 rfl) dX7_is_1 fun a1 => ?_
  refine s_iconst C (2 : Int32) dX7_is_4 (by decide) ?_
  have hj24 : ∀ (y0 : Int32) (h2 : Hp), Sim id E (QM id E finI) h2 24 [] [.int y0] (g_Reader_is_j24 y0 h2) := by
    intro y0 h2
    exact s_zret 2 C (by decide) (by decide) rfl dX7_is_24
  have hj23 : ∀  (h3 : Hp), Sim id E (QM id E finI) h3 23 [] [] (g_Reader_is_j23 h3) := by
    intro h3
    refine s_iconst C (0 : Int32) dX7_is_23 (by decide) ?_
    exact hj24 _ _
  refine s_icmp_ne C 23 dX7_is_5 (by decide) ?_ ?_
  · refine Sim.keep [] rfl ?_
    exact hj23 _
  · refine s_aload_n C dX7_is_8 0 rfl rfl ?_
    refine s_getR [7, 15, 16] C (flc ⟨fo_X7_11_7, rfl⟩ (flc ⟨fo_X7_11_15, rfl⟩ (fl1 ⟨fo_X7_11_16, rfl⟩))) (pl_of e4 rfl) dX7_is_9 fun a4 => ?_
    refine s_aload_n C dX7_is_12 1 rfl rfl ?_
    refine s_dk 16 finI [] (fun r5 h6 => ?_) (fun hk => s_dsp 28 (fun ht => c_V C 1 [] 28 RJ27 ro_28 (jk_4 hJ a4 x1 h) (lw_V q1732 q1057 q3553 q139 q1058) nd_J27_equals rfl (le_fr hf rfl) (le_fr hlo rfl) rfl (Nat.le_of_ble_eq_true rfl) dX7_is_13 hk ht) s_dsp0)
    refine s_if_eq C 23 dX7_is_16 (by decide) ?_ ?_
    · refine Sim.keep [] rfl ?_
      exact hj23 _
    · refine s_iconst C (1 : Int32) dX7_is_19 (by decide) ?_
      refine s_goto C 24 dX7_is_20 (by decide) ?_
      refine Sim.keep [] rfl ?_
      exact hj24 _ _

def g_FinalLinks_byteAt_j29 (y0 : Int32) (h6 : Hp) : Option (Int32 × Hp) :=
  some (y0, h6)
def g_FinalLinks_byteAt (x0 : Nat) (x1 : Int32) (h : Hp) : Option (Int32 × Hp) :=
  (getR [1] 13 x0 h).bind fun a1 =>
  bn (dsp (tg h a1 % 500) none [(28, oLength a1 h)]) fun r2 h3 =>
  bn (g_FinalLinks_isIn x1 (0 : Int32) (r2 - (1 : Int32)) h3) fun r4 h5 =>
  if r4 = 0 then
    g_FinalLinks_byteAt_j29 (-1 : Int32) h5
  else
    (getR [1] 13 x0 h5).bind fun a7 =>
    bn (dsp (tg h5 a7 % 500) none [(28, oCharAt a7 x1 h5)]) fun r8 h9 =>
    g_FinalLinks_byteAt_j29 r8 h9
theorem ct_g_FinalLinks_byteAt {G : Gx} {RL : Lv} {l : Launch} (hL : LvA G RL plA) (hJ : JK G RL l) (x0 : Nat) (x1 : Int32) (h : Hp) : Ct id G RL l yX1_byteAt (ws_ yX1_byteAt cX1_byteAt 2 (some .int)) 41 4021 finI [vr x0, .int x1] h (g_FinalLinks_byteAt x0 x1 h) := by
  refine Ct.of (Pl := plA) [(0, vr x0), (1, .int x1)] (by decide) hL rfl (Nat.le_of_ble_eq_true rfl) ?_
  intro E C e6 hf hlo e1 e2 e3 e4 e5
  subst e1; subst e2; subst e3
  replace C : Cx E cX1_byteAt (some .int) RX1 := C
  replace e6 : (eMe E).name = "byteAt" := e6
  unfold g_FinalLinks_byteAt
  refine s_iload_n C dX1_byteAt_0 1 rfl rfl ?_
  refine s_iconst C (0 : Int32) dX1_byteAt_1 (by decide) ?_
  refine s_aload_n C dX1_byteAt_2 0 rfl rfl ?_
  refine s_getR [1] C (fl1 ⟨fo_X1_68_1, rfl⟩) (pl_of e4 rfl) dX1_byteAt_3 fun a1 => ?_
  refine s_dk 9 finI [.int (0 : Int32), .int x1] (fun r2 h3 => ?_) (fun hk => s_dsp 28 (fun ht => c_V C 0 [.int (0 : Int32), .int x1] 28 RJ27 ro_28 (jk_2 hJ a1 h) (lw_V q2491 q1813 q1814 q139 q1815) nd_J27_length rfl (le_fr hf rfl) (le_fr hlo rfl) rfl (Nat.le_of_ble_eq_true rfl) dX1_byteAt_6 hk ht) s_dsp0)
  refine s_iconst C (1 : Int32) dX1_byteAt_9 (by decide) ?_
  refine s_isub C dX1_byteAt_10 ?_
  refine c_S C 3 [] (ct_g_FinalLinks_isIn hL hJ x1 (0 : Int32) (r2 - (1 : Int32)) h3) (lw_S q2171 q1775 q107 q1776) nd_X1_isIn.2 rfl (le_fr hf rfl) (le_fr hlo rfl) rfl (Nat.le_of_ble_eq_true rfl) dX1_byteAt_11 fun r4 h5 => ?_
  have hj29 : ∀ (y0 : Int32) (h6 : Hp), Sim id E (QM id E finI) h6 29 [] [.int y0] (g_FinalLinks_byteAt_j29 y0 h6) := by
    intro y0 h6
    exact s_iret C rfl dX1_byteAt_29
  refine s_if_eq C 28 dX1_byteAt_14 (by decide) ?_ ?_
  · refine s_iconst C (-1 : Int32) dX1_byteAt_28 (by decide) ?_
    refine Sim.keep [] rfl ?_
    exact hj29 _ _
  · refine s_aload_n C dX1_byteAt_17 0 rfl rfl ?_
    refine s_getR [1] C (fl1 ⟨fo_X1_68_1, rfl⟩) (pl_of e4 rfl) dX1_byteAt_18 fun a7 => ?_
    refine s_iload_n C dX1_byteAt_21 1 rfl rfl ?_
    refine s_dk 25 finI [] (fun r8 h9 => ?_) (fun hk => s_dsp 28 (fun ht => c_V C 1 [] 28 RJ27 ro_28 (jk_3 hJ a7 x1 h5) (lw_V q2496 q2497 q2498 q139 q2499) nd_J27_charAt rfl (le_fr hf rfl) (le_fr hlo rfl) rfl (Nat.le_of_ble_eq_true rfl) dX1_byteAt_22 hk ht) s_dsp0)
    refine s_goto C 29 dX1_byteAt_25 (by decide) ?_
    refine Sim.keep [] rfl ?_
    exact hj29 _ _

def g_ChainReader_init (x0 : Nat) (x1 : Nat) (x2 : Int32) (h : Hp) : Option (Unit × Hp) :=
  bn (newO 2 6 h) fun o1 h2 =>
  bn (g_Chain_init o1 h2) fun _ h3 =>
  if x0 = 0 then none else
  bn (g_Reader_init x0 x1 x2 (900 : Int32) o1 h3) fun _ h4 =>
  some ((), h4)
theorem ct_g_ChainReader_init {G : Gx} {RL : Lv} {l : Launch} (hL : LvA G RL plA) (hJ : JK G RL l) (x0 : Nat) (x1 : Nat) (x2 : Int32) (h : Hp) : Ct id G RL l yX8_init (ws_ yX8_init cX8_init 3 none) 42 4040 finV [vr x0, vr x1, .int x2] h (g_ChainReader_init x0 x1 x2 h) := by
  refine Ct.of (Pl := plA) [(0, vr x0), (1, vr x1), (2, .int x2)] (by decide) hL rfl (Nat.le_of_ble_eq_true rfl) ?_
  intro E C e6 hf hlo e1 e2 e3 e4 e5
  subst e1; subst e2; subst e3
  replace C : Cx E cX8_init none RX8 := C
  replace e6 : (eMe E).name = "<init>" := e6
  unfold g_ChainReader_init
  refine s_aload_n C dX8_init_0 0 rfl rfl ?_
  refine s_aload_n C dX8_init_1 1 rfl rfl ?_
  refine s_iload_n C dX8_init_2 2 rfl rfl ?_
  refine s_sipush C (900 : Int32) dX8_init_3 (by decide) ?_
  refine s_newO 2 6 C no_X8_3 (pl_of1 e4 rfl) dX8_init_6 fun o1 h2 zo1 => ?_
  refine s_dup C dX8_init_9 rfl ?_
  refine c_IN C 0 [vr o1, .int (900 : Int32), .int x2, vr x1, vr x0] _ zo1 (ct_g_Chain_init hL hJ o1 h2) (lw_meth q183) q108 q1503 q182 rfl nd_X2_init.2 rfl (le_fr hf rfl) (le_fr hlo rfl) rfl (Nat.le_of_ble_eq_true rfl) dX8_init_10 fun _ h3 => ?_
  refine s_nz fun z5 => ?_
  refine c_I C 4 [] z5 (ct_g_Reader_init hL hJ x0 x1 x2 (900 : Int32) o1 h3) (lw_meth q1506) q148 q1504 q1505 rfl nd_X7_init.2 rfl (le_fr hf rfl) (le_fr hlo rfl) rfl (Nat.le_of_ble_eq_true rfl) dX8_init_13 fun _ h4 => ?_
  exact s_vret C rfl dX8_init_16

def g_FinalLinks_chosen_j30 (y0 : Int32) (h5 : Hp) : Option (Int32 × Hp) :=
  some (y0, h5)
def g_FinalLinks_chosen (x0 : Nat) (x1 : Int32) (h : Hp) : Option (Int32 × Hp) :=
  (getR [1] 6 x0 h).bind fun a1 =>
  (getI [4] 12 a1 h).bind fun a2 =>
  bn (g_FinalLinks_isIn x1 (0 : Int32) (a2 - (1 : Int32)) h) fun r3 h4 =>
  if r3 = 0 then
    g_FinalLinks_chosen_j30 (-1 : Int32) h4
  else
    (getR [1] 6 x0 h4).bind fun a6 =>
    (getR [4] 9 a6 h4).bind fun a7 =>
    (aldI [200] a7 x1 h4).bind fun a8 =>
    g_FinalLinks_chosen_j30 a8 h4
theorem ct_g_FinalLinks_chosen {G : Gx} {RL : Lv} {l : Launch} (hL : LvA G RL plA) (hJ : JK G RL l) (x0 : Nat) (x1 : Int32) (h : Hp) : Ct id G RL l yX1_chosen (ws_ yX1_chosen cX1_chosen 2 (some .int)) 1 22 finI [vr x0, .int x1] h (g_FinalLinks_chosen x0 x1 h) := by
  refine Ct.of (Pl := plA) [(0, vr x0), (1, .int x1)] (by decide) hL rfl (Nat.le_of_ble_eq_true rfl) ?_
  intro E C e6 hf hlo e1 e2 e3 e4 e5
  subst e1; subst e2; subst e3
  replace C : Cx E cX1_chosen (some .int) RX1 := C
  replace e6 : (eMe E).name = "chosen" := e6
  unfold g_FinalLinks_chosen
  refine s_iload_n C dX1_chosen_0 1 rfl rfl ?_
  refine s_iconst C (0 : Int32) dX1_chosen_1 (by decide) ?_
  refine s_aload_n C dX1_chosen_2 0 rfl rfl ?_
  refine s_getR [1] C (fl1 ⟨fo_X1_48_1, rfl⟩) (pl_of e4 rfl) dX1_chosen_3 fun a1 => ?_
  refine s_getI [4] C (fl1 ⟨fo_X1_351_4, rfl⟩) (pl_of e4 rfl) dX1_chosen_6 fun a2 => ?_
  refine s_iconst C (1 : Int32) dX1_chosen_9 (by decide) ?_
  refine s_isub C dX1_chosen_10 ?_
  refine c_S C 3 [] (ct_g_FinalLinks_isIn hL hJ x1 (0 : Int32) (a2 - (1 : Int32)) h) (lw_S q2171 q1775 q107 q1776) nd_X1_isIn.2 rfl (le_fr hf rfl) (le_fr hlo rfl) rfl (Nat.le_of_ble_eq_true rfl) dX1_chosen_11 fun r3 h4 => ?_
  have hj30 : ∀ (y0 : Int32) (h5 : Hp), Sim id E (QM id E finI) h5 30 [] [.int y0] (g_FinalLinks_chosen_j30 y0 h5) := by
    intro y0 h5
    exact s_iret C rfl dX1_chosen_30
  refine s_if_eq C 29 dX1_chosen_14 (by decide) ?_ ?_
  · refine s_iconst C (-1 : Int32) dX1_chosen_29 (by decide) ?_
    refine Sim.keep [] rfl ?_
    exact hj30 _ _
  · refine s_aload_n C dX1_chosen_17 0 rfl rfl ?_
    refine s_getR [1] C (fl1 ⟨fo_X1_48_1, rfl⟩) (pl_of e4 rfl) dX1_chosen_18 fun a6 => ?_
    refine s_getR [4] C (fl1 ⟨fo_X1_354_4, rfl⟩) (pl_of e4 rfl) dX1_chosen_21 fun a7 => ?_
    refine s_iload_n C dX1_chosen_24 1 rfl rfl ?_
    refine s_iald [200] C (fl1 rfl) (pl_of e4 rfl) dX1_chosen_25 fun a8 => ?_
    refine s_goto C 30 dX1_chosen_26 (by decide) ?_
    refine Sim.keep [] rfl ?_
    exact hj30 _ _

def g_Judged_clashWith_j57 (rec4 : Int32 → Hp → Option (Int32 × Hp)) (x0 : Nat) (x1 : Int32) (x2 : Int32) (h7 : Hp) : Option (Int32 × Hp) :=
  rec4 (x2 + (1 : Int32)) h7
def g_Judged_clashWith_L4 (x0 : Nat) (x1 : Int32) : Int32 → Hp → Option (Int32 × Hp) :=
  lp FU fun rec4 v4 h1 =>
    (getR [4] 0 x0 h1).bind fun a2 =>
    bn (dsp (tg h1 a2 % 500) none [(3, g_Tree_size a2 h1)]) fun r3 h4 =>
    if r3 ≤ v4 then
      some ((-1 : Int32), h4)
    else
      bn (dsp (tg h4 x0 % 500) none [(4, g_Judged_isFinal x0 x1 h4)]) fun r5 h6 =>
      if r5 = 0 then
        g_Judged_clashWith_j57 rec4 x0 x1 v4 h6
      else
        bn (dsp (tg h6 x0 % 500) none [(4, g_Judged_isFinal x0 v4 h6)]) fun r8 h9 =>
        if r8 = 0 then
          g_Judged_clashWith_j57 rec4 x0 x1 v4 h9
        else
          (getR [4] 0 x0 h9).bind fun a10 =>
          bn (dsp (tg h9 a10 % 500) none [(3, g_Tree_isAhead a10 x1 v4 h9)]) fun r11 h12 =>
          if r11 = 0 then
            (getR [4] 0 x0 h12).bind fun a13 =>
            bn (dsp (tg h12 a13 % 500) none [(3, g_Tree_isAhead a13 v4 x1 h12)]) fun r14 h15 =>
            if r14 = 0 then
              some (v4, h15)
            else
              g_Judged_clashWith_j57 rec4 x0 x1 v4 h15
          else
            g_Judged_clashWith_j57 rec4 x0 x1 v4 h12
def g_Judged_clashWith (x0 : Nat) (x1 : Int32) (h : Hp) : Option (Int32 × Hp) :=
  bd ((x1 + (1 : Int32))) fun a16 =>
  g_Judged_clashWith_L4 x0 x1 a16 h
theorem ct_g_Judged_clashWith {G : Gx} {RL : Lv} {l : Launch} (hL : LvA G RL plA) (hJ : JK G RL l) (x0 : Nat) (x1 : Int32) (h : Hp) : Ct id G RL l yX4_clashWith (ws_ yX4_clashWith cX4_clashWith 3 (some .int)) 44 4087 finI [vr x0, .int x1] h (g_Judged_clashWith x0 x1 h) := by
  refine Ct.of (Pl := plA) [(0, vr x0), (1, .int x1)] (by decide) hL rfl (Nat.le_of_ble_eq_true rfl) ?_
  intro E C e6 hf hlo e1 e2 e3 e4 e5
  subst e1; subst e2; subst e3
  replace C : Cx E cX4_clashWith (some .int) RX4 := C
  replace e6 : (eMe E).name = "clashWith" := e6
  unfold g_Judged_clashWith
  refine s_iload_n C dX4_clashWith_0 1 rfl rfl ?_
  refine s_iconst C (1 : Int32) dX4_clashWith_1 (by decide) ?_
  refine s_iadd C dX4_clashWith_2 ?_
  have hL4 : ∀ (x0 : Nat) (x1 : Int32) (v4 : Int32) (h1 : Hp), Sim id E (QM id E finI) h1 4 [(0, vr x0), (1, .int x1), (2, .int v4)] [] (g_Judged_clashWith_L4 x0 x1 v4 h1) := by
    intro x0 x1 v4 h1
    refine Sim.loop (fun v4 => [(0, vr x0), (1, .int x1), (2, .int v4)]) (fun _ => []) (fun rec4 hr4 v4 h1 => ?_) FU v4 h1
    refine s_iload_n C dX4_clashWith_4 2 rfl rfl ?_
    refine s_aload_n C dX4_clashWith_5 0 rfl rfl ?_
    refine s_getR [4] C (fl1 ⟨fo_X4_24_4, rfl⟩) (pl_of e4 rfl) dX4_clashWith_6 fun a2 => ?_
    refine s_dk 12 finI [.int v4] (fun r3 h4 => ?_) (fun hk => s_dsp 3 (fun ht => c_V C 0 [.int v4] 3 RX3 ro_3 (ct_g_Tree_size hL hJ a2 h1) (lw_V q766 q767 q768 q114 q769) nd_X3_size rfl (le_fr hf rfl) (le_fr hlo rfl) rfl (Nat.le_of_ble_eq_true rfl) dX4_clashWith_9 hk ht) s_dsp0)
    refine s_icmp_ge C 63 dX4_clashWith_12 (by decide) ?_ ?_
    · refine s_iconst C (-1 : Int32) dX4_clashWith_63 (by decide) ?_
      exact s_iret C rfl dX4_clashWith_64
    · refine s_aload_n C dX4_clashWith_15 0 rfl rfl ?_
      refine s_iload_n C dX4_clashWith_16 1 rfl rfl ?_
      refine s_dk 20 finI [] (fun r5 h6 => ?_) (fun hk => s_dsp 4 (fun ht => c_V C 1 [] 4 RX4 ro_4 (ct_g_Judged_isFinal hL hJ x0 x1 h4) (lw_V q2446 q2447 q2448 q130 q2449) nd_X4_isFinal rfl (le_fr hf rfl) (le_fr hlo rfl) rfl (Nat.le_of_ble_eq_true rfl) dX4_clashWith_17 hk ht) s_dsp0)
      have hj57 : ∀ (x2 : Int32) (h7 : Hp), Sim id E (QM id E finI) h7 57 [(0, vr x0), (1, .int x1), (2, .int x2)] [] (g_Judged_clashWith_j57 rec4 x0 x1 x2 h7) := by
        intro x2 h7
        refine s_iinc (la' := [(2, .int (x2 + (1 : Int32))), (0, vr x0), (1, .int x1)]) C 2 dX4_clashWith_57 rfl rfl (lt_nl e5 rfl) rfl ?_
        refine s_goto C 4 dX4_clashWith_60 (by decide) ?_
        refine Sim.keep [1, 2, 0] rfl ?_
        exact hr4 _ _
      refine s_if_eq C 57 dX4_clashWith_20 (by decide) ?_ ?_
      · exact hj57 _ _
      · refine s_aload_n C dX4_clashWith_23 0 rfl rfl ?_
        refine s_iload_n C dX4_clashWith_24 2 rfl rfl ?_
        refine s_dk 28 finI [] (fun r8 h9 => ?_) (fun hk => s_dsp 4 (fun ht => c_V C 1 [] 4 RX4 ro_4 (ct_g_Judged_isFinal hL hJ x0 v4 h6) (lw_V q2446 q2447 q2448 q130 q2449) nd_X4_isFinal rfl (le_fr hf rfl) (le_fr hlo rfl) rfl (Nat.le_of_ble_eq_true rfl) dX4_clashWith_25 hk ht) s_dsp0)
        refine s_if_eq C 57 dX4_clashWith_28 (by decide) ?_ ?_
        · exact hj57 _ _
        · refine s_aload_n C dX4_clashWith_31 0 rfl rfl ?_
          refine s_getR [4] C (fl1 ⟨fo_X4_24_4, rfl⟩) (pl_of e4 rfl) dX4_clashWith_32 fun a10 => ?_
          refine s_iload_n C dX4_clashWith_35 1 rfl rfl ?_
          refine s_iload_n C dX4_clashWith_36 2 rfl rfl ?_
          refine s_dk 40 finI [] (fun r11 h12 => ?_) (fun hk => s_dsp 3 (fun ht => c_V C 2 [] 3 RX3 ro_3 (ct_g_Tree_isAhead hL hJ a10 x1 v4 h9) (lw_V q1402 q1403 q1404 q114 q1405) nd_X3_isAhead rfl (le_fr hf rfl) (le_fr hlo rfl) rfl (Nat.le_of_ble_eq_true rfl) dX4_clashWith_37 hk ht) s_dsp0)
          refine s_if_ne C 57 dX4_clashWith_40 (by decide) ?_ ?_
          · exact hj57 _ _
          · refine s_aload_n C dX4_clashWith_43 0 rfl rfl ?_
            refine s_getR [4] C (fl1 ⟨fo_X4_24_4, rfl⟩) (pl_of e4 rfl) dX4_clashWith_44 fun a13 => ?_
            refine s_iload_n C dX4_clashWith_47 2 rfl rfl ?_
            refine s_iload_n C dX4_clashWith_48 1 rfl rfl ?_
            refine s_dk 52 finI [] (fun r14 h15 => ?_) (fun hk => s_dsp 3 (fun ht => c_V C 2 [] 3 RX3 ro_3 (ct_g_Tree_isAhead hL hJ a13 v4 x1 h12) (lw_V q1402 q1403 q1404 q114 q1405) nd_X3_isAhead rfl (le_fr hf rfl) (le_fr hlo rfl) rfl (Nat.le_of_ble_eq_true rfl) dX4_clashWith_49 hk ht) s_dsp0)
            refine s_if_ne C 57 dX4_clashWith_52 (by decide) ?_ ?_
            · exact hj57 _ _
            · refine s_iload_n C dX4_clashWith_55 2 rfl rfl ?_
              exact s_iret C rfl dX4_clashWith_56
  refine s_bdi fun a16 => ?_
  refine s_istore_n (la' := [(2, .int a16), (0, vr x0), (1, .int x1)]) C 2 dX4_clashWith_3 rfl (lt_nl e5 rfl) rfl ?_
  refine Sim.keep [1, 2, 0] rfl ?_
  exact hL4 _ _ _ _

def g_Judged_clash_L2 (x0 : Nat) : Int32 → Hp → Option (Int32 × Hp) :=
  lp FU fun rec2 v2 h1 =>
    (getR [4] 0 x0 h1).bind fun a2 =>
    bn (dsp (tg h1 a2 % 500) none [(3, g_Tree_size a2 h1)]) fun r3 h4 =>
    if r3 ≤ v2 then
      some ((-1 : Int32), h4)
    else
      bn (dsp (tg h4 x0 % 500) none [(4, g_Judged_clashWith x0 v2 h4)]) fun r5 h6 =>
      if r5 = (-1 : Int32) then
        rec2 (v2 + (1 : Int32)) h6
      else
        some (v2, h6)
def g_Judged_clash (x0 : Nat) (h : Hp) : Option (Int32 × Hp) :=
  g_Judged_clash_L2 x0 (0 : Int32) h
theorem ct_g_Judged_clash {G : Gx} {RL : Lv} {l : Launch} (hL : LvA G RL plA) (hJ : JK G RL l) (x0 : Nat) (h : Hp) : Ct id G RL l yX4_clash (ws_ yX4_clash cX4_clash 2 (some .int)) 45 4109 finI [vr x0] h (g_Judged_clash x0 h) := by
  refine Ct.of (Pl := plA) [(0, vr x0)] (by decide) hL rfl (Nat.le_of_ble_eq_true rfl) ?_
  intro E C e6 hf hlo e1 e2 e3 e4 e5
  subst e1; subst e2; subst e3
  replace C : Cx E cX4_clash (some .int) RX4 := C
  replace e6 : (eMe E).name = "clash" := e6
  unfold g_Judged_clash
  refine s_iconst C (0 : Int32) dX4_clash_0 (by decide) ?_
  have hL2 : ∀ (x0 : Nat) (v2 : Int32) (h1 : Hp), Sim id E (QM id E finI) h1 2 [(0, vr x0), (1, .int v2)] [] (g_Judged_clash_L2 x0 v2 h1) := by
    intro x0 v2 h1
    refine Sim.loop (fun v2 => [(0, vr x0), (1, .int v2)]) (fun _ => []) (fun rec2 hr2 v2 h1 => ?_) FU v2 h1
    refine s_iload_n C dX4_clash_2 1 rfl rfl ?_
    refine s_aload_n C dX4_clash_3 0 rfl rfl ?_
    refine s_getR [4] C (fl1 ⟨fo_X4_24_4, rfl⟩) (pl_of e4 rfl) dX4_clash_4 fun a2 => ?_
    refine s_dk 10 finI [.int v2] (fun r3 h4 => ?_) (fun hk => s_dsp 3 (fun ht => c_V C 0 [.int v2] 3 RX3 ro_3 (ct_g_Tree_size hL hJ a2 h1) (lw_V q766 q767 q768 q114 q769) nd_X3_size rfl (le_fr hf rfl) (le_fr hlo rfl) rfl (Nat.le_of_ble_eq_true rfl) dX4_clash_7 hk ht) s_dsp0)
    refine s_icmp_ge C 30 dX4_clash_10 (by decide) ?_ ?_
    · refine s_iconst C (-1 : Int32) dX4_clash_30 (by decide) ?_
      exact s_iret C rfl dX4_clash_31
    · refine s_aload_n C dX4_clash_13 0 rfl rfl ?_
      refine s_iload_n C dX4_clash_14 1 rfl rfl ?_
      refine s_dk 18 finI [] (fun r5 h6 => ?_) (fun hk => s_dsp 4 (fun ht => c_V C 1 [] 4 RX4 ro_4 (ct_g_Judged_clashWith hL hJ x0 v2 h4) (lw_V q2442 q2443 q2444 q130 q2445) nd_X4_clashWith rfl (le_fr hf rfl) (le_fr hlo rfl) rfl (Nat.le_of_ble_eq_true rfl) dX4_clash_15 hk ht) s_dsp0)
      refine s_iconst C (-1 : Int32) dX4_clash_18 (by decide) ?_
      refine s_icmp_eq C 24 dX4_clash_19 (by decide) ?_ ?_
      · refine s_iinc (la' := [(1, .int (v2 + (1 : Int32))), (0, vr x0)]) C 1 dX4_clash_24 rfl rfl (lt_nl e5 rfl) rfl ?_
        refine s_goto C 2 dX4_clash_27 (by decide) ?_
        refine Sim.keep [1, 0] rfl ?_
        exact hr2 _ _
      · refine s_iload_n C dX4_clash_22 1 rfl rfl ?_
        exact s_iret C rfl dX4_clash_23
  refine s_istore_n (la' := [(1, .int (0 : Int32)), (0, vr x0)]) C 1 dX4_clash_1 rfl (lt_nl e5 rfl) rfl ?_
  refine Sim.keep [1, 0] rfl ?_
  exact hL2 _ _ _

def g_FinalLinks_clash_j16 (y0 : Int32) (h4 : Hp) : Option (Int32 × Hp) :=
  some (y0, h4)
def g_FinalLinks_clash (x0 : Nat) (h : Hp) : Option (Int32 × Hp) :=
  (getR [1] 6 x0 h).bind fun a1 =>
  bn (dsp (tg h a1 % 500) none [(4, g_Judged_clash a1 h)]) fun r2 h3 =>
  if r2 = (-1 : Int32) then
    g_FinalLinks_clash_j16 (0 : Int32) h3
  else
    g_FinalLinks_clash_j16 (1 : Int32) h3
theorem ct_g_FinalLinks_clash {G : Gx} {RL : Lv} {l : Launch} (hL : LvA G RL plA) (hJ : JK G RL l) (x0 : Nat) (h : Hp) : Ct id G RL l yX1_clash (ws_ yX1_clash cX1_clash 1 (some .int)) 46 4130 finI [vr x0] h (g_FinalLinks_clash x0 h) := by
  refine Ct.of (Pl := plA) [(0, vr x0)] (by decide) hL rfl (Nat.le_of_ble_eq_true rfl) ?_
  intro E C e6 hf hlo e1 e2 e3 e4 e5
  subst e1; subst e2; subst e3
  replace C : Cx E cX1_clash (some .int) RX1 := C
  replace e6 : (eMe E).name = "clash" := e6
  unfold g_FinalLinks_clash
  refine s_aload_n C dX1_clash_0 0 rfl rfl ?_
  refine s_getR [1] C (fl1 ⟨fo_X1_48_1, rfl⟩) (pl_of e4 rfl) dX1_clash_1 fun a1 => ?_
  refine s_dk 7 finI [] (fun r2 h3 => ?_) (fun hk => s_dsp 4 (fun ht => c_V C 0 [] 4 RX4 ro_4 (ct_g_Judged_clash hL hJ a1 h) (lw_V q2438 q2439 q2440 q130 q2441) nd_X4_clash rfl (le_fr hf rfl) (le_fr hlo rfl) rfl (Nat.le_of_ble_eq_true rfl) dX1_clash_4 hk ht) s_dsp0)
  refine s_iconst C (-1 : Int32) dX1_clash_7 (by decide) ?_
  have hj16 : ∀ (y0 : Int32) (h4 : Hp), Sim id E (QM id E finI) h4 16 [] [.int y0] (g_FinalLinks_clash_j16 y0 h4) := by
    intro y0 h4
    exact s_iret C rfl dX1_clash_16
  refine s_icmp_ne C 15 dX1_clash_8 (by decide) ?_ ?_
  · refine s_iconst C (1 : Int32) dX1_clash_15 (by decide) ?_
    refine Sim.keep [] rfl ?_
    exact hj16 _ _
  · refine s_iconst C (0 : Int32) dX1_clash_11 (by decide) ?_
    refine s_goto C 16 dX1_clash_12 (by decide) ?_
    refine Sim.keep [] rfl ?_
    exact hj16 _ _

def g_FinalLinks_clashAt_j42 (y0 : Int32) (h4 : Hp) : Option (Int32 × Hp) :=
  some (y0, h4)
def g_FinalLinks_clashAt_j22  (h5 : Hp) : Option (Int32 × Hp) :=
  g_FinalLinks_clashAt_j42 (-1 : Int32) h5
def g_FinalLinks_clashAt (x0 : Nat) (x1 : Int32) (h : Hp) : Option (Int32 × Hp) :=
  (getR [1] 6 x0 h).bind fun a1 =>
  bn (dsp (tg h a1 % 500) none [(4, g_Judged_clash a1 h)]) fun r2 h3 =>
  if r2 = (-1 : Int32) then
    g_FinalLinks_clashAt_j22 h3
  else
    bn (g_FinalLinks_isIn x1 (0 : Int32) (1 : Int32) h3) fun r6 h7 =>
    if r6 = 0 then
      g_FinalLinks_clashAt_j22 h7
    else
      if x1 = 0 then
        g_FinalLinks_clashAt_j42 r2 h7
      else
        (getR [1] 6 x0 h7).bind fun a8 =>
        bn (dsp (tg h7 a8 % 500) none [(4, g_Judged_clashWith a8 r2 h7)]) fun r9 h10 =>
        g_FinalLinks_clashAt_j42 r9 h10
theorem ct_g_FinalLinks_clashAt {G : Gx} {RL : Lv} {l : Launch} (hL : LvA G RL plA) (hJ : JK G RL l) (x0 : Nat) (x1 : Int32) (h : Hp) : Ct id G RL l yX1_clashAt (ws_ yX1_clashAt cX1_clashAt 3 (some .int)) 46 4130 finI [vr x0, .int x1] h (g_FinalLinks_clashAt x0 x1 h) := by
  refine Ct.of (Pl := plA) [(0, vr x0), (1, .int x1)] (by decide) hL rfl (Nat.le_of_ble_eq_true rfl) ?_
  intro E C e6 hf hlo e1 e2 e3 e4 e5
  subst e1; subst e2; subst e3
  replace C : Cx E cX1_clashAt (some .int) RX1 := C
  replace e6 : (eMe E).name = "clashAt" := e6
  unfold g_FinalLinks_clashAt
  refine s_aload_n C dX1_clashAt_0 0 rfl rfl ?_
  refine s_getR [1] C (fl1 ⟨fo_X1_48_1, rfl⟩) (pl_of e4 rfl) dX1_clashAt_1 fun a1 => ?_
  refine s_dk 7 finI [] (fun r2 h3 => ?_) (fun hk => s_dsp 4 (fun ht => c_V C 0 [] 4 RX4 ro_4 (ct_g_Judged_clash hL hJ a1 h) (lw_V q2438 q2439 q2440 q130 q2441) nd_X4_clash rfl (le_fr hf rfl) (le_fr hlo rfl) rfl (Nat.le_of_ble_eq_true rfl) dX1_clashAt_4 hk ht) s_dsp0)
  refine s_istore_n (la' := [(2, .int r2), (0, vr x0), (1, .int x1)]) C 2 dX1_clashAt_7 rfl (lt_nl e5 rfl) rfl ?_
  refine s_iload_n C dX1_clashAt_8 0 rfl rfl ?_
  refine s_iconst C (-1 : Int32) dX1_clashAt_9 (by decide) ?_
  have hj42 : ∀ (y0 : Int32) (h4 : Hp), Sim id E (QM id E finI) h4 42 [] [.int y0] (g_FinalLinks_clashAt_j42 y0 h4) := by
    intro y0 h4
    exact s_iret C rfl dX1_clashAt_42
  have hj22 : ∀  (h5 : Hp), Sim id E (QM id E finI) h5 22 [] [] (g_FinalLinks_clashAt_j22 h5) := by
    intro h5
    refine s_iconst C (-1 : Int32) dX1_clashAt_22 (by decide) ?_
    refine s_goto C 42 dX1_clashAt_23 (by decide) ?_
    exact hj42 _ _
  refine s_icmp_eq C 22 dX1_clashAt_10 (by decide) ?_ ?_
  · refine Sim.keep [] rfl ?_
    exact hj22 _
  · refine s_iload_n C dX1_clashAt_13 2 rfl rfl ?_
    refine s_iconst C (0 : Int32) dX1_clashAt_14 (by decide) ?_
    refine s_iconst C (1 : Int32) dX1_clashAt_15 (by decide) ?_
    refine c_S C 3 [] (ct_g_FinalLinks_isIn hL hJ x1 (0 : Int32) (1 : Int32) h3) (lw_S q2171 q1775 q107 q1776) nd_X1_isIn.2 rfl (le_fr hf rfl) (le_fr hlo rfl) rfl (Nat.le_of_ble_eq_true rfl) dX1_clashAt_16 fun r6 h7 => ?_
    refine s_if_ne C 26 dX1_clashAt_19 (by decide) ?_ ?_
    · refine s_iload_n C dX1_clashAt_26 2 rfl rfl ?_
      refine s_if_ne C 34 dX1_clashAt_27 (by decide) ?_ ?_
      · refine s_aload_n C dX1_clashAt_34 1 rfl rfl ?_
        refine s_getR [1] C (fl1 ⟨fo_X1_48_1, rfl⟩) (pl_of e4 rfl) dX1_clashAt_35 fun a8 => ?_
        refine s_iload_n C dX1_clashAt_38 0 rfl rfl ?_
        refine s_dk 42 finI [] (fun r9 h10 => ?_) (fun hk => s_dsp 4 (fun ht => c_V C 1 [] 4 RX4 ro_4 (ct_g_Judged_clashWith hL hJ a8 r2 h7) (lw_V q2454 q2443 q2444 q130 q2445) nd_X4_clashWith rfl (le_fr hf rfl) (le_fr hlo rfl) rfl (Nat.le_of_ble_eq_true rfl) dX1_clashAt_39 hk ht) s_dsp0)
        refine Sim.keep [] rfl ?_
        exact hj42 _ _
      · refine s_iload_n C dX1_clashAt_30 0 rfl rfl ?_
        refine s_goto C 42 dX1_clashAt_31 (by decide) ?_
        refine Sim.keep [] rfl ?_
        exact hj42 _ _
    · refine Sim.keep [] rfl ?_
      exact hj22 _

def g_FinalLinks_count_j89 (rec64 : (Int32 × Int32) → Hp → Option (Int32 × Hp)) (x0 : Nat) (x2 : Int32) (x3 : Int32) (h16 : Hp) : Option (Int32 × Hp) :=
  rec64 (x2, (x3 + (1 : Int32))) h16
def g_FinalLinks_count_L64 (x0 : Nat) : (Int32 × Int32) → Hp → Option (Int32 × Hp) :=
  lp FU fun rec64 v64 h9 =>
    (getR [1] 4 x0 h9).bind fun a10 =>
    bn (dsp (tg h9 a10 % 500) none [(3, g_Tree_size a10 h9)]) fun r11 h12 =>
    if r11 ≤ v64.2 then
      some (v64.1, h12)
    else
      (getR [1] 4 x0 h12).bind fun a13 =>
      bn (dsp (tg h12 a13 % 500) none [(3, g_Tree_isPoint a13 v64.2 h12)]) fun r14 h15 =>
      if r14 = 0 then
        g_FinalLinks_count_j89 rec64 x0 v64.1 v64.2 h15
      else
        g_FinalLinks_count_j89 rec64 x0 (v64.1 + (1 : Int32)) v64.2 h15
def g_FinalLinks_count (x0 : Nat) (x1 : Int32) (h : Hp) : Option (Int32 × Hp) :=
  swi x1 (some ((-1 : Int32), h)) [
    ((0 : Int32), (getR [1] 3 x0 h).bind fun a1 =>
    bn (dsp (tg h a1 % 500) none [(2, g_Chain_voters a1 h)]) fun r2 h3 =>
    some (r2, h3)),
    ((1 : Int32), (getR [1] 4 x0 h).bind fun a4 =>
    bn (dsp (tg h a4 % 500) none [(3, g_Tree_size a4 h)]) fun r5 h6 =>
    some (r5, h6)),
    ((2 : Int32), (getR [1] 3 x0 h).bind fun a7 =>
    (getI [2] 1 a7 h).bind fun a8 =>
    some (a8, h)),
    ((3 : Int32), g_FinalLinks_count_L64 x0 ((0 : Int32), (0 : Int32)) h),
    ((4 : Int32), (getI [1] 1 x0 h).bind fun a17 =>
    some (a17, h))]
theorem ct_g_FinalLinks_count {G : Gx} {RL : Lv} {l : Launch} (hL : LvA G RL plA) (hJ : JK G RL l) (x0 : Nat) (x1 : Int32) (h : Hp) : Ct id G RL l yX1_count (ws_ yX1_count cX1_count 4 (some .int)) 43 4063 finI [vr x0, .int x1] h (g_FinalLinks_count x0 x1 h) := by
  refine Ct.of (Pl := plA) [(0, vr x0), (1, .int x1)] (by decide) hL rfl (Nat.le_of_ble_eq_true rfl) ?_
  intro E C e6 hf hlo e1 e2 e3 e4 e5
  subst e1; subst e2; subst e3
  replace C : Cx E cX1_count (some .int) RX1 := C
  replace e6 : (eMe E).name = "count" := e6
  unfold g_FinalLinks_count
  refine s_iload_n C dX1_count_0 1 rfl rfl ?_
  refine s_tsw C 102 dX1_count_1 [(0 : Int32), (1 : Int32), (2 : Int32), (3 : Int32), (4 : Int32)] rfl (by decide +kernel) (by decide) (by decide) ⟨⟨36, by decide, ?_⟩, ⟨⟨44, by decide, ?_⟩, ⟨⟨52, by decide, ?_⟩, ⟨⟨60, by decide, ?_⟩, ⟨⟨97, by decide, ?_⟩, trivial⟩⟩⟩⟩⟩ ?_
  · refine s_aload_n C dX1_count_36 0 rfl rfl ?_
    refine s_getR [1] C (fl1 ⟨fo_X1_23_1, rfl⟩) (pl_of e4 rfl) dX1_count_37 fun a1 => ?_
    refine s_dk 43 finI [] (fun r2 h3 => ?_) (fun hk => s_dsp 2 (fun ht => c_V C 0 [] 2 RX2 ro_2 (ct_g_Chain_voters hL hJ a1 h) (lw_V q2170 q1330 q1331 q108 q1332) nd_X2_voters rfl (le_fr hf rfl) (le_fr hlo rfl) rfl (Nat.le_of_ble_eq_true rfl) dX1_count_40 hk ht) s_dsp0)
    exact s_iret C rfl dX1_count_43
  · refine s_aload_n C dX1_count_44 0 rfl rfl ?_
    refine s_getR [1] C (fl1 ⟨fo_X1_34_1, rfl⟩) (pl_of e4 rfl) dX1_count_45 fun a4 => ?_
    refine s_dk 51 finI [] (fun r5 h6 => ?_) (fun hk => s_dsp 3 (fun ht => c_V C 0 [] 3 RX3 ro_3 (ct_g_Tree_size hL hJ a4 h) (lw_V q2429 q767 q768 q114 q769) nd_X3_size rfl (le_fr hf rfl) (le_fr hlo rfl) rfl (Nat.le_of_ble_eq_true rfl) dX1_count_48 hk ht) s_dsp0)
    exact s_iret C rfl dX1_count_51
  · refine s_aload_n C dX1_count_52 0 rfl rfl ?_
    refine s_getR [1] C (fl1 ⟨fo_X1_23_1, rfl⟩) (pl_of e4 rfl) dX1_count_53 fun a7 => ?_
    refine s_getI [2] C (fl1 ⟨fo_X1_449_2, rfl⟩) (pl_of e4 rfl) dX1_count_56 fun a8 => ?_
    exact s_iret C rfl dX1_count_59
  · refine s_iconst C (0 : Int32) dX1_count_60 (by decide) ?_
    refine s_istore_n (la' := [(2, .int (0 : Int32)), (0, vr x0), (1, .int x1)]) C 2 dX1_count_61 rfl (lt_nl e5 rfl) rfl ?_
    refine s_iconst C (0 : Int32) dX1_count_62 (by decide) ?_
    have hL64 : ∀ (x0 : Nat) (v64 : (Int32 × Int32)) (h9 : Hp), Sim id E (QM id E finI) h9 64 [(0, vr x0), (2, .int v64.1), (3, .int v64.2)] [] (g_FinalLinks_count_L64 x0 v64 h9) := by
      intro x0 v64 h9
      refine Sim.loop (fun v64 => [(0, vr x0), (2, .int v64.1), (3, .int v64.2)]) (fun _ => []) (fun rec64 hr64 v64 h9 => ?_) FU v64 h9
      refine s_iload_n C dX1_count_64 2 rfl rfl ?_
      refine s_aload_n C dX1_count_65 0 rfl rfl ?_
      refine s_getR [1] C (fl1 ⟨fo_X1_34_1, rfl⟩) (pl_of e4 rfl) dX1_count_66 fun a10 => ?_
      refine s_dk 72 finI [.int v64.2] (fun r11 h12 => ?_) (fun hk => s_dsp 3 (fun ht => c_V C 0 [.int v64.2] 3 RX3 ro_3 (ct_g_Tree_size hL hJ a10 h9) (lw_V q2429 q767 q768 q114 q769) nd_X3_size rfl (le_fr hf rfl) (le_fr hlo rfl) rfl (Nat.le_of_ble_eq_true rfl) dX1_count_69 hk ht) s_dsp0)
      refine s_icmp_ge C 95 dX1_count_72 (by decide) ?_ ?_
      · refine s_iload_n C dX1_count_95 1 rfl rfl ?_
        exact s_iret C rfl dX1_count_96
      · refine s_aload_n C dX1_count_75 0 rfl rfl ?_
        refine s_getR [1] C (fl1 ⟨fo_X1_34_1, rfl⟩) (pl_of e4 rfl) dX1_count_76 fun a13 => ?_
        refine s_iload_n C dX1_count_79 2 rfl rfl ?_
        refine s_dk 83 finI [] (fun r14 h15 => ?_) (fun hk => s_dsp 3 (fun ht => c_V C 1 [] 3 RX3 ro_3 (ct_g_Tree_isPoint hL hJ a13 v64.2 h12) (lw_V q2162 q2163 q2164 q114 q2165) nd_X3_isPoint rfl (le_fr hf rfl) (le_fr hlo rfl) rfl (Nat.le_of_ble_eq_true rfl) dX1_count_80 hk ht) s_dsp0)
        have hj89 : ∀ (x2 : Int32) (x3 : Int32) (h16 : Hp), Sim id E (QM id E finI) h16 89 [(0, vr x0), (2, .int x2), (3, .int x3)] [] (g_FinalLinks_count_j89 rec64 x0 x2 x3 h16) := by
          intro x2 x3 h16
          refine s_iinc (la' := [(3, .int (x3 + (1 : Int32))), (0, vr x0), (2, .int x2)]) C 2 dX1_count_89 rfl rfl (lt_nl e5 rfl) rfl ?_
          refine s_goto C 64 dX1_count_92 (by decide) ?_
          refine Sim.keep [1, 2, 0] rfl ?_
          exact hr64 _ _
        refine s_if_eq C 89 dX1_count_83 (by decide) ?_ ?_
        · exact hj89 _ _ _
        · refine s_iinc (la' := [(2, .int (v64.1 + (1 : Int32))), (0, vr x0), (3, .int v64.2)]) C 1 dX1_count_86 rfl rfl (lt_nl e5 rfl) rfl ?_
          refine Sim.keep [1, 0, 2] rfl ?_
          exact hj89 _ _ _
    refine s_istore_n (la' := [(3, .int (0 : Int32)), (2, .int (0 : Int32)), (0, vr x0), (1, .int x1)]) C 3 dX1_count_63 rfl (lt_nl e5 rfl) rfl ?_
    refine Sim.keep [2, 1, 0] rfl ?_
    exact hL64 _ _ _
  · refine s_aload_n C dX1_count_97 0 rfl rfl ?_
    refine s_getI [1] C (fl1 ⟨fo_X1_83_1, rfl⟩) (pl_of e4 rfl) dX1_count_98 fun a17 => ?_
    exact s_iret C rfl dX1_count_101
  · refine s_iconst C (-1 : Int32) dX1_count_102 (by decide) ?_
    exact s_iret C rfl dX1_count_103

def g_FinalLinks_does_j24 (x2 : Int32) (h7 : Hp) : Option (Int32 × Hp) :=
  some (x2, h7)
def g_FinalLinks_does (x0 : Nat) (x1 : Nat) (h : Hp) : Option (Int32 × Hp) :=
  (getR [1] 5 x0 h).bind fun a1 =>
  (getR [1] 4 x0 h).bind fun a2 =>
  bn (dsp (tg h a1 % 500) none [(3, g_Tree_as a1 a2 h)]) fun r3 h4 =>
  bn (dsp (tg h4 x1 % 500) none [(11, g_Casts_does x1 r3 h4), (13, g_Looks_does x1 r3 h4), (14, g_Grows_does x1 r3 h4)]) fun r5 h6 =>
  if r5 = 0 then
    bn (dsp (tg h6 x0 % 500) none [(1, g_FinalLinks_lives x0 h6)]) fun _ h8 =>
    g_FinalLinks_does_j24 r5 h8
  else
    g_FinalLinks_does_j24 r5 h6
theorem ct_g_FinalLinks_does {G : Gx} {RL : Lv} {l : Launch} (hL : LvA G RL plA) (hJ : JK G RL l) (x0 : Nat) (x1 : Nat) (h : Hp) : Ct id G RL l yX1_does (ws_ yX1_does cX1_does 3 (some .int)) 49 4198 finI [vr x0, vr x1] h (g_FinalLinks_does x0 x1 h) := by
  refine Ct.of (Pl := plA) [(0, vr x0), (1, vr x1)] (by decide) hL rfl (Nat.le_of_ble_eq_true rfl) ?_
  intro E C e6 hf hlo e1 e2 e3 e4 e5
  subst e1; subst e2; subst e3
  replace C : Cx E cX1_does (some .int) RX1 := C
  replace e6 : (eMe E).name = "does" := e6
  unfold g_FinalLinks_does
  refine s_aload_n C dX1_does_0 1 rfl rfl ?_
  refine s_aload_n C dX1_does_1 0 rfl rfl ?_
  refine s_getR [1] C (fl1 ⟨fo_X1_38_1, rfl⟩) (pl_of e4 rfl) dX1_does_2 fun a1 => ?_
  refine s_aload_n C dX1_does_5 0 rfl rfl ?_
  refine s_getR [1] C (fl1 ⟨fo_X1_34_1, rfl⟩) (pl_of e4 rfl) dX1_does_6 fun a2 => ?_
  refine s_dk 12 finR [vr x1] (fun r3 h4 => ?_) (fun hk => s_dsp 3 (fun ht => c_V C 1 [vr x1] 3 RX3 ro_3 (ct_g_Tree_as hL hJ a1 a2 h) (lw_V q2224 q2225 q2226 q114 q2227) nd_X3_as rfl (le_fr hf rfl) (le_fr hlo rfl) rfl (Nat.le_of_ble_eq_true rfl) dX1_does_9 hk ht) s_dsp0)
  refine s_dk 15 finI [] (fun r5 h6 => ?_) (fun hk => s_dsp 11 (fun ht => c_A C 1 [] 11 RX13 "FinalLinks$Act" ro_11 (ct_g_Casts_does hL hJ x1 r3 h4) (lw_U q2254 q2256 q2257 q2258 q159 q2259) q2255 ⟨by decide +kernel, by decide +kernel, by decide +kernel⟩ rfl (le_fr hf rfl) (le_fr hlo rfl) rfl (Nat.le_of_ble_eq_true rfl) dX1_does_12 hk ht) (s_dsp 13 (fun ht => c_A C 1 [] 13 RX15 "FinalLinks$Act" ro_13 (ct_g_Looks_does hL hJ x1 r3 h4) (lw_U q2254 q2256 q2320 q2321 q161 q2322) q2255 ⟨by decide +kernel, by decide +kernel, by decide +kernel⟩ rfl (le_fr hf rfl) (le_fr hlo rfl) rfl (Nat.le_of_ble_eq_true rfl) dX1_does_12 hk ht) (s_dsp 14 (fun ht => c_A C 1 [] 14 RX16 "FinalLinks$Act" ro_14 (ct_g_Grows_does hL hJ x1 r3 h4) (lw_U q2254 q2256 q2311 q2312 q162 q2313) q2255 ⟨by decide +kernel, by decide +kernel, by decide +kernel⟩ rfl (le_fr hf rfl) (le_fr hlo rfl) rfl (Nat.le_of_ble_eq_true rfl) dX1_does_12 hk ht) s_dsp0)))
  refine s_istore_n (la' := [(2, .int r5), (0, vr x0), (1, vr x1)]) C 2 dX1_does_15 rfl (lt_nl e5 rfl) rfl ?_
  refine s_iload_n C dX1_does_16 0 rfl rfl ?_
  have hj24 : ∀ (x2 : Int32) (h7 : Hp), Sim id E (QM id E finI) h7 24 [(2, .int x2)] [] (g_FinalLinks_does_j24 x2 h7) := by
    intro x2 h7
    refine s_iload_n C dX1_does_24 0 rfl rfl ?_
    exact s_iret C rfl dX1_does_25
  refine s_if_ne C 24 dX1_does_17 (by decide) ?_ ?_
  · refine Sim.keep [0] rfl ?_
    exact hj24 _ _
  · refine s_aload_n C dX1_does_20 1 rfl rfl ?_
    refine s_dk 24 finV [] (fun _ h8 => ?_) (fun hk => s_dsp 1 (fun ht => c_V C 0 [] 1 RX1 ro_1 (ct_g_FinalLinks_lives hL hJ x0 h6) (lw_V q2326 q2328 qs26 q107 q2329) nd_X1_lives rfl (le_fr hf rfl) (le_fr hlo rfl) rfl (Nat.le_of_ble_eq_true rfl) dX1_does_21 hk ht) s_dsp0)
    refine Sim.keep [0] rfl ?_
    exact hj24 _ _
