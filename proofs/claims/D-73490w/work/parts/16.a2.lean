/-! THE CLASSES' METHODS (printed by hgenapp.py): functions on a heap where the library's things are single cells; contracts -/
set_option maxRecDepth 100000
def g_Judged_findWay_j172 (rec124 : (Int32 × Int32) → Hp → Option (Unit × Hp)) (x0 : Nat) (x1 : Int32) (x2 : Int32) (h27 : Hp) : Option (Unit × Hp) :=
  rec124 (x1, (x2 + (1 : Int32))) h27
def g_Judged_findWay_j170 (rec124 : (Int32 × Int32) → Hp → Option (Unit × Hp)) (x0 : Nat) (x2 : Int32) (h28 : Hp) : Option (Unit × Hp) :=
  g_Judged_findWay_j172 rec124 x0 x2 x2 h28
def g_Judged_findWay_L124 (rec97 : Unit → Hp → Option (Unit × Hp)) (x0 : Nat) : (Int32 × Int32) → Hp → Option (Unit × Hp) :=
  lp FU fun rec124 v124 h18 =>
    (getR [4] 0 x0 h18).bind fun a19 =>
    bn (dsp (tg h18 a19 % 500) none [(3, g_Tree_size a19 h18)]) fun r20 h21 =>
    if r20 ≤ v124.2 then
      if v124.1 = (-1 : Int32) then
        some ((), h21)
      else
        (putI [4] 0 7 x0 v124.1 h21).bind fun h22 =>
        rec97 () h22
    else
      (getR [4] 0 x0 h21).bind fun a23 =>
      bn (dsp (tg h21 a23 % 500) none [(3, g_Tree_on a23 v124.2 h21)]) fun r24 h25 =>
      (getI [4] 7 x0 h25).bind fun a26 =>
      if r24 = a26 then
        if v124.1 = (-1 : Int32) then
          g_Judged_findWay_j170 rec124 x0 v124.2 h25
        else
          (getR [4] 8 x0 h25).bind fun a29 =>
          (aldI [200] a29 v124.2 h25).bind fun a30 =>
          (getR [4] 8 x0 h25).bind fun a31 =>
          (aldI [200] a31 v124.1 h25).bind fun a32 =>
          if a30 ≤ a32 then
            g_Judged_findWay_j172 rec124 x0 v124.1 v124.2 h25
          else
            g_Judged_findWay_j170 rec124 x0 v124.2 h25
      else
        g_Judged_findWay_j172 rec124 x0 v124.1 v124.2 h25
def g_Judged_findWay_L97 (x0 : Nat) : Unit → Hp → Option (Unit × Hp) :=
  lp FU fun rec97 v97 h11 =>
    (getR [4] 9 x0 h11).bind fun a12 =>
    (getI [4] 12 x0 h11).bind fun a13 =>
    (getI [4] 7 x0 h11).bind fun a14 =>
    (astI [200] 0 a12 a13 a14 h11).bind fun h15 =>
    (getI [4] 12 x0 h15).bind fun a16 =>
    (putI [4] 0 12 x0 (a16 + (1 : Int32)) h15).bind fun h17 =>
    g_Judged_findWay_L124 rec97 x0 ((-1 : Int32), (0 : Int32)) h17
def g_Judged_findWay_L61 (x0 : Nat) : Int32 → Hp → Option (Unit × Hp) :=
  lp FU fun rec61 v61 h6 =>
    (getR [4] 0 x0 h6).bind fun a7 =>
    bn (dsp (tg h6 a7 % 500) none [(3, g_Tree_size a7 h6)]) fun r8 h9 =>
    if r8 ≤ v61 then
      (getI [4] 6 x0 h9).bind fun a10 =>
      (putI [4] 0 7 x0 a10 h9).bind fun h33 =>
      g_Judged_findWay_L97 x0 () h33
    else
      (getR [4] 8 x0 h9).bind fun a34 =>
      bn (dsp (tg h9 x0 % 500) none [(4, g_Judged_heftOf x0 v61 h9)]) fun r35 h36 =>
      (astI [200] 0 a34 v61 r35 h36).bind fun h37 =>
      rec61 (v61 + (1 : Int32)) h37
def g_Judged_findWay_j53 (rec7 : Int32 → Hp → Option (Unit × Hp)) (x0 : Nat) (x1 : Int32) (h40 : Hp) : Option (Unit × Hp) :=
  rec7 (x1 + (1 : Int32)) h40
def g_Judged_findWay_L7 (x0 : Nat) : Int32 → Hp → Option (Unit × Hp) :=
  lp FU fun rec7 v7 h2 =>
    (getR [4] 0 x0 h2).bind fun a3 =>
    bn (dsp (tg h2 a3 % 500) none [(3, g_Tree_size a3 h2)]) fun r4 h5 =>
    if r4 ≤ v7 then
      g_Judged_findWay_L61 x0 (0 : Int32) h5
    else
      bn (dsp (tg h5 x0 % 500) none [(4, g_Judged_isJust x0 v7 h5)]) fun r38 h39 =>
      if r38 = 0 then
        g_Judged_findWay_j53 rec7 x0 v7 h39
      else
        (getR [4] 0 x0 h39).bind fun a41 =>
        bn (dsp (tg h39 a41 % 500) none [(3, g_Tree_level a41 v7 h39)]) fun r42 h43 =>
        (getR [4] 0 x0 h43).bind fun a44 =>
        (getI [4] 6 x0 h43).bind fun a45 =>
        bn (dsp (tg h43 a44 % 500) none [(3, g_Tree_level a44 a45 h43)]) fun r46 h47 =>
        if r42 ≤ r46 then
          g_Judged_findWay_j53 rec7 x0 v7 h47
        else
          (putI [4] 0 6 x0 v7 h47).bind fun h48 =>
          g_Judged_findWay_j53 rec7 x0 v7 h48
def g_Judged_findWay (x0 : Nat) (h : Hp) : Option (Unit × Hp) :=
  (putI [4] 0 6 x0 (0 : Int32) h).bind fun h1 =>
  g_Judged_findWay_L7 x0 (1 : Int32) h1
theorem ct_g_Judged_findWay {G : Gx} {RL : Lv} {l : Launch} (hL : LvA G RL plA) (hJ : JK G RL l) (x0 : Nat) (h : Hp) : Ct id G RL l yX4_findWay (ws_ yX4_findWay cX4_findWay 3 none) 45 4111 finV [vr x0] h (g_Judged_findWay x0 h) := by
  refine Ct.of (Pl := plA) [(0, vr x0)] (by decide) hL rfl (Nat.le_of_ble_eq_true rfl) ?_
  intro E C e6 hf hlo e1 e2 e3 e4 e5
  subst e1; subst e2; subst e3
  replace C : Cx E cX4_findWay none RX4 := C
  replace e6 : (eMe E).name = "findWay" := e6
  unfold g_Judged_findWay
  refine s_aload_n C dX4_findWay_0 0 rfl rfl ?_
  refine s_iconst C (0 : Int32) dX4_findWay_1 (by decide) ?_
  refine s_putI [4] 0 C (by decide) (by decide) (fl1 ⟨⟨by decide, fo_X4_38_4, rfl⟩, rfl⟩) (pl_of e4 rfl) (fl1 (Or.inl rfl)) dX4_findWay_2 fun h1 => ?_
  refine s_iconst C (1 : Int32) dX4_findWay_5 (by decide) ?_
  have hL7 : ∀ (x0 : Nat) (v7 : Int32) (h2 : Hp), Sim id E (QM id E finV) h2 7 [(0, vr x0), (1, .int v7)] [] (g_Judged_findWay_L7 x0 v7 h2) := by
    intro x0 v7 h2
    refine Sim.loop (fun v7 => [(0, vr x0), (1, .int v7)]) (fun _ => []) (fun rec7 hr7 v7 h2 => ?_) FU v7 h2
    refine s_iload_n C dX4_findWay_7 1 rfl rfl ?_
    refine s_aload_n C dX4_findWay_8 0 rfl rfl ?_
    refine s_getR [4] C (fl1 ⟨fo_X4_24_4, rfl⟩) (pl_of e4 rfl) dX4_findWay_9 fun a3 => ?_
    refine s_dk 15 finI [.int v7] (fun r4 h5 => ?_) (fun hk => s_dsp 3 (fun ht => c_V C 0 [.int v7] 3 RX3 ro_3 (ct_g_Tree_size hL hJ a3 h2) (lw_V q766 q767 q768 q114 q769) nd_X3_size rfl (le_fr hf rfl) (le_fr hlo rfl) rfl (Nat.le_of_ble_eq_true rfl) dX4_findWay_12 hk ht) s_dsp0)
    refine s_icmp_ge C 59 dX4_findWay_15 (by decide) ?_ ?_
    · refine s_iconst C (0 : Int32) dX4_findWay_59 (by decide) ?_
      have hL61 : ∀ (x0 : Nat) (v61 : Int32) (h6 : Hp), Sim id E (QM id E finV) h6 61 [(0, vr x0), (1, .int v61)] [] (g_Judged_findWay_L61 x0 v61 h6) := by
        intro x0 v61 h6
        refine Sim.loop (fun v61 => [(0, vr x0), (1, .int v61)]) (fun _ => []) (fun rec61 hr61 v61 h6 => ?_) FU v61 h6
        refine s_iload_n C dX4_findWay_61 1 rfl rfl ?_
        refine s_aload_n C dX4_findWay_62 0 rfl rfl ?_
        refine s_getR [4] C (fl1 ⟨fo_X4_24_4, rfl⟩) (pl_of e4 rfl) dX4_findWay_63 fun a7 => ?_
        refine s_dk 69 finI [.int v61] (fun r8 h9 => ?_) (fun hk => s_dsp 3 (fun ht => c_V C 0 [.int v61] 3 RX3 ro_3 (ct_g_Tree_size hL hJ a7 h6) (lw_V q766 q767 q768 q114 q769) nd_X3_size rfl (le_fr hf rfl) (le_fr hlo rfl) rfl (Nat.le_of_ble_eq_true rfl) dX4_findWay_66 hk ht) s_dsp0)
        refine s_icmp_ge C 89 dX4_findWay_69 (by decide) ?_ ?_
        · refine s_aload_n C dX4_findWay_89 0 rfl rfl ?_
          refine s_aload_n C dX4_findWay_90 0 rfl rfl ?_
          refine s_getI [4] C (fl1 ⟨fo_X4_38_4, rfl⟩) (pl_of e4 rfl) dX4_findWay_91 fun a10 => ?_
          have hL97 : ∀ (x0 : Nat) (v97 : Unit) (h11 : Hp), Sim id E (QM id E finV) h11 97 [(0, vr x0)] [] (g_Judged_findWay_L97 x0 v97 h11) := by
            intro x0 v97 h11
            refine Sim.loop (fun v97 => [(0, vr x0)]) (fun _ => []) (fun rec97 hr97 v97 h11 => ?_) FU v97 h11
            refine s_aload_n C dX4_findWay_97 0 rfl rfl ?_
            refine s_getR [4] C (fl1 ⟨fo_X4_15_4, rfl⟩) (pl_of e4 rfl) dX4_findWay_98 fun a12 => ?_
            refine s_aload_n C dX4_findWay_101 0 rfl rfl ?_
            refine s_getI [4] C (fl1 ⟨fo_X4_44_4, rfl⟩) (pl_of e4 rfl) dX4_findWay_102 fun a13 => ?_
            refine s_aload_n C dX4_findWay_105 0 rfl rfl ?_
            refine s_getI [4] C (fl1 ⟨fo_X4_41_4, rfl⟩) (pl_of e4 rfl) dX4_findWay_106 fun a14 => ?_
            refine s_iast [200] C (fl1 ⟨by decide, rfl⟩) (pl_of e4 rfl) dX4_findWay_109 fun h15 => ?_
            refine s_aload_n C dX4_findWay_110 0 rfl rfl ?_
            refine s_dup C dX4_findWay_111 rfl ?_
            refine s_getI [4] C (fl1 ⟨fo_X4_44_4, rfl⟩) (pl_of e4 rfl) dX4_findWay_112 fun a16 => ?_
            refine s_iconst C (1 : Int32) dX4_findWay_115 (by decide) ?_
            refine s_iadd C dX4_findWay_116 ?_
            refine s_putI [4] 0 C (by decide) (by decide) (fl1 ⟨⟨by decide, fo_X4_44_4, rfl⟩, rfl⟩) (pl_of e4 rfl) (fl1 (Or.inl rfl)) dX4_findWay_117 fun h17 => ?_
            refine s_iconst C (-1 : Int32) dX4_findWay_120 (by decide) ?_
            refine s_istore_n (la' := [(1, .int (-1 : Int32)), (0, vr x0)]) C 1 dX4_findWay_121 rfl (lt_nl e5 rfl) rfl ?_
            refine s_iconst C (0 : Int32) dX4_findWay_122 (by decide) ?_
            have hL124 : ∀  (v124 : (Int32 × Int32)) (h18 : Hp), Sim id E (QM id E finV) h18 124 [(0, vr x0), (1, .int v124.1), (2, .int v124.2)] [] (g_Judged_findWay_L124 rec97 x0 v124 h18) := by
              intro v124 h18
              refine Sim.loop (fun v124 => [(0, vr x0), (1, .int v124.1), (2, .int v124.2)]) (fun _ => []) (fun rec124 hr124 v124 h18 => ?_) FU v124 h18
              refine s_iload_n C dX4_findWay_124 2 rfl rfl ?_
              refine s_aload_n C dX4_findWay_125 0 rfl rfl ?_
              refine s_getR [4] C (fl1 ⟨fo_X4_24_4, rfl⟩) (pl_of e4 rfl) dX4_findWay_126 fun a19 => ?_
              refine s_dk 132 finI [.int v124.2] (fun r20 h21 => ?_) (fun hk => s_dsp 3 (fun ht => c_V C 0 [.int v124.2] 3 RX3 ro_3 (ct_g_Tree_size hL hJ a19 h18) (lw_V q766 q767 q768 q114 q769) nd_X3_size rfl (le_fr hf rfl) (le_fr hlo rfl) rfl (Nat.le_of_ble_eq_true rfl) dX4_findWay_129 hk ht) s_dsp0)
              refine s_icmp_ge C 178 dX4_findWay_132 (by decide) ?_ ?_
              · refine s_iload_n C dX4_findWay_178 1 rfl rfl ?_
                refine s_iconst C (-1 : Int32) dX4_findWay_179 (by decide) ?_
                refine s_icmp_ne C 184 dX4_findWay_180 (by decide) ?_ ?_
                · refine s_aload_n C dX4_findWay_184 0 rfl rfl ?_
                  refine s_iload_n C dX4_findWay_185 1 rfl rfl ?_
                  refine s_putI [4] 0 C (by decide) (by decide) (fl1 ⟨⟨by decide, fo_X4_41_4, rfl⟩, rfl⟩) (pl_of e4 rfl) (fl1 (Or.inl rfl)) dX4_findWay_186 fun h22 => ?_
                  refine s_goto C 97 dX4_findWay_189 (by decide) ?_
                  refine Sim.keep [0] rfl ?_
                  exact hr97 _ _
                · exact s_vret C rfl dX4_findWay_183
              · refine s_aload_n C dX4_findWay_135 0 rfl rfl ?_
                refine s_getR [4] C (fl1 ⟨fo_X4_24_4, rfl⟩) (pl_of e4 rfl) dX4_findWay_136 fun a23 => ?_
                refine s_iload_n C dX4_findWay_139 2 rfl rfl ?_
                refine s_dk 143 finI [] (fun r24 h25 => ?_) (fun hk => s_dsp 3 (fun ht => c_V C 1 [] 3 RX3 ro_3 (ct_g_Tree_on hL hJ a23 v124.2 h21) (lw_V q1407 q1318 q1319 q114 q1320) nd_X3_on rfl (le_fr hf rfl) (le_fr hlo rfl) rfl (Nat.le_of_ble_eq_true rfl) dX4_findWay_140 hk ht) s_dsp0)
                refine s_aload_n C dX4_findWay_143 0 rfl rfl ?_
                refine s_getI [4] C (fl1 ⟨fo_X4_41_4, rfl⟩) (pl_of e4 rfl) dX4_findWay_144 fun a26 => ?_
                have hj172 : ∀ (x1 : Int32) (x2 : Int32) (h27 : Hp), Sim id E (QM id E finV) h27 172 [(0, vr x0), (1, .int x1), (2, .int x2)] [] (g_Judged_findWay_j172 rec124 x0 x1 x2 h27) := by
                  intro x1 x2 h27
                  refine s_iinc (la' := [(2, .int (x2 + (1 : Int32))), (0, vr x0), (1, .int x1)]) C 2 dX4_findWay_172 rfl rfl (lt_nl e5 rfl) rfl ?_
                  refine s_goto C 124 dX4_findWay_175 (by decide) ?_
                  refine Sim.keep [1, 2, 0] rfl ?_
                  exact hr124 _ _
                refine s_icmp_ne C 172 dX4_findWay_147 (by decide) ?_ ?_
                · exact hj172 _ _ _
                · refine s_iload_n C dX4_findWay_150 1 rfl rfl ?_
                  refine s_iconst C (-1 : Int32) dX4_findWay_151 (by decide) ?_
                  have hj170 : ∀ (x2 : Int32) (h28 : Hp), Sim id E (QM id E finV) h28 170 [(0, vr x0), (2, .int x2)] [] (g_Judged_findWay_j170 rec124 x0 x2 h28) := by
                    intro x2 h28
                    refine s_iload_n C dX4_findWay_170 1 rfl rfl ?_
                    refine s_istore_n (la' := [(1, .int x2), (0, vr x0), (2, .int x2)]) C 1 dX4_findWay_171 rfl (lt_nl e5 rfl) rfl ?_
                    refine Sim.keep [1, 0, 2] rfl ?_
                    exact hj172 _ _ _
                  refine s_icmp_eq C 170 dX4_findWay_152 (by decide) ?_ ?_
                  · refine Sim.keep [0, 2] rfl ?_
                    exact hj170 _ _
                  · refine s_aload_n C dX4_findWay_155 0 rfl rfl ?_
                    refine s_getR [4] C (fl1 ⟨fo_X4_9_4, rfl⟩) (pl_of e4 rfl) dX4_findWay_156 fun a29 => ?_
                    refine s_iload_n C dX4_findWay_159 2 rfl rfl ?_
                    refine s_iald [200] C (fl1 rfl) (pl_of e4 rfl) dX4_findWay_160 fun a30 => ?_
                    refine s_aload_n C dX4_findWay_161 0 rfl rfl ?_
                    refine s_getR [4] C (fl1 ⟨fo_X4_9_4, rfl⟩) (pl_of e4 rfl) dX4_findWay_162 fun a31 => ?_
                    refine s_iload_n C dX4_findWay_165 1 rfl rfl ?_
                    refine s_iald [200] C (fl1 rfl) (pl_of e4 rfl) dX4_findWay_166 fun a32 => ?_
                    refine s_icmp_le C 172 dX4_findWay_167 (by decide) ?_ ?_
                    · exact hj172 _ _ _
                    · refine Sim.keep [0, 2] rfl ?_
                      exact hj170 _ _
            refine s_istore_n (la' := [(2, .int (0 : Int32)), (1, .int (-1 : Int32)), (0, vr x0)]) C 2 dX4_findWay_123 rfl (lt_nl e5 rfl) rfl ?_
            refine Sim.keep [2, 1, 0] rfl ?_
            exact hL124  _ _
          refine s_putI [4] 0 C (by decide) (by decide) (fl1 ⟨⟨by decide, fo_X4_41_4, rfl⟩, rfl⟩) (pl_of e4 rfl) (fl1 (Or.inl rfl)) dX4_findWay_94 fun h33 => ?_
          refine Sim.keep [0] rfl ?_
          exact hL97 _ _ _
        · refine s_aload_n C dX4_findWay_72 0 rfl rfl ?_
          refine s_getR [4] C (fl1 ⟨fo_X4_9_4, rfl⟩) (pl_of e4 rfl) dX4_findWay_73 fun a34 => ?_
          refine s_iload_n C dX4_findWay_76 1 rfl rfl ?_
          refine s_aload_n C dX4_findWay_77 0 rfl rfl ?_
          refine s_iload_n C dX4_findWay_78 1 rfl rfl ?_
          refine s_dk 82 finI [.int v61, vr a34] (fun r35 h36 => ?_) (fun hk => s_dsp 4 (fun ht => c_V C 1 [.int v61, vr a34] 4 RX4 ro_4 (ct_g_Judged_heftOf hL hJ x0 v61 h9) (lw_V q1361 q1363 qs12 q130 q1364) nd_X4_heftOf rfl (le_fr hf rfl) (le_fr hlo rfl) rfl (Nat.le_of_ble_eq_true rfl) dX4_findWay_79 hk ht) s_dsp0)
          refine s_iast [200] C (fl1 ⟨by decide, rfl⟩) (pl_of e4 rfl) dX4_findWay_82 fun h37 => ?_
          refine s_iinc (la' := [(1, .int (v61 + (1 : Int32))), (0, vr x0)]) C 1 dX4_findWay_83 rfl rfl (lt_nl e5 rfl) rfl ?_
          refine s_goto C 61 dX4_findWay_86 (by decide) ?_
          refine Sim.keep [1, 0] rfl ?_
          exact hr61 _ _
      refine s_istore_n (la' := [(1, .int (0 : Int32)), (0, vr x0)]) C 1 dX4_findWay_60 rfl (lt_nl e5 rfl) rfl ?_
      refine Sim.keep [1, 0] rfl ?_
      exact hL61 _ _ _
    · refine s_aload_n C dX4_findWay_18 0 rfl rfl ?_
      refine s_iload_n C dX4_findWay_19 1 rfl rfl ?_
      refine s_dk 23 finI [] (fun r38 h39 => ?_) (fun hk => s_dsp 4 (fun ht => c_V C 1 [] 4 RX4 ro_4 (ct_g_Judged_isJust hL hJ x0 v7 h5) (lw_V q1347 q1348 q1349 q130 q1350) nd_X4_isJust rfl (le_fr hf rfl) (le_fr hlo rfl) rfl (Nat.le_of_ble_eq_true rfl) dX4_findWay_20 hk ht) s_dsp0)
      have hj53 : ∀ (x1 : Int32) (h40 : Hp), Sim id E (QM id E finV) h40 53 [(0, vr x0), (1, .int x1)] [] (g_Judged_findWay_j53 rec7 x0 x1 h40) := by
        intro x1 h40
        refine s_iinc (la' := [(1, .int (x1 + (1 : Int32))), (0, vr x0)]) C 1 dX4_findWay_53 rfl rfl (lt_nl e5 rfl) rfl ?_
        refine s_goto C 7 dX4_findWay_56 (by decide) ?_
        refine Sim.keep [1, 0] rfl ?_
        exact hr7 _ _
      refine s_if_eq C 53 dX4_findWay_23 (by decide) ?_ ?_
      · exact hj53 _ _
      · refine s_aload_n C dX4_findWay_26 0 rfl rfl ?_
        refine s_getR [4] C (fl1 ⟨fo_X4_24_4, rfl⟩) (pl_of e4 rfl) dX4_findWay_27 fun a41 => ?_
        refine s_iload_n C dX4_findWay_30 1 rfl rfl ?_
        refine s_dk 34 finI [] (fun r42 h43 => ?_) (fun hk => s_dsp 3 (fun ht => c_V C 1 [] 3 RX3 ro_3 (ct_g_Tree_level hL hJ a41 v7 h39) (lw_V q1356 q754 q755 q114 q756) nd_X3_level rfl (le_fr hf rfl) (le_fr hlo rfl) rfl (Nat.le_of_ble_eq_true rfl) dX4_findWay_31 hk ht) s_dsp0)
        refine s_aload_n C dX4_findWay_34 0 rfl rfl ?_
        refine s_getR [4] C (fl1 ⟨fo_X4_24_4, rfl⟩) (pl_of e4 rfl) dX4_findWay_35 fun a44 => ?_
        refine s_aload_n C dX4_findWay_38 0 rfl rfl ?_
        refine s_getI [4] C (fl1 ⟨fo_X4_38_4, rfl⟩) (pl_of e4 rfl) dX4_findWay_39 fun a45 => ?_
        refine s_dk 45 finI [.int r42] (fun r46 h47 => ?_) (fun hk => s_dsp 3 (fun ht => c_V C 1 [.int r42] 3 RX3 ro_3 (ct_g_Tree_level hL hJ a44 a45 h43) (lw_V q1356 q754 q755 q114 q756) nd_X3_level rfl (le_fr hf rfl) (le_fr hlo rfl) rfl (Nat.le_of_ble_eq_true rfl) dX4_findWay_42 hk ht) s_dsp0)
        refine s_icmp_le C 53 dX4_findWay_45 (by decide) ?_ ?_
        · exact hj53 _ _
        · refine s_aload_n C dX4_findWay_48 0 rfl rfl ?_
          refine s_iload_n C dX4_findWay_49 1 rfl rfl ?_
          refine s_putI [4] 0 C (by decide) (by decide) (fl1 ⟨⟨by decide, fo_X4_38_4, rfl⟩, rfl⟩) (pl_of e4 rfl) (fl1 (Or.inl rfl)) dX4_findWay_50 fun h48 => ?_
          exact hj53 _ _
  refine s_istore_n (la' := [(1, .int (1 : Int32)), (0, vr x0)]) C 1 dX4_findWay_6 rfl (lt_nl e5 rfl) rfl ?_
  refine Sim.keep [1, 0] rfl ?_
  exact hL7 _ _ _

def g_Judged_of (x0 : Nat) (x1 : Nat) (h : Hp) : Option (Nat × Hp) :=
  (putR [4] 0 x0 x1 h).bind fun h1 =>
  (putI [4] 0 1 x0 (0 : Int32) h1).bind fun h2 =>
  (putI [4] 0 2 x0 (0 : Int32) h2).bind fun h3 =>
  (putI [4] 0 4 x0 (0 : Int32) h3).bind fun h4 =>
  (putI [4] 0 6 x0 (-1 : Int32) h4).bind fun h5 =>
  (putI [4] 0 7 x0 (-1 : Int32) h5).bind fun h6 =>
  (putI [4] 0 12 x0 (0 : Int32) h6).bind fun h7 =>
  bn (dsp (tg h7 x0 % 500) none [(4, g_Judged_findOffenders x0 h7)]) fun _ h8 =>
  (getR [4] 0 x0 h8).bind fun a9 =>
  bn (dsp (tg h8 a9 % 500) none [(3, g_Tree_size a9 h8)]) fun r10 h11 =>
  if r10 = 0 then
    some (x0, h11)
  else
    bn (dsp (tg h11 x0 % 500) none [(4, g_Judged_findJust x0 h11)]) fun _ h12 =>
    bn (dsp (tg h12 x0 % 500) none [(4, g_Judged_findFinal x0 h12)]) fun _ h13 =>
    bn (dsp (tg h13 x0 % 500) none [(4, g_Judged_findWay x0 h13)]) fun _ h14 =>
    some (x0, h14)
theorem ct_g_Judged_of {G : Gx} {RL : Lv} {l : Launch} (hL : LvA G RL plA) (hJ : JK G RL l) (x0 : Nat) (x1 : Nat) (h : Hp) : Ct id G RL l yX4_of (ws_ yX4_of cX4_of 2 (some (.object "FinalLinks$Judged"))) 47 4157 finR [vr x0, vr x1] h (g_Judged_of x0 x1 h) := by
  refine Ct.of (Pl := plA) [(0, vr x0), (1, vr x1)] (by decide) hL rfl (Nat.le_of_ble_eq_true rfl) ?_
  intro E C e6 hf hlo e1 e2 e3 e4 e5
  subst e1; subst e2; subst e3
  replace C : Cx E cX4_of (some (.object "FinalLinks$Judged")) RX4 := C
  replace e6 : (eMe E).name = "of" := e6
  unfold g_Judged_of
  refine s_aload_n C dX4_of_0 0 rfl rfl ?_
  refine s_aload_n C dX4_of_1 1 rfl rfl ?_
  refine s_putR [4] C (fl1 ⟨by decide, fo_X4_24_4, rfl⟩) (pl_of e4 rfl) (fl1 (Or.inl rfl)) dX4_of_2 fun h1 => ?_
  refine s_aload_n C dX4_of_5 0 rfl rfl ?_
  refine s_iconst C (0 : Int32) dX4_of_6 (by decide) ?_
  refine s_putI [4] 0 C (by decide) (by decide) (fl1 ⟨⟨by decide, fo_X4_28_4, rfl⟩, rfl⟩) (pl_of e4 rfl) (fl1 (Or.inl rfl)) dX4_of_7 fun h2 => ?_
  refine s_aload_n C dX4_of_10 0 rfl rfl ?_
  refine s_iconst C (0 : Int32) dX4_of_11 (by decide) ?_
  refine s_putI [4] 0 C (by decide) (by decide) (fl1 ⟨⟨by decide, fo_X4_32_4, rfl⟩, rfl⟩) (pl_of e4 rfl) (fl1 (Or.inl rfl)) dX4_of_12 fun h3 => ?_
  refine s_aload_n C dX4_of_15 0 rfl rfl ?_
  refine s_iconst C (0 : Int32) dX4_of_16 (by decide) ?_
  refine s_putI [4] 0 C (by decide) (by decide) (fl1 ⟨⟨by decide, fo_X4_35_4, rfl⟩, rfl⟩) (pl_of e4 rfl) (fl1 (Or.inl rfl)) dX4_of_17 fun h4 => ?_
  refine s_aload_n C dX4_of_20 0 rfl rfl ?_
  refine s_iconst C (-1 : Int32) dX4_of_21 (by decide) ?_
  refine s_putI [4] 0 C (by decide) (by decide) (fl1 ⟨⟨by decide, fo_X4_38_4, rfl⟩, rfl⟩) (pl_of e4 rfl) (fl1 (Or.inl rfl)) dX4_of_22 fun h5 => ?_
  refine s_aload_n C dX4_of_25 0 rfl rfl ?_
  refine s_iconst C (-1 : Int32) dX4_of_26 (by decide) ?_
  refine s_putI [4] 0 C (by decide) (by decide) (fl1 ⟨⟨by decide, fo_X4_41_4, rfl⟩, rfl⟩) (pl_of e4 rfl) (fl1 (Or.inl rfl)) dX4_of_27 fun h6 => ?_
  refine s_aload_n C dX4_of_30 0 rfl rfl ?_
  refine s_iconst C (0 : Int32) dX4_of_31 (by decide) ?_
  refine s_putI [4] 0 C (by decide) (by decide) (fl1 ⟨⟨by decide, fo_X4_44_4, rfl⟩, rfl⟩) (pl_of e4 rfl) (fl1 (Or.inl rfl)) dX4_of_32 fun h7 => ?_
  refine s_aload_n C dX4_of_35 0 rfl rfl ?_
  refine s_dk 39 finV [] (fun _ h8 => ?_) (fun hk => s_dsp 4 (fun ht => c_V C 0 [] 4 RX4 ro_4 (ct_g_Judged_findOffenders hL hJ x0 h7) (lw_V q726 q728 qs5 q130 q729) nd_X4_findOffenders rfl (le_fr hf rfl) (le_fr hlo rfl) rfl (Nat.le_of_ble_eq_true rfl) dX4_of_36 hk ht) s_dsp0)
  refine s_aload_n C dX4_of_39 0 rfl rfl ?_
  refine s_getR [4] C (fl1 ⟨fo_X4_24_4, rfl⟩) (pl_of e4 rfl) dX4_of_40 fun a9 => ?_
  refine s_dk 46 finI [] (fun r10 h11 => ?_) (fun hk => s_dsp 3 (fun ht => c_V C 0 [] 3 RX3 ro_3 (ct_g_Tree_size hL hJ a9 h8) (lw_V q766 q767 q768 q114 q769) nd_X3_size rfl (le_fr hf rfl) (le_fr hlo rfl) rfl (Nat.le_of_ble_eq_true rfl) dX4_of_43 hk ht) s_dsp0)
  refine s_if_ne C 51 dX4_of_46 (by decide) ?_ ?_
  · refine s_aload_n C dX4_of_51 0 rfl rfl ?_
    refine s_dk 55 finV [] (fun _ h12 => ?_) (fun hk => s_dsp 4 (fun ht => c_V C 0 [] 4 RX4 ro_4 (ct_g_Judged_findJust hL hJ x0 h11) (lw_V q771 q773 qs7 q130 q774) nd_X4_findJust rfl (le_fr hf rfl) (le_fr hlo rfl) rfl (Nat.le_of_ble_eq_true rfl) dX4_of_52 hk ht) s_dsp0)
    refine s_aload_n C dX4_of_55 0 rfl rfl ?_
    refine s_dk 59 finV [] (fun _ h13 => ?_) (fun hk => s_dsp 4 (fun ht => c_V C 0 [] 4 RX4 ro_4 (ct_g_Judged_findFinal hL hJ x0 h12) (lw_V q1352 q1354 qs10 q130 q1355) nd_X4_findFinal rfl (le_fr hf rfl) (le_fr hlo rfl) rfl (Nat.le_of_ble_eq_true rfl) dX4_of_56 hk ht) s_dsp0)
    refine s_aload_n C dX4_of_59 0 rfl rfl ?_
    refine s_dk 63 finV [] (fun _ h14 => ?_) (fun hk => s_dsp 4 (fun ht => c_V C 0 [] 4 RX4 ro_4 (ct_g_Judged_findWay hL hJ x0 h13) (lw_V q1357 q1359 qs11 q130 q1360) nd_X4_findWay rfl (le_fr hf rfl) (le_fr hlo rfl) rfl (Nat.le_of_ble_eq_true rfl) dX4_of_60 hk ht) s_dsp0)
    refine s_aload_n C dX4_of_63 0 rfl rfl ?_
    exact s_aret C (Or.inl ⟨_, rfl⟩) rfl dX4_of_64
  · refine s_aload_n C dX4_of_49 0 rfl rfl ?_
    exact s_aret C (Or.inl ⟨_, rfl⟩) rfl dX4_of_50

def g_Kept_init (x0 : Nat) (h : Hp) : Option (Unit × Hp) :=
  if x0 = 0 then none else
  some ((), h)
theorem ct_g_Kept_init {G : Gx} {RL : Lv} {l : Launch} (hL : LvA G RL plA) (hJ : JK G RL l) (x0 : Nat) (h : Hp) : Ct id G RL l yX5_init (ws_ yX5_init cX5_init 1 none) 1 20 finV [vr x0] h (g_Kept_init x0 h) := by
  refine Ct.of (Pl := plA) [(0, vr x0)] (by decide) hL rfl (Nat.le_of_ble_eq_true rfl) ?_
  intro E C e6 hf hlo e1 e2 e3 e4 e5
  subst e1; subst e2; subst e3
  replace C : Cx E cX5_init none RX5 := C
  replace e6 : (eMe E).name = "<init>" := e6
  unfold g_Kept_init
  refine s_aload_n C dX5_init_0 0 rfl rfl ?_
  refine s_nz fun z1 => ?_
  refine s_objI C z1 q1416 q177 q178 (le_fr hf rfl) (le_fr hlo rfl) (Nat.le_of_ble_eq_true rfl) dX5_init_1 ?_
  exact s_vret C rfl dX5_init_4

def g_Tree_init (x0 : Nat) (h : Hp) : Option (Unit × Hp) :=
  if x0 = 0 then none else
  bn (newO 25 3 h) fun o2 h3 =>
  bn (oAlInit o2 h3) fun _ h4 =>
  (putR [3] 1 x0 o2 h4).bind fun h5 =>
  bn (newO 25 3 h5) fun o6 h7 =>
  bn (oAlInit o6 h7) fun _ h8 =>
  (putR [3] 2 x0 o6 h8).bind fun h9 =>
  bn (newO 34 1 h9) fun o10 h11 =>
  bn (oHsInit o10 (192 : Int32) h11) fun _ h12 =>
  (putR [3] 3 x0 o10 h12).bind fun h13 =>
  bn (newO 22 12 h13) fun o14 h15 =>
  bn (oMpInit 1022 115 o14 h15) fun _ h16 =>
  (putR [3] 4 x0 o14 h16).bind fun h17 =>
  bn (newO 33 8 h17) fun o18 h19 =>
  bn (oMpInit 1033 115 o18 h19) fun _ h20 =>
  (putR [3] 5 x0 o18 h20).bind fun h21 =>
  some ((), h21)
theorem ct_g_Tree_init {G : Gx} {RL : Lv} {l : Launch} (hL : LvA G RL plA) (hJ : JK G RL l) (x0 : Nat) (h : Hp) : Ct id G RL l yX3_init (ws_ yX3_init cX3_init 1 none) 41 4021 finV [vr x0] h (g_Tree_init x0 h) := by
  refine Ct.of (Pl := plA) [(0, vr x0)] (by decide) hL rfl (Nat.le_of_ble_eq_true rfl) ?_
  intro E C e6 hf hlo e1 e2 e3 e4 e5
  subst e1; subst e2; subst e3
  replace C : Cx E cX3_init none RX3 := C
  replace e6 : (eMe E).name = "<init>" := e6
  unfold g_Tree_init
  refine s_aload_n C dX3_init_0 0 rfl rfl ?_
  refine s_nz fun z1 => ?_
  refine s_objI C z1 q293 q177 q178 (le_fr hf rfl) (le_fr hlo rfl) (Nat.le_of_ble_eq_true rfl) dX3_init_1 ?_
  refine s_aload_n C dX3_init_4 0 rfl rfl ?_
  refine s_newO 25 3 C no_X3_9 (pl_of1 e4 rfl) dX3_init_5 fun o2 h3 zo2 => ?_
  refine s_dup C dX3_init_8 rfl ?_
  refine c_I C 0 [vr o2, vr x0] zo2 (jk_11 hJ o2 h3) (lw_meth q189) q111 q295 q188 rfl nd_J2_init.2 rfl (le_fr hf rfl) (le_fr hlo rfl) rfl (Nat.le_of_ble_eq_true rfl) dX3_init_9 fun _ h4 => ?_
  refine s_putR [3] C (fl1 ⟨by decide, fo_X3_12_3, rfl⟩) (pl_of e4 rfl) (fl1 (Or.inr ⟨e6, fx_X3_12_3⟩)) dX3_init_12 fun h5 => ?_
  refine s_aload_n C dX3_init_15 0 rfl rfl ?_
  refine s_newO 25 3 C no_X3_9 (pl_of1 e4 rfl) dX3_init_16 fun o6 h7 zo6 => ?_
  refine s_dup C dX3_init_19 rfl ?_
  refine c_I C 0 [vr o6, vr x0] zo6 (jk_11 hJ o6 h7) (lw_meth q189) q111 q295 q188 rfl nd_J2_init.2 rfl (le_fr hf rfl) (le_fr hlo rfl) rfl (Nat.le_of_ble_eq_true rfl) dX3_init_20 fun _ h8 => ?_
  refine s_putR [3] C (fl1 ⟨by decide, fo_X3_18_3, rfl⟩) (pl_of e4 rfl) (fl1 (Or.inr ⟨e6, fx_X3_18_3⟩)) dX3_init_23 fun h9 => ?_
  refine s_aload_n C dX3_init_26 0 rfl rfl ?_
  refine s_newO 34 1 C no_X3_21 (pl_of1 e4 rfl) dX3_init_27 fun o10 h11 zo10 => ?_
  refine s_dup C dX3_init_30 rfl ?_
  refine s_sipush C (192 : Int32) dX3_init_31 (by decide) ?_
  refine c_I C 1 [vr o10, vr x0] zo10 (jk_34 hJ o10 (192 : Int32) h11) (lw_meth q300) q116 q298 q299 rfl nd_J6_init.2 rfl (le_fr hf rfl) (le_fr hlo rfl) rfl (Nat.le_of_ble_eq_true rfl) dX3_init_34 fun _ h12 => ?_
  refine s_putR [3] C (fl1 ⟨by decide, fo_X3_26_3, rfl⟩) (pl_of e4 rfl) (fl1 (Or.inr ⟨e6, fx_X3_26_3⟩)) dX3_init_37 fun h13 => ?_
  refine s_aload_n C dX3_init_40 0 rfl rfl ?_
  refine s_newO 22 12 C no_X3_30 (pl_of1 e4 rfl) dX3_init_41 fun o14 h15 zo14 => ?_
  refine s_dup C dX3_init_44 rfl ?_
  refine c_I C 0 [vr o14, vr x0] zo14 (jk_27 hJ o14 h15) (lw_meth q331) q120 q329 q330 rfl nd_J10_init.2 rfl (le_fr hf rfl) (le_fr hlo rfl) rfl (Nat.le_of_ble_eq_true rfl) dX3_init_45 fun _ h16 => ?_
  refine s_putR [3] C (fl1 ⟨by decide, fo_X3_33_3, rfl⟩) (pl_of e4 rfl) (fl1 (Or.inr ⟨e6, fx_X3_33_3⟩)) dX3_init_48 fun h17 => ?_
  refine s_aload_n C dX3_init_51 0 rfl rfl ?_
  refine s_newO 33 8 C no_X3_37 (pl_of1 e4 rfl) dX3_init_52 fun o18 h19 zo18 => ?_
  refine s_dup C dX3_init_55 rfl ?_
  refine c_I C 0 [vr o18, vr x0] zo18 (jk_21 hJ o18 h19) (lw_meth q219) q113 q357 q218 rfl nd_J4_init.2 rfl (le_fr hf rfl) (le_fr hlo rfl) rfl (Nat.le_of_ble_eq_true rfl) dX3_init_56 fun _ h20 => ?_
  refine s_putR [3] C (fl1 ⟨by decide, fo_X3_40_3, rfl⟩) (pl_of e4 rfl) (fl1 (Or.inr ⟨e6, fx_X3_40_3⟩)) dX3_init_59 fun h21 => ?_
  exact s_vret C rfl dX3_init_62

def g_Tree_clear (x0 : Nat) (h : Hp) : Option (Unit × Hp) :=
  (getR [3] 1 x0 h).bind fun a1 =>
  bn (dsp (tg h a1 % 500) none [(25, oAlClear a1 h)]) fun _ h2 =>
  (getR [3] 2 x0 h2).bind fun a3 =>
  bn (dsp (tg h2 a3 % 500) none [(25, oAlClear a3 h2)]) fun _ h4 =>
  (getR [3] 3 x0 h4).bind fun a5 =>
  bn (dsp (tg h4 a5 % 500) none [(34, oMpClear 1034 a5 h4)]) fun _ h6 =>
  (getR [3] 4 x0 h6).bind fun a7 =>
  bn (dsp (tg h6 a7 % 500) none [(22, oMpClear 1022 a7 h6)]) fun _ h8 =>
  (getR [3] 5 x0 h8).bind fun a9 =>
  bn (dsp (tg h8 a9 % 500) none [(33, oMpClear 1033 a9 h8)]) fun _ h10 =>
  some ((), h10)
theorem ct_g_Tree_clear {G : Gx} {RL : Lv} {l : Launch} (hL : LvA G RL plA) (hJ : JK G RL l) (x0 : Nat) (h : Hp) : Ct id G RL l yX3_clear (ws_ yX3_clear cX3_clear 1 none) 41 4023 finV [vr x0] h (g_Tree_clear x0 h) := by
  refine Ct.of (Pl := plA) [(0, vr x0)] (by decide) hL rfl (Nat.le_of_ble_eq_true rfl) ?_
  intro E C e6 hf hlo e1 e2 e3 e4 e5
  subst e1; subst e2; subst e3
  replace C : Cx E cX3_clear none RX3 := C
  replace e6 : (eMe E).name = "clear" := e6
  unfold g_Tree_clear
  refine s_aload_n C dX3_clear_0 0 rfl rfl ?_
  refine s_getR [3] C (fl1 ⟨fo_X3_12_3, rfl⟩) (pl_of e4 rfl) dX3_clear_1 fun a1 => ?_
  refine s_dk 7 finV [] (fun _ h2 => ?_) (fun hk => s_dsp 25 (fun ht => c_V C 0 [] 25 RJ2 ro_25 (jk_13 hJ a1 h) (lw_V q395 q396 q397 q111 q398) nd_J2_clear rfl (le_fr hf rfl) (le_fr hlo rfl) rfl (Nat.le_of_ble_eq_true rfl) dX3_clear_4 hk ht) s_dsp0)
  refine s_aload_n C dX3_clear_7 0 rfl rfl ?_
  refine s_getR [3] C (fl1 ⟨fo_X3_18_3, rfl⟩) (pl_of e4 rfl) dX3_clear_8 fun a3 => ?_
  refine s_dk 14 finV [] (fun _ h4 => ?_) (fun hk => s_dsp 25 (fun ht => c_V C 0 [] 25 RJ2 ro_25 (jk_13 hJ a3 h2) (lw_V q395 q396 q397 q111 q398) nd_J2_clear rfl (le_fr hf rfl) (le_fr hlo rfl) rfl (Nat.le_of_ble_eq_true rfl) dX3_clear_11 hk ht) s_dsp0)
  refine s_aload_n C dX3_clear_14 0 rfl rfl ?_
  refine s_getR [3] C (fl1 ⟨fo_X3_26_3, rfl⟩) (pl_of e4 rfl) dX3_clear_15 fun a5 => ?_
  refine s_dk 21 finV [] (fun _ h6 => ?_) (fun hk => s_dsp 34 (fun ht => c_V C 0 [] 34 RJ6 ro_34 (jk_36 hJ a5 h4) (lw_V q399 q400 q401 q116 q402) nd_J6_clear rfl (le_fr hf rfl) (le_fr hlo rfl) rfl (Nat.le_of_ble_eq_true rfl) dX3_clear_18 hk ht) s_dsp0)
  refine s_aload_n C dX3_clear_21 0 rfl rfl ?_
  refine s_getR [3] C (fl1 ⟨fo_X3_33_3, rfl⟩) (pl_of e4 rfl) dX3_clear_22 fun a7 => ?_
  refine s_dk 28 finV [] (fun _ h8 => ?_) (fun hk => s_dsp 22 (fun ht => c_V C 0 [] 22 RJ10 ro_22 (jk_28 hJ a7 h6) (lw_V q412 q408 q3540 q120 q409) nd_J10_clear rfl (le_fr hf rfl) (le_fr hlo rfl) rfl (Nat.le_of_ble_eq_true rfl) dX3_clear_25 hk ht) s_dsp0)
  refine s_aload_n C dX3_clear_28 0 rfl rfl ?_
  refine s_getR [3] C (fl1 ⟨fo_X3_40_3, rfl⟩) (pl_of e4 rfl) dX3_clear_29 fun a9 => ?_
  refine s_dk 35 finV [] (fun _ h10 => ?_) (fun hk => s_dsp 33 (fun ht => c_V C 0 [] 33 RJ4 ro_33 (jk_22 hJ a9 h8) (lw_V q413 q404 q405 q113 q411) nd_J4_clear rfl (le_fr hf rfl) (le_fr hlo rfl) rfl (Nat.le_of_ble_eq_true rfl) dX3_clear_32 hk ht) s_dsp0)
  exact s_vret C rfl dX3_clear_35

def g_Tree_begin_L20 (x0 : Nat) (x2 : Nat) : Unit → Hp → Option (Nat × Hp) :=
  lp FU fun rec20 v20 h7 =>
    bn (dsp (tg h7 x2 % 500) none [(23, oItHas x2 h7), (27, oKiHas x2 h7)]) fun r8 h9 =>
    if r8 = 0 then
      some (x0, h9)
    else
      bn (dsp (tg h9 x2 % 500) none [(23, oItNext x2 h9), (27, oKiNext x2 h9)]) fun r10 h11 =>
      (cst [9] r10 h11).bind fun _ =>
      (getR [3] 1 x0 h11).bind fun a12 =>
      bn (dsp (tg h11 a12 % 500) none [(25, oAlAdd a12 r10 h11)]) fun r13 h14 =>
      rec20 () h14
def g_Tree_begin (x0 : Nat) (x1 : Nat) (h : Hp) : Option (Nat × Hp) :=
  (putR [3] 0 x0 x1 h).bind fun h1 =>
  bn (dsp (tg h1 x0 % 500) none [(3, g_Tree_clear x0 h1)]) fun _ h2 =>
  (getR [3] 0 x0 h2).bind fun a3 =>
  (getR [2] 4 a3 h2).bind fun a4 =>
  bn (dsp (tg h2 a4 % 500) none [(25, oAlIter a4 h2)]) fun r5 h6 =>
  g_Tree_begin_L20 x0 r5 () h6
theorem ct_g_Tree_begin {G : Gx} {RL : Lv} {l : Launch} (hL : LvA G RL plA) (hJ : JK G RL l) (x0 : Nat) (x1 : Nat) (h : Hp) : Ct id G RL l yX3_begin (ws_ yX3_begin cX3_begin 4 (some (.object "FinalLinks$Tree"))) 42 4043 finR [vr x0, vr x1] h (g_Tree_begin x0 x1 h) := by
  refine Ct.of (Pl := plA) [(0, vr x0), (1, vr x1)] (by decide) hL rfl (Nat.le_of_ble_eq_true rfl) ?_
  intro E C e6 hf hlo e1 e2 e3 e4 e5
  subst e1; subst e2; subst e3
  replace C : Cx E cX3_begin (some (.object "FinalLinks$Tree")) RX3 := C
  replace e6 : (eMe E).name = "begin" := e6
  unfold g_Tree_begin
  refine s_aload_n C dX3_begin_0 0 rfl rfl ?_
  refine s_aload_n C dX3_begin_1 1 rfl rfl ?_
  refine s_putR [3] C (fl1 ⟨by decide, fo_X3_44_3, rfl⟩) (pl_of e4 rfl) (fl1 (Or.inl rfl)) dX3_begin_2 fun h1 => ?_
  refine s_aload_n C dX3_begin_5 0 rfl rfl ?_
  refine s_dk 9 finV [] (fun _ h2 => ?_) (fun hk => s_dsp 3 (fun ht => c_V C 0 [] 3 RX3 ro_3 (ct_g_Tree_clear hL hJ x0 h1) (lw_V q391 q393 qs0 q114 q394) nd_X3_clear rfl (le_fr hf rfl) (le_fr hlo rfl) rfl (Nat.le_of_ble_eq_true rfl) dX3_begin_6 hk ht) s_dsp0)
  refine s_aload_n C dX3_begin_9 0 rfl rfl ?_
  refine s_getR [3] C (fl1 ⟨fo_X3_44_3, rfl⟩) (pl_of e4 rfl) dX3_begin_10 fun a3 => ?_
  refine s_getR [2] C (fl1 ⟨fo_X3_51_2, rfl⟩) (pl_of e4 rfl) dX3_begin_13 fun a4 => ?_
  refine s_dk 19 finR [] (fun r5 h6 => ?_) (fun hk => s_dsp 25 (fun ht => c_V C 0 [] 25 RJ2 ro_25 (jk_16 hJ a4 h2) (lw_V q414 q415 q416 q111 q417) nd_J2_iterator rfl (le_fr hf rfl) (le_fr hlo rfl) rfl (Nat.le_of_ble_eq_true rfl) dX3_begin_16 hk ht) s_dsp0)
  have hL20 : ∀ (x0 : Nat) (x2 : Nat) (v20 : Unit) (h7 : Hp), Sim id E (QM id E finR) h7 20 [(0, vr x0), (2, vr x2)] [] (g_Tree_begin_L20 x0 x2 v20 h7) := by
    intro x0 x2 v20 h7
    refine Sim.loop (fun v20 => [(0, vr x0), (2, vr x2)]) (fun _ => []) (fun rec20 hr20 v20 h7 => ?_) FU v20 h7
    refine s_aload_n C dX3_begin_20 1 rfl rfl ?_
    refine s_dk 26 finI [] (fun r8 h9 => ?_) (fun hk => s_dsp 23 (fun ht => c_F C 0 [] 23 RJ11 ro_23 (jk_17 hJ x2 h7) (lw_F q438 q442 q444 q121 q446) ⟨q440, q439, q445, q443, q441, by decide +kernel, by decide +kernel⟩ (by decide +kernel) rfl (le_fr hf rfl) (le_fr hlo rfl) rfl (Nat.le_of_ble_eq_true rfl) dX3_begin_21 hk ht) (s_dsp 27 (fun ht => c_F C 0 [] 27 RJ26 ro_27 (jk_32 hJ x2 h7) (lw_F q438 q454 q456 q137 q458) ⟨q440, q439, q457, q455, q453, by decide +kernel, by decide +kernel⟩ (by decide +kernel) rfl (le_fr hf rfl) (le_fr hlo rfl) rfl (Nat.le_of_ble_eq_true rfl) dX3_begin_21 hk ht) s_dsp0))
    refine s_if_eq C 51 dX3_begin_26 (by decide) ?_ ?_
    · refine s_aload_n C dX3_begin_51 0 rfl rfl ?_
      exact s_aret C (Or.inl ⟨_, rfl⟩) rfl dX3_begin_52
    · refine s_aload_n C dX3_begin_29 1 rfl rfl ?_
      refine s_dk 35 finR [] (fun r10 h11 => ?_) (fun hk => s_dsp 23 (fun ht => c_F C 0 [] 23 RJ11 ro_23 (jk_18 hJ x2 h9) (lw_F q460 q463 q465 q121 q467) ⟨q462, q461, q466, q464, q441, by decide +kernel, by decide +kernel⟩ (by decide +kernel) rfl (le_fr hf rfl) (le_fr hlo rfl) rfl (Nat.le_of_ble_eq_true rfl) dX3_begin_30 hk ht) (s_dsp 27 (fun ht => c_F C 0 [] 27 RJ26 ro_27 (jk_33 hJ x2 h9) (lw_F q460 q548 q550 q138 q552) ⟨q462, q461, q551, q549, q453, by decide +kernel, by decide +kernel⟩ (by decide +kernel) rfl (le_fr hf rfl) (le_fr hlo rfl) rfl (Nat.le_of_ble_eq_true rfl) dX3_begin_30 hk ht) s_dsp0))
      refine s_cast [9] "FinalLinks$Block" C q568 (fl1 ao_FinalLinks_Block_9) dX3_begin_35 ?_
      refine s_astore_n (la' := [(3, vr r10), (0, vr x0), (2, vr x2)]) C 3 dX3_begin_38 rfl (lt_nl e5 rfl) rfl ?_
      refine s_aload_n C dX3_begin_39 1 rfl rfl ?_
      refine s_getR [3] C (fl1 ⟨fo_X3_12_3, rfl⟩) (pl_of e4 rfl) dX3_begin_40 fun a12 => ?_
      refine s_aload_n C dX3_begin_43 0 rfl rfl ?_
      refine s_dk 47 finI [] (fun r13 h14 => ?_) (fun hk => s_dsp 25 (fun ht => c_V C 1 [] 25 RJ2 ro_25 (jk_12 hJ a12 r10 h11) (lw_V q569 q570 q571 q111 q572) nd_J2_add rfl (le_fr hf rfl) (le_fr hlo rfl) rfl (Nat.le_of_ble_eq_true rfl) dX3_begin_44 hk ht) s_dsp0)
      refine s_pop C dX3_begin_47 rfl ?_
      refine s_goto C 20 dX3_begin_48 (by decide) ?_
      refine Sim.keep [1, 2] rfl ?_
      exact hr20 _ _
  refine s_astore_n (la' := [(2, vr r5), (0, vr x0), (1, vr x1)]) C 2 dX3_begin_19 rfl (lt_nl e5 rfl) rfl ?_
  refine Sim.keep [1, 0] rfl ?_
  exact hL20 _ _ _ _

def g_FinalLinks_init_L167 (x0 : Nat) : Int32 → Hp → Option (Unit × Hp) :=
  lp FU fun rec167 v167 h58 =>
    if (8 : Int32) ≤ v167 then
      some ((), h58)
    else
      (getR [1] 9 x0 h58).bind fun a59 =>
      bn (newO 3 7 h58) fun o60 h61 =>
      bn (g_Tree_init o60 h61) fun _ h62 =>
      (getR [1] 3 x0 h62).bind fun a63 =>
      bn (dsp (tg h62 o60 % 500) none [(3, g_Tree_begin o60 a63 h62)]) fun r64 h65 =>
      (astR [207] [3] a59 v167 r64 h65).bind fun h66 =>
      rec167 (v167 + (1 : Int32)) h66
def g_FinalLinks_init (x0 : Nat) (h : Hp) : Option (Unit × Hp) :=
  if x0 = 0 then none else
  bn (newA 201 (940 : Int32) h) fun o2 h3 =>
  (putR [1] 0 x0 o2 h3).bind fun h4 =>
  bn (newO 2 6 h4) fun o5 h6 =>
  bn (g_Chain_init o5 h6) fun _ h7 =>
  (putR [1] 3 x0 o5 h7).bind fun h8 =>
  bn (newO 3 7 h8) fun o9 h10 =>
  bn (g_Tree_init o9 h10) fun _ h11 =>
  (getR [1] 3 x0 h11).bind fun a12 =>
  bn (dsp (tg h11 o9 % 500) none [(3, g_Tree_begin o9 a12 h11)]) fun r13 h14 =>
  (putR [1] 4 x0 r13 h14).bind fun h15 =>
  bn (newO 3 7 h15) fun o16 h17 =>
  bn (g_Tree_init o16 h17) fun _ h18 =>
  (getR [1] 3 x0 h18).bind fun a19 =>
  bn (dsp (tg h18 o16 % 500) none [(3, g_Tree_begin o16 a19 h18)]) fun r20 h21 =>
  (putR [1] 5 x0 r20 h21).bind fun h22 =>
  bn (newO 4 14 h22) fun o23 h24 =>
  bn (g_Judged_init o23 h24) fun _ h25 =>
  (getR [1] 4 x0 h25).bind fun a26 =>
  bn (dsp (tg h25 o23 % 500) none [(4, g_Judged_of o23 a26 h25)]) fun r27 h28 =>
  (putR [1] 6 x0 r27 h28).bind fun h29 =>
  bn (newO 4 14 h29) fun o30 h31 =>
  bn (g_Judged_init o30 h31) fun _ h32 =>
  (putR [1] 7 x0 o30 h32).bind fun h33 =>
  bn (newA 207 (8 : Int32) h33) fun o34 h35 =>
  (putR [1] 9 x0 o34 h35).bind fun h36 =>
  (putI [1] 0 11 x0 (-1 : Int32) h36).bind fun h37 =>
  (putI [1] 0 12 x0 (-1 : Int32) h37).bind fun h38 =>
  (putR [1] 13 x0 10 h38).bind fun h39 =>
  bn (newA 200 (4 : Int32) h39) fun o40 h41 =>
  (astI [200] 0 o40 (0 : Int32) (-1 : Int32) h41).bind fun h42 =>
  (astI [200] 0 o40 (1 : Int32) (-1 : Int32) h42).bind fun h43 =>
  (astI [200] 0 o40 (2 : Int32) (-1 : Int32) h43).bind fun h44 =>
  (astI [200] 0 o40 (3 : Int32) (-1 : Int32) h44).bind fun h45 =>
  (putR [1] 14 x0 o40 h45).bind fun h46 =>
  bn (newA 208 (2 : Int32) h46) fun o47 h48 =>
  bn (newO 5 3 h48) fun o49 h50 =>
  bn (g_Kept_init o49 h50) fun _ h51 =>
  (astR [208] [5] o47 (0 : Int32) o49 h51).bind fun h52 =>
  bn (newO 5 3 h52) fun o53 h54 =>
  bn (g_Kept_init o53 h54) fun _ h55 =>
  (astR [208] [5] o47 (1 : Int32) o53 h55).bind fun h56 =>
  (putR [1] 15 x0 o47 h56).bind fun h57 =>
  g_FinalLinks_init_L167 x0 (0 : Int32) h57
theorem ct_g_FinalLinks_init {G : Gx} {RL : Lv} {l : Launch} (hL : LvA G RL plA) (hJ : JK G RL l) (x0 : Nat) (h : Hp) : Ct id G RL l yX1_init (ws_ yX1_init cX1_init 2 none) 48 4178 finV [vr x0] h (g_FinalLinks_init x0 h) := by
  refine Ct.of (Pl := plA) [(0, vr x0)] (by decide) hL rfl (Nat.le_of_ble_eq_true rfl) ?_
  intro E C e6 hf hlo e1 e2 e3 e4 e5
  subst e1; subst e2; subst e3
  replace C : Cx E cX1_init none RX1 := C
  replace e6 : (eMe E).name = "<init>" := e6
  unfold g_FinalLinks_init
  refine s_aload_n C dX1_init_0 0 rfl rfl ?_
  refine s_nz fun z1 => ?_
  refine s_objI C z1 q176 q177 q178 (le_fr hf rfl) (le_fr hlo rfl) (Nat.le_of_ble_eq_true rfl) dX1_init_1 ?_
  refine s_aload_n C dX1_init_4 0 rfl rfl ?_
  refine s_sipush C (940 : Int32) dX1_init_5 (by decide) ?_
  refine s_newa 1 .byte C q214 rfl (by decide) (pl_of1 e4 rfl) dX1_init_8 fun o2 h3 zo2 => ?_
  refine s_putR [1] C (fl1 ⟨by decide, fo_X1_16_1, rfl⟩) (pl_of e4 rfl) (fl1 (Or.inr ⟨e6, fx_X1_16_1⟩)) dX1_init_10 fun h4 => ?_
  refine s_aload_n C dX1_init_13 0 rfl rfl ?_
  refine s_newO 2 6 C no_X1_20 (pl_of1 e4 rfl) dX1_init_14 fun o5 h6 zo5 => ?_
  refine s_dup C dX1_init_17 rfl ?_
  refine c_IN C 0 [vr o5, vr x0] _ zo5 (ct_g_Chain_init hL hJ o5 h6) (lw_meth q183) q108 q181 q182 rfl nd_X2_init.2 rfl (le_fr hf rfl) (le_fr hlo rfl) rfl (Nat.le_of_ble_eq_true rfl) dX1_init_18 fun _ h7 => ?_
  refine s_putR [1] C (fl1 ⟨by decide, fo_X1_23_1, rfl⟩) (pl_of e4 rfl) (fl1 (Or.inl rfl)) dX1_init_21 fun h8 => ?_
  refine s_aload_n C dX1_init_24 0 rfl rfl ?_
  refine s_newO 3 7 C no_X1_27 (pl_of1 e4 rfl) dX1_init_25 fun o9 h10 zo9 => ?_
  refine s_dup C dX1_init_28 rfl ?_
  refine c_IN C 0 [vr o9, vr x0] _ zo9 (ct_g_Tree_init hL hJ o9 h10) (lw_meth q292) q114 q290 q291 rfl nd_X3_init.2 rfl (le_fr hf rfl) (le_fr hlo rfl) rfl (Nat.le_of_ble_eq_true rfl) dX1_init_29 fun _ h11 => ?_
  refine s_aload_n C dX1_init_32 0 rfl rfl ?_
  refine s_getR [1] C (fl1 ⟨fo_X1_23_1, rfl⟩) (pl_of e4 rfl) dX1_init_33 fun a12 => ?_
  refine s_dk 39 finR [vr x0] (fun r13 h14 => ?_) (fun hk => s_dsp 3 (fun ht => c_V C 1 [vr x0] 3 RX3 ro_3 (ct_g_Tree_begin hL hJ o9 a12 h11) (lw_V q387 q388 q389 q114 q390) nd_X3_begin rfl (le_fr hf rfl) (le_fr hlo rfl) rfl (Nat.le_of_ble_eq_true rfl) dX1_init_36 hk ht) s_dsp0)
  refine s_putR [1] C (fl1 ⟨by decide, fo_X1_34_1, rfl⟩) (pl_of e4 rfl) (fl1 (Or.inr ⟨e6, fx_X1_34_1⟩)) dX1_init_39 fun h15 => ?_
  refine s_aload_n C dX1_init_42 0 rfl rfl ?_
  refine s_newO 3 7 C no_X1_27 (pl_of1 e4 rfl) dX1_init_43 fun o16 h17 zo16 => ?_
  refine s_dup C dX1_init_46 rfl ?_
  refine c_IN C 0 [vr o16, vr x0] _ zo16 (ct_g_Tree_init hL hJ o16 h17) (lw_meth q292) q114 q290 q291 rfl nd_X3_init.2 rfl (le_fr hf rfl) (le_fr hlo rfl) rfl (Nat.le_of_ble_eq_true rfl) dX1_init_47 fun _ h18 => ?_
  refine s_aload_n C dX1_init_50 0 rfl rfl ?_
  refine s_getR [1] C (fl1 ⟨fo_X1_23_1, rfl⟩) (pl_of e4 rfl) dX1_init_51 fun a19 => ?_
  refine s_dk 57 finR [vr x0] (fun r20 h21 => ?_) (fun hk => s_dsp 3 (fun ht => c_V C 1 [vr x0] 3 RX3 ro_3 (ct_g_Tree_begin hL hJ o16 a19 h18) (lw_V q387 q388 q389 q114 q390) nd_X3_begin rfl (le_fr hf rfl) (le_fr hlo rfl) rfl (Nat.le_of_ble_eq_true rfl) dX1_init_54 hk ht) s_dsp0)
  refine s_putR [1] C (fl1 ⟨by decide, fo_X1_38_1, rfl⟩) (pl_of e4 rfl) (fl1 (Or.inr ⟨e6, fx_X1_38_1⟩)) dX1_init_57 fun h22 => ?_
  refine s_aload_n C dX1_init_60 0 rfl rfl ?_
  refine s_newO 4 14 C no_X1_41 (pl_of1 e4 rfl) dX1_init_61 fun o23 h24 zo23 => ?_
  refine s_dup C dX1_init_64 rfl ?_
  refine c_IN C 0 [vr o23, vr x0] _ zo23 (ct_g_Judged_init hL hJ o23 h24) (lw_meth q659) q130 q657 q658 rfl nd_X4_init.2 rfl (le_fr hf rfl) (le_fr hlo rfl) rfl (Nat.le_of_ble_eq_true rfl) dX1_init_65 fun _ h25 => ?_
  refine s_aload_n C dX1_init_68 0 rfl rfl ?_
  refine s_getR [1] C (fl1 ⟨fo_X1_34_1, rfl⟩) (pl_of e4 rfl) dX1_init_69 fun a26 => ?_
  refine s_dk 75 finR [vr x0] (fun r27 h28 => ?_) (fun hk => s_dsp 4 (fun ht => c_V C 1 [vr x0] 4 RX4 ro_4 (ct_g_Judged_of hL hJ o23 a26 h25) (lw_V q722 q723 q724 q130 q725) nd_X4_of rfl (le_fr hf rfl) (le_fr hlo rfl) rfl (Nat.le_of_ble_eq_true rfl) dX1_init_72 hk ht) s_dsp0)
  refine s_putR [1] C (fl1 ⟨by decide, fo_X1_48_1, rfl⟩) (pl_of e4 rfl) (fl1 (Or.inr ⟨e6, fx_X1_48_1⟩)) dX1_init_75 fun h29 => ?_
  refine s_aload_n C dX1_init_78 0 rfl rfl ?_
  refine s_newO 4 14 C no_X1_41 (pl_of1 e4 rfl) dX1_init_79 fun o30 h31 zo30 => ?_
  refine s_dup C dX1_init_82 rfl ?_
  refine c_IN C 0 [vr o30, vr x0] _ zo30 (ct_g_Judged_init hL hJ o30 h31) (lw_meth q659) q130 q657 q658 rfl nd_X4_init.2 rfl (le_fr hf rfl) (le_fr hlo rfl) rfl (Nat.le_of_ble_eq_true rfl) dX1_init_83 fun _ h32 => ?_
  refine s_putR [1] C (fl1 ⟨by decide, fo_X1_52_1, rfl⟩) (pl_of e4 rfl) (fl1 (Or.inr ⟨e6, fx_X1_52_1⟩)) dX1_init_86 fun h33 => ?_
  refine s_aload_n C dX1_init_89 0 rfl rfl ?_
  refine s_bipush C (8 : Int32) dX1_init_90 (by decide) ?_
  refine s_anew 7 "FinalLinks$Tree" C q288 q1408 (by decide) rfl (pl_of1 e4 rfl) dX1_init_92 fun o34 h35 zo34 => ?_
  refine s_putR [1] C (fl1 ⟨by decide, fo_X1_55_1, rfl⟩) (pl_of e4 rfl) (fl1 (Or.inr ⟨e6, fx_X1_55_1⟩)) dX1_init_95 fun h36 => ?_
  refine s_aload_n C dX1_init_98 0 rfl rfl ?_
  refine s_iconst C (-1 : Int32) dX1_init_99 (by decide) ?_
  refine s_putI [1] 0 C (by decide) (by decide) (fl1 ⟨⟨by decide, fo_X1_59_1, rfl⟩, rfl⟩) (pl_of e4 rfl) (fl1 (Or.inl rfl)) dX1_init_100 fun h37 => ?_
  refine s_aload_n C dX1_init_103 0 rfl rfl ?_
  refine s_iconst C (-1 : Int32) dX1_init_104 (by decide) ?_
  refine s_putI [1] 0 C (by decide) (by decide) (fl1 ⟨⟨by decide, fo_X1_63_1, rfl⟩, rfl⟩) (pl_of e4 rfl) (fl1 (Or.inl rfl)) dX1_init_105 fun h38 => ?_
  refine s_aload_n C dX1_init_108 0 rfl rfl ?_
  refine s_ldcS C (List.mem_of_getElem? (i := 0) rfl) (by decide) (by decide) dX1_init_109 ?_
  refine s_putR [1] C (fl1 ⟨by decide, fo_X1_68_1, rfl⟩) (pl_of e4 rfl) (fl1 (Or.inl rfl)) dX1_init_111 fun h39 => ?_
  refine s_aload_n C dX1_init_114 0 rfl rfl ?_
  refine s_iconst C (4 : Int32) dX1_init_115 (by decide) ?_
  refine s_newa 0 .int C q721 rfl (by decide) (pl_of1 e4 rfl) dX1_init_116 fun o40 h41 zo40 => ?_
  refine s_dup C dX1_init_118 rfl ?_
  refine s_iconst C (0 : Int32) dX1_init_119 (by decide) ?_
  refine s_iconst C (-1 : Int32) dX1_init_120 (by decide) ?_
  refine s_iast [200] C (fl1 ⟨by decide, rfl⟩) (pl_of e4 rfl) dX1_init_121 fun h42 => ?_
  refine s_dup C dX1_init_122 rfl ?_
  refine s_iconst C (1 : Int32) dX1_init_123 (by decide) ?_
  refine s_iconst C (-1 : Int32) dX1_init_124 (by decide) ?_
  refine s_iast [200] C (fl1 ⟨by decide, rfl⟩) (pl_of e4 rfl) dX1_init_125 fun h43 => ?_
  refine s_dup C dX1_init_126 rfl ?_
  refine s_iconst C (2 : Int32) dX1_init_127 (by decide) ?_
  refine s_iconst C (-1 : Int32) dX1_init_128 (by decide) ?_
  refine s_iast [200] C (fl1 ⟨by decide, rfl⟩) (pl_of e4 rfl) dX1_init_129 fun h44 => ?_
  refine s_dup C dX1_init_130 rfl ?_
  refine s_iconst C (3 : Int32) dX1_init_131 (by decide) ?_
  refine s_iconst C (-1 : Int32) dX1_init_132 (by decide) ?_
  refine s_iast [200] C (fl1 ⟨by decide, rfl⟩) (pl_of e4 rfl) dX1_init_133 fun h45 => ?_
  refine s_putR [1] C (fl1 ⟨by decide, fo_X1_72_1, rfl⟩) (pl_of e4 rfl) (fl1 (Or.inr ⟨e6, fx_X1_72_1⟩)) dX1_init_134 fun h46 => ?_
  refine s_aload_n C dX1_init_137 0 rfl rfl ?_
  refine s_iconst C (2 : Int32) dX1_init_138 (by decide) ?_
  refine s_anew 8 "FinalLinks$Kept" C q1410 q1411 (by decide) rfl (pl_of1 e4 rfl) dX1_init_139 fun o47 h48 zo47 => ?_
  refine s_dup C dX1_init_142 rfl ?_
  refine s_iconst C (0 : Int32) dX1_init_143 (by decide) ?_
  refine s_newO 5 3 C no_X1_76 (pl_of1 e4 rfl) dX1_init_144 fun o49 h50 zo49 => ?_
  refine s_dup C dX1_init_147 rfl ?_
  refine c_IN C 0 [vr o49, .int (0 : Int32), vr o47, vr o47, vr x0] _ zo49 (ct_g_Kept_init hL hJ o49 h50) (lw_meth q1415) q146 q1413 q1414 rfl nd_X5_init.2 rfl (le_fr hf rfl) (le_fr hlo rfl) rfl (Nat.le_of_ble_eq_true rfl) dX1_init_148 fun _ h51 => ?_
  refine s_aast [208] [5] 8 "FinalLinks$Kept" C (by decide) rfl (fl1 ⟨by decide, rfl⟩) (pl_of e4 rfl) (fl1 ao_FinalLinks_Kept_5) dX1_init_151 fun h52 => ?_
  refine s_dup C dX1_init_152 rfl ?_
  refine s_iconst C (1 : Int32) dX1_init_153 (by decide) ?_
  refine s_newO 5 3 C no_X1_76 (pl_of1 e4 rfl) dX1_init_154 fun o53 h54 zo53 => ?_
  refine s_dup C dX1_init_157 rfl ?_
  refine c_IN C 0 [vr o53, .int (1 : Int32), vr o47, vr o47, vr x0] _ zo53 (ct_g_Kept_init hL hJ o53 h54) (lw_meth q1415) q146 q1413 q1414 rfl nd_X5_init.2 rfl (le_fr hf rfl) (le_fr hlo rfl) rfl (Nat.le_of_ble_eq_true rfl) dX1_init_158 fun _ h55 => ?_
  refine s_aast [208] [5] 8 "FinalLinks$Kept" C (by decide) rfl (fl1 ⟨by decide, rfl⟩) (pl_of e4 rfl) (fl1 ao_FinalLinks_Kept_5) dX1_init_161 fun h56 => ?_
  refine s_putR [1] C (fl1 ⟨by decide, fo_X1_79_1, rfl⟩) (pl_of e4 rfl) (fl1 (Or.inr ⟨e6, fx_X1_79_1⟩)) dX1_init_162 fun h57 => ?_
  refine s_iconst C (0 : Int32) dX1_init_165 (by decide) ?_
  have hL167 : ∀ (x0 : Nat) (v167 : Int32) (h58 : Hp), Sim id E (QM id E finV) h58 167 [(0, vr x0), (1, .int v167)] [] (g_FinalLinks_init_L167 x0 v167 h58) := by
    intro x0 v167 h58
    refine Sim.loop (fun v167 => [(0, vr x0), (1, .int v167)]) (fun _ => []) (fun rec167 hr167 v167 h58 => ?_) FU v167 h58
    refine s_iload_n C dX1_init_167 1 rfl rfl ?_
    refine s_bipush C (8 : Int32) dX1_init_168 (by decide) ?_
    refine s_icmp_ge C 199 dX1_init_170 (by decide) ?_ ?_
    · exact s_vret C rfl dX1_init_199
    · refine s_aload_n C dX1_init_173 0 rfl rfl ?_
      refine s_getR [1] C (fl1 ⟨fo_X1_55_1, rfl⟩) (pl_of e4 rfl) dX1_init_174 fun a59 => ?_
      refine s_iload_n C dX1_init_177 1 rfl rfl ?_
      refine s_newO 3 7 C no_X1_27 (pl_of1 e4 rfl) dX1_init_178 fun o60 h61 zo60 => ?_
      refine s_dup C dX1_init_181 rfl ?_
      refine c_IN C 0 [vr o60, .int v167, vr a59] _ zo60 (ct_g_Tree_init hL hJ o60 h61) (lw_meth q292) q114 q290 q291 rfl nd_X3_init.2 rfl (le_fr hf rfl) (le_fr hlo rfl) rfl (Nat.le_of_ble_eq_true rfl) dX1_init_182 fun _ h62 => ?_
      refine s_aload_n C dX1_init_185 0 rfl rfl ?_
      refine s_getR [1] C (fl1 ⟨fo_X1_23_1, rfl⟩) (pl_of e4 rfl) dX1_init_186 fun a63 => ?_
      refine s_dk 192 finR [.int v167, vr a59] (fun r64 h65 => ?_) (fun hk => s_dsp 3 (fun ht => c_V C 1 [.int v167, vr a59] 3 RX3 ro_3 (ct_g_Tree_begin hL hJ o60 a63 h62) (lw_V q387 q388 q389 q114 q390) nd_X3_begin rfl (le_fr hf rfl) (le_fr hlo rfl) rfl (Nat.le_of_ble_eq_true rfl) dX1_init_189 hk ht) s_dsp0)
      refine s_aast [207] [3] 7 "FinalLinks$Tree" C (by decide) rfl (fl1 ⟨by decide, rfl⟩) (pl_of e4 rfl) (fl1 ao_FinalLinks_Tree_3) dX1_init_192 fun h66 => ?_
      refine s_iinc (la' := [(1, .int (v167 + (1 : Int32))), (0, vr x0)]) C 1 dX1_init_193 rfl rfl (lt_nl e5 rfl) rfl ?_
      refine s_goto C 167 dX1_init_196 (by decide) ?_
      refine Sim.keep [1, 0] rfl ?_
      exact hr167 _ _
  refine s_istore_n (la' := [(1, .int (0 : Int32)), (0, vr x0)]) C 1 dX1_init_166 rfl (lt_nl e5 rfl) rfl ?_
  refine Sim.keep [1, 0] rfl ?_
  exact hL167 _ _ _

def g_FinalLinks_isIn_j15 (y0 : Int32) (h1 : Hp) : Option (Int32 × Hp) :=
  if nrw 2 y0 = y0 then some (y0, h1) else none
def g_FinalLinks_isIn_j14  (h2 : Hp) : Option (Int32 × Hp) :=
  g_FinalLinks_isIn_j15 (0 : Int32) h2
def g_FinalLinks_isIn (x0 : Int32) (x1 : Int32) (x2 : Int32) (h : Hp) : Option (Int32 × Hp) :=
  if x0 < x1 then
    g_FinalLinks_isIn_j14 h
  else
    if x2 < x0 then
      g_FinalLinks_isIn_j14 h
    else
      g_FinalLinks_isIn_j15 (1 : Int32) h
theorem ct_g_FinalLinks_isIn {G : Gx} {RL : Lv} {l : Launch} (hL : LvA G RL plA) (hJ : JK G RL l) (x0 : Int32) (x1 : Int32) (x2 : Int32) (h : Hp) : Ct id G RL l yX1_isIn (ws_ yX1_isIn cX1_isIn 3 (some .boolean)) 0 0 finI [.int x0, .int x1, .int x2] h (g_FinalLinks_isIn x0 x1 x2 h) := by
  refine Ct.of (Pl := plA) [(0, .int x0), (1, .int x1), (2, .int x2)] (by decide) hL rfl (Nat.le_of_ble_eq_true rfl) ?_
  intro E C e6 hf hlo e1 e2 e3 e4 e5
  subst e1; subst e2; subst e3
  replace C : Cx E cX1_isIn (some .boolean) RX1 := C
  replace e6 : (eMe E).name = "isIn" := e6
  unfold g_FinalLinks_isIn
  refine s_iload_n C dX1_isIn_0 0 rfl rfl ?_
  refine s_iload_n C dX1_isIn_1 1 rfl rfl ?_
  have hj15 : ∀ (y0 : Int32) (h1 : Hp), Sim id E (QM id E finI) h1 15 [] [.int y0] (g_FinalLinks_isIn_j15 y0 h1) := by
    intro y0 h1
    exact s_zret 2 C (by decide) (by decide) rfl dX1_isIn_15
  have hj14 : ∀  (h2 : Hp), Sim id E (QM id E finI) h2 14 [] [] (g_FinalLinks_isIn_j14 h2) := by
    intro h2
    refine s_iconst C (0 : Int32) dX1_isIn_14 (by decide) ?_
    exact hj15 _ _
  refine s_icmp_lt C 14 dX1_isIn_2 (by decide) ?_ ?_
  · refine Sim.keep [] rfl ?_
    exact hj14 _
  · refine s_iload_n C dX1_isIn_5 0 rfl rfl ?_
    refine s_iload_n C dX1_isIn_6 2 rfl rfl ?_
    refine s_icmp_gt C 14 dX1_isIn_7 (by decide) ?_ ?_
    · refine Sim.keep [] rfl ?_
      exact hj14 _
    · refine s_iconst C (1 : Int32) dX1_isIn_10 (by decide) ?_
      refine s_goto C 15 dX1_isIn_11 (by decide) ?_
      refine Sim.keep [] rfl ?_
      exact hj15 _ _

def g_Tree_isBlock (x0 : Nat) (x1 : Int32) (h : Hp) : Option (Int32 × Hp) :=
  bn (dsp (tg h x0 % 500) none [(3, g_Tree_size x0 h)]) fun r1 h2 =>
  bn (g_FinalLinks_isIn x1 (0 : Int32) (r1 - (1 : Int32)) h2) fun r3 h4 =>
  if nrw 2 r3 = r3 then some (r3, h4) else none
theorem ct_g_Tree_isBlock {G : Gx} {RL : Lv} {l : Launch} (hL : LvA G RL plA) (hJ : JK G RL l) (x0 : Nat) (x1 : Int32) (h : Hp) : Ct id G RL l yX3_isBlock (ws_ yX3_isBlock cX3_isBlock 2 (some .boolean)) 42 4040 finI [vr x0, .int x1] h (g_Tree_isBlock x0 x1 h) := by
  refine Ct.of (Pl := plA) [(0, vr x0), (1, .int x1)] (by decide) hL rfl (Nat.le_of_ble_eq_true rfl) ?_
  intro E C e6 hf hlo e1 e2 e3 e4 e5
  subst e1; subst e2; subst e3
  replace C : Cx E cX3_isBlock (some .boolean) RX3 := C
  replace e6 : (eMe E).name = "isBlock" := e6
  unfold g_Tree_isBlock
  refine s_iload_n C dX3_isBlock_0 1 rfl rfl ?_
  refine s_iconst C (0 : Int32) dX3_isBlock_1 (by decide) ?_
  refine s_aload_n C dX3_isBlock_2 0 rfl rfl ?_
  refine s_dk 6 finI [.int (0 : Int32), .int x1] (fun r1 h2 => ?_) (fun hk => s_dsp 3 (fun ht => c_V C 0 [.int (0 : Int32), .int x1] 3 RX3 ro_3 (ct_g_Tree_size hL hJ x0 h) (lw_V q2143 q767 q768 q114 q769) nd_X3_size rfl (le_fr hf rfl) (le_fr hlo rfl) rfl (Nat.le_of_ble_eq_true rfl) dX3_isBlock_3 hk ht) s_dsp0)
  refine s_iconst C (1 : Int32) dX3_isBlock_6 (by decide) ?_
  refine s_isub C dX3_isBlock_7 ?_
  refine c_SN C 3 [] _ (ct_g_FinalLinks_isIn hL hJ x1 (0 : Int32) (r1 - (1 : Int32)) h2) (lw_meth q1776) q107 q2144 q1775 nd_X1_isIn.2 rfl (le_fr hf rfl) (le_fr hlo rfl) rfl (Nat.le_of_ble_eq_true rfl) dX3_isBlock_8 fun r3 h4 => ?_
  exact s_zret 2 C (by decide) (by decide) rfl dX3_isBlock_11

def g_FinalLinks_isBlock (x0 : Nat) (x1 : Int32) (h : Hp) : Option (Int32 × Hp) :=
  (getR [1] 4 x0 h).bind fun a1 =>
  bn (dsp (tg h a1 % 500) none [(3, g_Tree_isBlock a1 x1 h)]) fun r2 h3 =>
  if nrw 2 r2 = r2 then some (r2, h3) else none
theorem ct_g_FinalLinks_isBlock {G : Gx} {RL : Lv} {l : Launch} (hL : LvA G RL plA) (hJ : JK G RL l) (x0 : Nat) (x1 : Int32) (h : Hp) : Ct id G RL l yX1_isBlock (ws_ yX1_isBlock cX1_isBlock 2 (some .boolean)) 43 4061 finI [vr x0, .int x1] h (g_FinalLinks_isBlock x0 x1 h) := by
  refine Ct.of (Pl := plA) [(0, vr x0), (1, .int x1)] (by decide) hL rfl (Nat.le_of_ble_eq_true rfl) ?_
  intro E C e6 hf hlo e1 e2 e3 e4 e5
  subst e1; subst e2; subst e3
  replace C : Cx E cX1_isBlock (some .boolean) RX1 := C
  replace e6 : (eMe E).name = "isBlock" := e6
  unfold g_FinalLinks_isBlock
  refine s_aload_n C dX1_isBlock_0 0 rfl rfl ?_
  refine s_getR [1] C (fl1 ⟨fo_X1_34_1, rfl⟩) (pl_of e4 rfl) dX1_isBlock_1 fun a1 => ?_
  refine s_iload_n C dX1_isBlock_4 1 rfl rfl ?_
  refine s_dk 8 finI [] (fun r2 h3 => ?_) (fun hk => s_dsp 3 (fun ht => c_V C 1 [] 3 RX3 ro_3 (ct_g_Tree_isBlock hL hJ a1 x1 h) (lw_V q2139 q2140 q2141 q114 q2142) nd_X3_isBlock rfl (le_fr hf rfl) (le_fr hlo rfl) rfl (Nat.le_of_ble_eq_true rfl) dX1_isBlock_5 hk ht) s_dsp0)
  exact s_zret 2 C (by decide) (by decide) rfl dX1_isBlock_8

def g_FinalLinks_ahead_j37 (y0 : Int32) (h3 : Hp) : Option (Int32 × Hp) :=
  some (y0, h3)
def g_FinalLinks_ahead_j16  (h4 : Hp) : Option (Int32 × Hp) :=
  g_FinalLinks_ahead_j37 (-1 : Int32) h4
def g_FinalLinks_ahead (x0 : Nat) (x1 : Int32) (x2 : Int32) (h : Hp) : Option (Int32 × Hp) :=
  bn (dsp (tg h x0 % 500) none [(1, g_FinalLinks_isBlock x0 x1 h)]) fun r1 h2 =>
  if r1 = 0 then
    g_FinalLinks_ahead_j16 h2
  else
    bn (dsp (tg h2 x0 % 500) none [(1, g_FinalLinks_isBlock x0 x2 h2)]) fun r5 h6 =>
    if r5 = 0 then
      g_FinalLinks_ahead_j16 h6
    else
      (getR [1] 4 x0 h6).bind fun a7 =>
      bn (dsp (tg h6 a7 % 500) none [(3, g_Tree_isAhead a7 x1 x2 h6)]) fun r8 h9 =>
      if r8 = 0 then
        g_FinalLinks_ahead_j37 (0 : Int32) h9
      else
        g_FinalLinks_ahead_j37 (1 : Int32) h9
theorem ct_g_FinalLinks_ahead {G : Gx} {RL : Lv} {l : Launch} (hL : LvA G RL plA) (hJ : JK G RL l) (x0 : Nat) (x1 : Int32) (x2 : Int32) (h : Hp) : Ct id G RL l yX1_ahead (ws_ yX1_ahead cX1_ahead 3 (some .int)) 44 4087 finI [vr x0, .int x1, .int x2] h (g_FinalLinks_ahead x0 x1 x2 h) := by
  refine Ct.of (Pl := plA) [(0, vr x0), (1, .int x1), (2, .int x2)] (by decide) hL rfl (Nat.le_of_ble_eq_true rfl) ?_
  intro E C e6 hf hlo e1 e2 e3 e4 e5
  subst e1; subst e2; subst e3
  replace C : Cx E cX1_ahead (some .int) RX1 := C
  replace e6 : (eMe E).name = "ahead" := e6
  unfold g_FinalLinks_ahead
  refine s_aload_n C dX1_ahead_0 0 rfl rfl ?_
  refine s_iload_n C dX1_ahead_1 1 rfl rfl ?_
  refine s_dk 5 finI [] (fun r1 h2 => ?_) (fun hk => s_dsp 1 (fun ht => c_V C 1 [] 1 RX1 ro_1 (ct_g_FinalLinks_isBlock hL hJ x0 x1 h) (lw_V q2135 q2137 qs20 q107 q2138) nd_X1_isBlock rfl (le_fr hf rfl) (le_fr hlo rfl) rfl (Nat.le_of_ble_eq_true rfl) dX1_ahead_2 hk ht) s_dsp0)
  have hj37 : ∀ (y0 : Int32) (h3 : Hp), Sim id E (QM id E finI) h3 37 [] [.int y0] (g_FinalLinks_ahead_j37 y0 h3) := by
    intro y0 h3
    exact s_iret C rfl dX1_ahead_37
  have hj16 : ∀  (h4 : Hp), Sim id E (QM id E finI) h4 16 [] [] (g_FinalLinks_ahead_j16 h4) := by
    intro h4
    refine s_iconst C (-1 : Int32) dX1_ahead_16 (by decide) ?_
    refine s_goto C 37 dX1_ahead_17 (by decide) ?_
    exact hj37 _ _
  refine s_if_eq C 16 dX1_ahead_5 (by decide) ?_ ?_
  · refine Sim.keep [] rfl ?_
    exact hj16 _
  · refine s_aload_n C dX1_ahead_8 0 rfl rfl ?_
    refine s_iload_n C dX1_ahead_9 2 rfl rfl ?_
    refine s_dk 13 finI [] (fun r5 h6 => ?_) (fun hk => s_dsp 1 (fun ht => c_V C 1 [] 1 RX1 ro_1 (ct_g_FinalLinks_isBlock hL hJ x0 x2 h2) (lw_V q2135 q2137 qs20 q107 q2138) nd_X1_isBlock rfl (le_fr hf rfl) (le_fr hlo rfl) rfl (Nat.le_of_ble_eq_true rfl) dX1_ahead_10 hk ht) s_dsp0)
    refine s_if_ne C 20 dX1_ahead_13 (by decide) ?_ ?_
    · refine s_aload_n C dX1_ahead_20 0 rfl rfl ?_
      refine s_getR [1] C (fl1 ⟨fo_X1_34_1, rfl⟩) (pl_of e4 rfl) dX1_ahead_21 fun a7 => ?_
      refine s_iload_n C dX1_ahead_24 1 rfl rfl ?_
      refine s_iload_n C dX1_ahead_25 2 rfl rfl ?_
      refine s_dk 29 finI [] (fun r8 h9 => ?_) (fun hk => s_dsp 3 (fun ht => c_V C 2 [] 3 RX3 ro_3 (ct_g_Tree_isAhead hL hJ a7 x1 x2 h6) (lw_V q2145 q1403 q1404 q114 q1405) nd_X3_isAhead rfl (le_fr hf rfl) (le_fr hlo rfl) rfl (Nat.le_of_ble_eq_true rfl) dX1_ahead_26 hk ht) s_dsp0)
      refine s_if_eq C 36 dX1_ahead_29 (by decide) ?_ ?_
      · refine s_iconst C (0 : Int32) dX1_ahead_36 (by decide) ?_
        refine Sim.keep [] rfl ?_
        exact hj37 _ _
      · refine s_iconst C (1 : Int32) dX1_ahead_32 (by decide) ?_
        refine s_goto C 37 dX1_ahead_33 (by decide) ?_
        refine Sim.keep [] rfl ?_
        exact hj37 _ _
    · refine Sim.keep [] rfl ?_
      exact hj16 _

def g_Judged_isFinal (x0 : Nat) (x1 : Int32) (h : Hp) : Option (Int32 × Hp) :=
  (getI [4] 2 x0 h).bind fun a1 =>
  bn (g_FinalLinks_isOf a1 x1 h) fun r2 h3 =>
  if nrw 2 r2 = r2 then some (r2, h3) else none
theorem ct_g_Judged_isFinal {G : Gx} {RL : Lv} {l : Launch} (hL : LvA G RL plA) (hJ : JK G RL l) (x0 : Nat) (x1 : Int32) (h : Hp) : Ct id G RL l yX4_isFinal (ws_ yX4_isFinal cX4_isFinal 2 (some .boolean)) 1 21 finI [vr x0, .int x1] h (g_Judged_isFinal x0 x1 h) := by
  refine Ct.of (Pl := plA) [(0, vr x0), (1, .int x1)] (by decide) hL rfl (Nat.le_of_ble_eq_true rfl) ?_
  intro E C e6 hf hlo e1 e2 e3 e4 e5
  subst e1; subst e2; subst e3
  replace C : Cx E cX4_isFinal (some .boolean) RX4 := C
  replace e6 : (eMe E).name = "isFinal" := e6
  unfold g_Judged_isFinal
  refine s_aload_n C dX4_isFinal_0 0 rfl rfl ?_
  refine s_getI [4] C (fl1 ⟨fo_X4_32_4, rfl⟩) (pl_of e4 rfl) dX4_isFinal_1 fun a1 => ?_
  refine s_iload_n C dX4_isFinal_4 1 rfl rfl ?_
  refine c_SN C 2 [] _ (ct_g_FinalLinks_isOf hL hJ a1 x1 h) (lw_meth q1340) q107 q1351 q1339 nd_X1_isOf.2 rfl (le_fr hf rfl) (le_fr hlo rfl) rfl (Nat.le_of_ble_eq_true rfl) dX4_isFinal_5 fun r2 h3 => ?_
  exact s_zret 2 C (by decide) (by decide) rfl dX4_isFinal_8

def g_Tree_isPoint_j21 (y0 : Int32) (h5 : Hp) : Option (Int32 × Hp) :=
  if nrw 2 y0 = y0 then some (y0, h5) else none
def g_Tree_isPoint (x0 : Nat) (x1 : Int32) (h : Hp) : Option (Int32 × Hp) :=
  bn (dsp (tg h x0 % 500) none [(3, g_Tree_height x0 x1 h)]) fun r1 h2 =>
  (getR [3] 0 x0 h2).bind fun a3 =>
  (getI [2] 1 a3 h2).bind fun a4 =>
  if a4 = 0 then none else
  if (r1 - r1 / a4 * a4) = 0 then
    g_Tree_isPoint_j21 (1 : Int32) h2
  else
    g_Tree_isPoint_j21 (0 : Int32) h2
theorem ct_g_Tree_isPoint {G : Gx} {RL : Lv} {l : Launch} (hL : LvA G RL plA) (hJ : JK G RL l) (x0 : Nat) (x1 : Int32) (h : Hp) : Ct id G RL l yX3_isPoint (ws_ yX3_isPoint cX3_isPoint 2 (some .boolean)) 42 4042 finI [vr x0, .int x1] h (g_Tree_isPoint x0 x1 h) := by
  refine Ct.of (Pl := plA) [(0, vr x0), (1, .int x1)] (by decide) hL rfl (Nat.le_of_ble_eq_true rfl) ?_
  intro E C e6 hf hlo e1 e2 e3 e4 e5
  subst e1; subst e2; subst e3
  replace C : Cx E cX3_isPoint (some .boolean) RX3 := C
  replace e6 : (eMe E).name = "isPoint" := e6
  unfold g_Tree_isPoint
  refine s_aload_n C dX3_isPoint_0 0 rfl rfl ?_
  refine s_iload_n C dX3_isPoint_1 1 rfl rfl ?_
  refine s_dk 5 finI [] (fun r1 h2 => ?_) (fun hk => s_dsp 3 (fun ht => c_V C 1 [] 3 RX3 ro_3 (ct_g_Tree_height hL hJ x0 x1 h) (lw_V q757 q758 q759 q114 q760) nd_X3_height rfl (le_fr hf rfl) (le_fr hlo rfl) rfl (Nat.le_of_ble_eq_true rfl) dX3_isPoint_2 hk ht) s_dsp0)
  refine s_aload_n C dX3_isPoint_5 0 rfl rfl ?_
  refine s_getR [3] C (fl1 ⟨fo_X3_44_3, rfl⟩) (pl_of e4 rfl) dX3_isPoint_6 fun a3 => ?_
  refine s_getI [2] C (fl1 ⟨fo_X3_126_2, rfl⟩) (pl_of e4 rfl) dX3_isPoint_9 fun a4 => ?_
  refine s_irem C dX3_isPoint_12 ?_
  have hj21 : ∀ (y0 : Int32) (h5 : Hp), Sim id E (QM id E finI) h5 21 [] [.int y0] (g_Tree_isPoint_j21 y0 h5) := by
    intro y0 h5
    exact s_zret 2 C (by decide) (by decide) rfl dX3_isPoint_21
  refine s_if_ne C 20 dX3_isPoint_13 (by decide) ?_ ?_
  · refine s_iconst C (0 : Int32) dX3_isPoint_20 (by decide) ?_
    refine Sim.keep [] rfl ?_
    exact hj21 _ _
  · refine s_iconst C (1 : Int32) dX3_isPoint_16 (by decide) ?_
    refine s_goto C 21 dX3_isPoint_17 (by decide) ?_
    refine Sim.keep [] rfl ?_
    exact hj21 _ _

def g_Tree_over_j27 (rec4 : (Int32 × Int32) → Hp → Option (Int32 × Hp)) (x0 : Nat) (x1 : Int32) (x2 : Int32) (x3 : Int32) (h6 : Hp) : Option (Int32 × Hp) :=
  rec4 (x2, (x3 + (1 : Int32))) h6
def g_Tree_over_L4 (x0 : Nat) (x1 : Int32) : (Int32 × Int32) → Hp → Option (Int32 × Hp) :=
  lp FU fun rec4 v4 h1 =>
    bn (dsp (tg h1 x0 % 500) none [(3, g_Tree_size x0 h1)]) fun r2 h3 =>
    if r2 ≤ v4.2 then
      some (v4.1, h3)
    else
      bn (dsp (tg h3 x0 % 500) none [(3, g_Tree_on x0 v4.2 h3)]) fun r4 h5 =>
      if r4 = x1 then
        bd ((v4.1 ||| ((1 : Int32) <<< (v4.2 &&& 31)))) fun a7 =>
        g_Tree_over_j27 rec4 x0 x1 a7 v4.2 h5
      else
        g_Tree_over_j27 rec4 x0 x1 v4.1 v4.2 h5
def g_Tree_over (x0 : Nat) (x1 : Int32) (h : Hp) : Option (Int32 × Hp) :=
  g_Tree_over_L4 x0 x1 ((0 : Int32), (0 : Int32)) h
theorem ct_g_Tree_over {G : Gx} {RL : Lv} {l : Launch} (hL : LvA G RL plA) (hJ : JK G RL l) (x0 : Nat) (x1 : Int32) (h : Hp) : Ct id G RL l yX3_over (ws_ yX3_over cX3_over 4 (some .int)) 42 4042 finI [vr x0, .int x1] h (g_Tree_over x0 x1 h) := by
  refine Ct.of (Pl := plA) [(0, vr x0), (1, .int x1)] (by decide) hL rfl (Nat.le_of_ble_eq_true rfl) ?_
  intro E C e6 hf hlo e1 e2 e3 e4 e5
  subst e1; subst e2; subst e3
  replace C : Cx E cX3_over (some .int) RX3 := C
  replace e6 : (eMe E).name = "over" := e6
  unfold g_Tree_over
  refine s_iconst C (0 : Int32) dX3_over_0 (by decide) ?_
  refine s_istore_n (la' := [(2, .int (0 : Int32)), (0, vr x0), (1, .int x1)]) C 2 dX3_over_1 rfl (lt_nl e5 rfl) rfl ?_
  refine s_iconst C (0 : Int32) dX3_over_2 (by decide) ?_
  have hL4 : ∀ (x0 : Nat) (x1 : Int32) (v4 : (Int32 × Int32)) (h1 : Hp), Sim id E (QM id E finI) h1 4 [(0, vr x0), (1, .int x1), (2, .int v4.1), (3, .int v4.2)] [] (g_Tree_over_L4 x0 x1 v4 h1) := by
    intro x0 x1 v4 h1
    refine Sim.loop (fun v4 => [(0, vr x0), (1, .int x1), (2, .int v4.1), (3, .int v4.2)]) (fun _ => []) (fun rec4 hr4 v4 h1 => ?_) FU v4 h1
    refine s_iload_n C dX3_over_4 3 rfl rfl ?_
    refine s_aload_n C dX3_over_5 0 rfl rfl ?_
    refine s_dk 9 finI [.int v4.2] (fun r2 h3 => ?_) (fun hk => s_dsp 3 (fun ht => c_V C 0 [.int v4.2] 3 RX3 ro_3 (ct_g_Tree_size hL hJ x0 h1) (lw_V q2143 q767 q768 q114 q769) nd_X3_size rfl (le_fr hf rfl) (le_fr hlo rfl) rfl (Nat.le_of_ble_eq_true rfl) dX3_over_6 hk ht) s_dsp0)
    refine s_icmp_ge C 33 dX3_over_9 (by decide) ?_ ?_
    · refine s_iload_n C dX3_over_33 2 rfl rfl ?_
      exact s_iret C rfl dX3_over_34
    · refine s_aload_n C dX3_over_12 0 rfl rfl ?_
      refine s_iload_n C dX3_over_13 3 rfl rfl ?_
      refine s_dk 17 finI [] (fun r4 h5 => ?_) (fun hk => s_dsp 3 (fun ht => c_V C 1 [] 3 RX3 ro_3 (ct_g_Tree_on hL hJ x0 v4.2 h3) (lw_V q1317 q1318 q1319 q114 q1320) nd_X3_on rfl (le_fr hf rfl) (le_fr hlo rfl) rfl (Nat.le_of_ble_eq_true rfl) dX3_over_14 hk ht) s_dsp0)
      refine s_iload_n C dX3_over_17 1 rfl rfl ?_
      have hj27 : ∀ (x2 : Int32) (x3 : Int32) (h6 : Hp), Sim id E (QM id E finI) h6 27 [(0, vr x0), (1, .int x1), (2, .int x2), (3, .int x3)] [] (g_Tree_over_j27 rec4 x0 x1 x2 x3 h6) := by
        intro x2 x3 h6
        refine s_iinc (la' := [(3, .int (x3 + (1 : Int32))), (0, vr x0), (1, .int x1), (2, .int x2)]) C 3 dX3_over_27 rfl rfl (lt_nl e5 rfl) rfl ?_
        refine s_goto C 4 dX3_over_30 (by decide) ?_
        refine Sim.keep [1, 2, 3, 0] rfl ?_
        exact hr4 _ _
      refine s_icmp_ne C 27 dX3_over_18 (by decide) ?_ ?_
      · exact hj27 _ _ _
      · refine s_iload_n C dX3_over_21 2 rfl rfl ?_
        refine s_iconst C (1 : Int32) dX3_over_22 (by decide) ?_
        refine s_iload_n C dX3_over_23 3 rfl rfl ?_
        refine s_ishl C (v4.2 &&& 31) dX3_over_24 rfl ?_
        refine s_ior C dX3_over_25 ?_
        refine s_bdi fun a7 => ?_
        refine s_istore_n (la' := [(2, .int a7), (0, vr x0), (1, .int x1), (3, .int v4.2)]) C 2 dX3_over_26 rfl (lt_nl e5 rfl) rfl ?_
        refine Sim.keep [1, 2, 0, 3] rfl ?_
        exact hj27 _ _ _
  refine s_istore_n (la' := [(3, .int (0 : Int32)), (2, .int (0 : Int32)), (0, vr x0), (1, .int x1)]) C 3 dX3_over_3 rfl (lt_nl e5 rfl) rfl ?_
  refine Sim.keep [2, 3, 1, 0] rfl ?_
  exact hL4 _ _ _ _

def g_Tree_votersOf_j29 (y0 : Int32) (h4 : Hp) : Option (Int32 × Hp) :=
  some (y0, h4)
def g_Tree_votersOf (x0 : Nat) (x1 : Nat) (h : Hp) : Option (Int32 × Hp) :=
  (getR [3] 4 x0 h).bind fun a1 =>
  bn (dsp (tg h a1 % 500) none [(22, oMpHas [1022, 1033] a1 x1 h)]) fun r2 h3 =>
  if r2 = 0 then
    g_Tree_votersOf_j29 (0 : Int32) h3
  else
    (getR [3] 4 x0 h3).bind fun a5 =>
    bn (dsp (tg h3 a5 % 500) none [(22, oMpGet 1022 a5 x1 h3)]) fun r6 h7 =>
    (cst [35] r6 h7).bind fun _ =>
    bn (dsp (tg h7 r6 % 500) none [(35, oIntValue r6 h7)]) fun r8 h9 =>
    g_Tree_votersOf_j29 r8 h9
theorem ct_g_Tree_votersOf {G : Gx} {RL : Lv} {l : Launch} (hL : LvA G RL plA) (hJ : JK G RL l) (x0 : Nat) (x1 : Nat) (h : Hp) : Ct id G RL l yX3_votersOf (ws_ yX3_votersOf cX3_votersOf 2 (some .int)) 41 4022 finI [vr x0, vr x1] h (g_Tree_votersOf x0 x1 h) := by
  refine Ct.of (Pl := plA) [(0, vr x0), (1, vr x1)] (by decide) hL rfl (Nat.le_of_ble_eq_true rfl) ?_
  intro E C e6 hf hlo e1 e2 e3 e4 e5
  subst e1; subst e2; subst e3
  replace C : Cx E cX3_votersOf (some .int) RX3 := C
  replace e6 : (eMe E).name = "votersOf" := e6
  unfold g_Tree_votersOf
  refine s_aload_n C dX3_votersOf_0 0 rfl rfl ?_
  refine s_getR [3] C (fl1 ⟨fo_X3_33_3, rfl⟩) (pl_of e4 rfl) dX3_votersOf_1 fun a1 => ?_
  refine s_aload_n C dX3_votersOf_4 1 rfl rfl ?_
  refine s_dk 8 finI [] (fun r2 h3 => ?_) (fun hk => s_dsp 22 (fun ht => c_U C 1 [] 22 RJ10 _ ro_22 (jk_23 hJ a1 x1 h) (lw_U q2244 q2245 q2247 q1390 q113 q1394) rfl nd_J4_containsKey.2 rfl (le_fr hf rfl) (le_fr hlo rfl) rfl (Nat.le_of_ble_eq_true rfl) dX3_votersOf_5 hk ht) s_dsp0)
  have hj29 : ∀ (y0 : Int32) (h4 : Hp), Sim id E (QM id E finI) h4 29 [] [.int y0] (g_Tree_votersOf_j29 y0 h4) := by
    intro y0 h4
    exact s_iret C rfl dX3_votersOf_29
  refine s_if_eq C 28 dX3_votersOf_8 (by decide) ?_ ?_
  · refine s_iconst C (0 : Int32) dX3_votersOf_28 (by decide) ?_
    refine Sim.keep [] rfl ?_
    exact hj29 _ _
  · refine s_aload_n C dX3_votersOf_11 0 rfl rfl ?_
    refine s_getR [3] C (fl1 ⟨fo_X3_33_3, rfl⟩) (pl_of e4 rfl) dX3_votersOf_12 fun a5 => ?_
    refine s_aload_n C dX3_votersOf_15 1 rfl rfl ?_
    refine s_dk 19 finR [] (fun r6 h7 => ?_) (fun hk => s_dsp 22 (fun ht => c_V C 1 [] 22 RJ10 ro_22 (jk_29 hJ a5 x1 h3) (lw_V q2248 q893 q894 q120 q895) nd_J10_get rfl (le_fr hf rfl) (le_fr hlo rfl) rfl (Nat.le_of_ble_eq_true rfl) dX3_votersOf_16 hk ht) s_dsp0)
    refine s_cast [35] "java/lang/Integer" C q1345 (fl1 ao_java_lang_Integer_35) dX3_votersOf_19 ?_
    refine s_dk 25 finI [] (fun r8 h9 => ?_) (fun hk => s_dsp 35 (fun ht => c_V C 0 [] 35 RJ9 ro_35 (jk_0 hJ r6 h7) (lw_V q1346 q1053 q1054 q119 q1055) nd_J9_intValue rfl (le_fr hf rfl) (le_fr hlo rfl) rfl (Nat.le_of_ble_eq_true rfl) dX3_votersOf_22 hk ht) s_dsp0)
    refine s_goto C 29 dX3_votersOf_25 (by decide) ?_
    refine Sim.keep [] rfl ?_
    exact hj29 _ _

def g_Tree_adds (x0 : Nat) (x1 : Nat) (h : Hp) : Option (Unit × Hp) :=
  (getR [3] 2 x0 h).bind fun a1 =>
  bn (dsp (tg h a1 % 500) none [(25, oAlAdd a1 x1 h)]) fun r2 h3 =>
  (getR [3] 3 x0 h3).bind fun a4 =>
  bn (dsp (tg h3 a4 % 500) none [(34, oHsAdd a4 x1 h3)]) fun r5 h6 =>
  (getR [3] 4 x0 h6).bind fun a7 =>
  (getR [512] 1 x1 h6).bind fun a8 =>
  (getR [512] 1 x1 h6).bind fun a9 =>
  bn (dsp (tg h6 x0 % 500) none [(3, g_Tree_votersOf x0 a9 h6)]) fun r10 h11 =>
  (getI [512] 0 x1 h11).bind fun a12 =>
  bn (oValueOf (r10 ||| ((1 : Int32) <<< (a12 &&& 31))) h11) fun r13 h14 =>
  bn (dsp (tg h14 a7 % 500) none [(22, oMpPut a7 a8 r13 h14)]) fun r15 h16 =>
  some ((), h16)
theorem ct_g_Tree_adds {G : Gx} {RL : Lv} {l : Launch} (hL : LvA G RL plA) (hJ : JK G RL l) (x0 : Nat) (x1 : Nat) (h : Hp) : Ct id G RL l yX3_adds (ws_ yX3_adds cX3_adds 2 none) 42 4043 finV [vr x0, vr x1] h (g_Tree_adds x0 x1 h) := by
  refine Ct.of (Pl := plA) [(0, vr x0), (1, vr x1)] (by decide) hL rfl (Nat.le_of_ble_eq_true rfl) ?_
  intro E C e6 hf hlo e1 e2 e3 e4 e5
  subst e1; subst e2; subst e3
  replace C : Cx E cX3_adds none RX3 := C
  replace e6 : (eMe E).name = "adds" := e6
  unfold g_Tree_adds
  refine s_aload_n C dX3_adds_0 0 rfl rfl ?_
  refine s_getR [3] C (fl1 ⟨fo_X3_18_3, rfl⟩) (pl_of e4 rfl) dX3_adds_1 fun a1 => ?_
  refine s_aload_n C dX3_adds_4 1 rfl rfl ?_
  refine s_dk 8 finI [] (fun r2 h3 => ?_) (fun hk => s_dsp 25 (fun ht => c_V C 1 [] 25 RJ2 ro_25 (jk_12 hJ a1 x1 h) (lw_V q569 q570 q571 q111 q572) nd_J2_add rfl (le_fr hf rfl) (le_fr hlo rfl) rfl (Nat.le_of_ble_eq_true rfl) dX3_adds_5 hk ht) s_dsp0)
  refine s_pop C dX3_adds_8 rfl ?_
  refine s_aload_n C dX3_adds_9 0 rfl rfl ?_
  refine s_getR [3] C (fl1 ⟨fo_X3_26_3, rfl⟩) (pl_of e4 rfl) dX3_adds_10 fun a4 => ?_
  refine s_aload_n C dX3_adds_13 1 rfl rfl ?_
  refine s_dk 17 finI [] (fun r5 h6 => ?_) (fun hk => s_dsp 34 (fun ht => c_V C 1 [] 34 RJ6 ro_34 (jk_35 hJ a4 x1 h3) (lw_V q2233 q2234 q2235 q116 q2236) nd_J6_add rfl (le_fr hf rfl) (le_fr hlo rfl) rfl (Nat.le_of_ble_eq_true rfl) dX3_adds_14 hk ht) s_dsp0)
  refine s_pop C dX3_adds_17 rfl ?_
  refine s_aload_n C dX3_adds_18 0 rfl rfl ?_
  refine s_getR [3] C (fl1 ⟨fo_X3_33_3, rfl⟩) (pl_of e4 rfl) dX3_adds_19 fun a7 => ?_
  refine s_aload_n C dX3_adds_22 1 rfl rfl ?_
  refine s_getR [512] C (fl1 ⟨fo_X3_184_12, rfl⟩) (pl_of e4 rfl) dX3_adds_23 fun a8 => ?_
  refine s_aload_n C dX3_adds_26 0 rfl rfl ?_
  refine s_aload_n C dX3_adds_27 1 rfl rfl ?_
  refine s_getR [512] C (fl1 ⟨fo_X3_184_12, rfl⟩) (pl_of e4 rfl) dX3_adds_28 fun a9 => ?_
  refine s_dk 34 finI [vr a8, vr a7] (fun r10 h11 => ?_) (fun hk => s_dsp 3 (fun ht => c_V C 1 [vr a8, vr a7] 3 RX3 ro_3 (ct_g_Tree_votersOf hL hJ x0 a9 h6) (lw_V q2240 q2241 q2242 q114 q2243) nd_X3_votersOf rfl (le_fr hf rfl) (le_fr hlo rfl) rfl (Nat.le_of_ble_eq_true rfl) dX3_adds_31 hk ht) s_dsp0)
  refine s_iconst C (1 : Int32) dX3_adds_34 (by decide) ?_
  refine s_aload_n C dX3_adds_35 1 rfl rfl ?_
  refine s_getI [512] C (fl1 ⟨fo_X3_181_12, rfl⟩) (pl_of e4 rfl) dX3_adds_36 fun a12 => ?_
  refine s_ishl C (a12 &&& 31) dX3_adds_39 rfl ?_
  refine s_ior C dX3_adds_40 ?_
  refine c_S C 1 [vr a8, vr a7] (jk_1 hJ (r10 ||| ((1 : Int32) <<< (a12 &&& 31))) h11) (lw_S q1370 q1371 q119 q1372) nd_J9_valueOf.2 rfl (le_fr hf rfl) (le_fr hlo rfl) rfl (Nat.le_of_ble_eq_true rfl) dX3_adds_41 fun r13 h14 => ?_
  refine s_dk 47 finR [] (fun r15 h16 => ?_) (fun hk => s_dsp 22 (fun ht => c_U C 2 [] 22 RJ10 _ ro_22 (jk_25 hJ a7 a8 r13 h14) (lw_U q2249 q2250 q2252 q1856 q113 q1860) rfl nd_J4_put.2 rfl (le_fr hf rfl) (le_fr hlo rfl) rfl (Nat.le_of_ble_eq_true rfl) dX3_adds_44 hk ht) s_dsp0)
  refine s_pop C dX3_adds_47 rfl ?_
  exact s_vret C rfl dX3_adds_48

def g_Tree_as_j139 (rec88 : Int32 → Hp → Option (Nat × Hp)) (x0 : Nat) (x1 : Nat) (x2 : Int32) (h25 : Hp) : Option (Nat × Hp) :=
  rec88 (x2 + (1 : Int32)) h25
def g_Tree_as_L88 (x0 : Nat) (x1 : Nat) : Int32 → Hp → Option (Nat × Hp) :=
  lp FU fun rec88 v88 h16 =>
    (getR [3] 0 x0 h16).bind fun a17 =>
    bn (dsp (tg h16 a17 % 500) none [(2, g_Chain_voters a17 h16)]) fun r18 h19 =>
    if r18 ≤ v88 then
      some (x0, h19)
    else
      (getR [3] 5 x1 h19).bind fun a20 =>
      bn (oValueOf v88 h19) fun r21 h22 =>
      bn (dsp (tg h22 a20 % 500) none [(33, oMpHas [1022, 1033] a20 r21 h22)]) fun r23 h24 =>
      if r23 = 0 then
        g_Tree_as_j139 rec88 x0 x1 v88 h24
      else
        (getR [3] 5 x0 h24).bind fun a26 =>
        bn (oValueOf v88 h24) fun r27 h28 =>
        (getR [3] 5 x1 h28).bind fun a29 =>
        bn (oValueOf v88 h28) fun r30 h31 =>
        bn (dsp (tg h31 a29 % 500) none [(33, oMpGet 1033 a29 r30 h31)]) fun r32 h33 =>
        (cst [35] r32 h33).bind fun _ =>
        bn (dsp (tg h33 a26 % 500) none [(33, oMpPut a26 r27 r32 h33)]) fun r34 h35 =>
        g_Tree_as_j139 rec88 x0 x1 v88 h35
def g_Tree_as_L59 (x0 : Nat) (x1 : Nat) (x2 : Nat) : Unit → Hp → Option (Nat × Hp) :=
  lp FU fun rec59 v59 h13 =>
    bn (dsp (tg h13 x2 % 500) none [(23, oItHas x2 h13), (27, oKiHas x2 h13)]) fun r14 h15 =>
    if r14 = 0 then
      g_Tree_as_L88 x0 x1 (0 : Int32) h15
    else
      bn (dsp (tg h15 x2 % 500) none [(23, oItNext x2 h15), (27, oKiNext x2 h15)]) fun r36 h37 =>
      (cst [12] r36 h37).bind fun _ =>
      bn (dsp (tg h37 x0 % 500) none [(3, g_Tree_adds x0 r36 h37)]) fun _ h38 =>
      rec59 () h38
def g_Tree_as_L20 (x0 : Nat) (x1 : Nat) (x2 : Nat) : Unit → Hp → Option (Nat × Hp) :=
  lp FU fun rec20 v20 h7 =>
    bn (dsp (tg h7 x2 % 500) none [(23, oItHas x2 h7), (27, oKiHas x2 h7)]) fun r8 h9 =>
    if r8 = 0 then
      (getR [3] 2 x1 h9).bind fun a10 =>
      bn (dsp (tg h9 a10 % 500) none [(25, oAlIter a10 h9)]) fun r11 h12 =>
      g_Tree_as_L59 x0 x1 r11 () h12
    else
      bn (dsp (tg h9 x2 % 500) none [(23, oItNext x2 h9), (27, oKiNext x2 h9)]) fun r39 h40 =>
      (cst [9] r39 h40).bind fun _ =>
      (getR [3] 1 x0 h40).bind fun a41 =>
      bn (dsp (tg h40 a41 % 500) none [(25, oAlAdd a41 r39 h40)]) fun r42 h43 =>
      rec20 () h43
def g_Tree_as (x0 : Nat) (x1 : Nat) (h : Hp) : Option (Nat × Hp) :=
  (getR [3] 0 x1 h).bind fun a1 =>
  (putR [3] 0 x0 a1 h).bind fun h2 =>
  bn (dsp (tg h2 x0 % 500) none [(3, g_Tree_clear x0 h2)]) fun _ h3 =>
  (getR [3] 1 x1 h3).bind fun a4 =>
  bn (dsp (tg h3 a4 % 500) none [(25, oAlIter a4 h3)]) fun r5 h6 =>
  g_Tree_as_L20 x0 x1 r5 () h6
theorem ct_g_Tree_as {G : Gx} {RL : Lv} {l : Launch} (hL : LvA G RL plA) (hJ : JK G RL l) (x0 : Nat) (x1 : Nat) (h : Hp) : Ct id G RL l yX3_as (ws_ yX3_as cX3_as 4 (some (.object "FinalLinks$Tree"))) 43 4064 finR [vr x0, vr x1] h (g_Tree_as x0 x1 h) := by
  refine Ct.of (Pl := plA) [(0, vr x0), (1, vr x1)] (by decide) hL rfl (Nat.le_of_ble_eq_true rfl) ?_
  intro E C e6 hf hlo e1 e2 e3 e4 e5
  subst e1; subst e2; subst e3
  replace C : Cx E cX3_as (some (.object "FinalLinks$Tree")) RX3 := C
  replace e6 : (eMe E).name = "as" := e6
  unfold g_Tree_as
  refine s_aload_n C dX3_as_0 0 rfl rfl ?_
  refine s_aload_n C dX3_as_1 1 rfl rfl ?_
  refine s_getR [3] C (fl1 ⟨fo_X3_44_3, rfl⟩) (pl_of e4 rfl) dX3_as_2 fun a1 => ?_
  refine s_putR [3] C (fl1 ⟨by decide, fo_X3_44_3, rfl⟩) (pl_of e4 rfl) (fl1 (Or.inl rfl)) dX3_as_5 fun h2 => ?_
  refine s_aload_n C dX3_as_8 0 rfl rfl ?_
  refine s_dk 12 finV [] (fun _ h3 => ?_) (fun hk => s_dsp 3 (fun ht => c_V C 0 [] 3 RX3 ro_3 (ct_g_Tree_clear hL hJ x0 h2) (lw_V q391 q393 qs0 q114 q394) nd_X3_clear rfl (le_fr hf rfl) (le_fr hlo rfl) rfl (Nat.le_of_ble_eq_true rfl) dX3_as_9 hk ht) s_dsp0)
  refine s_aload_n C dX3_as_12 1 rfl rfl ?_
  refine s_getR [3] C (fl1 ⟨fo_X3_12_3, rfl⟩) (pl_of e4 rfl) dX3_as_13 fun a4 => ?_
  refine s_dk 19 finR [] (fun r5 h6 => ?_) (fun hk => s_dsp 25 (fun ht => c_V C 0 [] 25 RJ2 ro_25 (jk_16 hJ a4 h3) (lw_V q414 q415 q416 q111 q417) nd_J2_iterator rfl (le_fr hf rfl) (le_fr hlo rfl) rfl (Nat.le_of_ble_eq_true rfl) dX3_as_16 hk ht) s_dsp0)
  have hL20 : ∀ (x0 : Nat) (x1 : Nat) (x2 : Nat) (v20 : Unit) (h7 : Hp), Sim id E (QM id E finR) h7 20 [(0, vr x0), (1, vr x1), (2, vr x2)] [] (g_Tree_as_L20 x0 x1 x2 v20 h7) := by
    intro x0 x1 x2 v20 h7
    refine Sim.loop (fun v20 => [(0, vr x0), (1, vr x1), (2, vr x2)]) (fun _ => []) (fun rec20 hr20 v20 h7 => ?_) FU v20 h7
    refine s_aload_n C dX3_as_20 2 rfl rfl ?_
    refine s_dk 26 finI [] (fun r8 h9 => ?_) (fun hk => s_dsp 23 (fun ht => c_F C 0 [] 23 RJ11 ro_23 (jk_17 hJ x2 h7) (lw_F q438 q442 q444 q121 q446) ⟨q440, q439, q445, q443, q441, by decide +kernel, by decide +kernel⟩ (by decide +kernel) rfl (le_fr hf rfl) (le_fr hlo rfl) rfl (Nat.le_of_ble_eq_true rfl) dX3_as_21 hk ht) (s_dsp 27 (fun ht => c_F C 0 [] 27 RJ26 ro_27 (jk_32 hJ x2 h7) (lw_F q438 q454 q456 q137 q458) ⟨q440, q439, q457, q455, q453, by decide +kernel, by decide +kernel⟩ (by decide +kernel) rfl (le_fr hf rfl) (le_fr hlo rfl) rfl (Nat.le_of_ble_eq_true rfl) dX3_as_21 hk ht) s_dsp0))
    refine s_if_eq C 51 dX3_as_26 (by decide) ?_ ?_
    · refine s_aload_n C dX3_as_51 1 rfl rfl ?_
      refine s_getR [3] C (fl1 ⟨fo_X3_18_3, rfl⟩) (pl_of e4 rfl) dX3_as_52 fun a10 => ?_
      refine s_dk 58 finR [] (fun r11 h12 => ?_) (fun hk => s_dsp 25 (fun ht => c_V C 0 [] 25 RJ2 ro_25 (jk_16 hJ a10 h9) (lw_V q414 q415 q416 q111 q417) nd_J2_iterator rfl (le_fr hf rfl) (le_fr hlo rfl) rfl (Nat.le_of_ble_eq_true rfl) dX3_as_55 hk ht) s_dsp0)
      have hL59 : ∀ (x0 : Nat) (x1 : Nat) (x2 : Nat) (v59 : Unit) (h13 : Hp), Sim id E (QM id E finR) h13 59 [(0, vr x0), (1, vr x1), (2, vr x2)] [] (g_Tree_as_L59 x0 x1 x2 v59 h13) := by
        intro x0 x1 x2 v59 h13
        refine Sim.loop (fun v59 => [(0, vr x0), (1, vr x1), (2, vr x2)]) (fun _ => []) (fun rec59 hr59 v59 h13 => ?_) FU v59 h13
        refine s_aload_n C dX3_as_59 2 rfl rfl ?_
        refine s_dk 65 finI [] (fun r14 h15 => ?_) (fun hk => s_dsp 23 (fun ht => c_F C 0 [] 23 RJ11 ro_23 (jk_17 hJ x2 h13) (lw_F q438 q442 q444 q121 q446) ⟨q440, q439, q445, q443, q441, by decide +kernel, by decide +kernel⟩ (by decide +kernel) rfl (le_fr hf rfl) (le_fr hlo rfl) rfl (Nat.le_of_ble_eq_true rfl) dX3_as_60 hk ht) (s_dsp 27 (fun ht => c_F C 0 [] 27 RJ26 ro_27 (jk_32 hJ x2 h13) (lw_F q438 q454 q456 q137 q458) ⟨q440, q439, q457, q455, q453, by decide +kernel, by decide +kernel⟩ (by decide +kernel) rfl (le_fr hf rfl) (le_fr hlo rfl) rfl (Nat.le_of_ble_eq_true rfl) dX3_as_60 hk ht) s_dsp0))
        refine s_if_eq C 86 dX3_as_65 (by decide) ?_ ?_
        · refine s_iconst C (0 : Int32) dX3_as_86 (by decide) ?_
          have hL88 : ∀ (x0 : Nat) (x1 : Nat) (v88 : Int32) (h16 : Hp), Sim id E (QM id E finR) h16 88 [(0, vr x0), (1, vr x1), (2, .int v88)] [] (g_Tree_as_L88 x0 x1 v88 h16) := by
            intro x0 x1 v88 h16
            refine Sim.loop (fun v88 => [(0, vr x0), (1, vr x1), (2, .int v88)]) (fun _ => []) (fun rec88 hr88 v88 h16 => ?_) FU v88 h16
            refine s_iload_n C dX3_as_88 2 rfl rfl ?_
            refine s_aload_n C dX3_as_89 0 rfl rfl ?_
            refine s_getR [3] C (fl1 ⟨fo_X3_44_3, rfl⟩) (pl_of e4 rfl) dX3_as_90 fun a17 => ?_
            refine s_dk 96 finI [.int v88] (fun r18 h19 => ?_) (fun hk => s_dsp 2 (fun ht => c_V C 0 [.int v88] 2 RX2 ro_2 (ct_g_Chain_voters hL hJ a17 h16) (lw_V q1329 q1330 q1331 q108 q1332) nd_X2_voters rfl (le_fr hf rfl) (le_fr hlo rfl) rfl (Nat.le_of_ble_eq_true rfl) dX3_as_93 hk ht) s_dsp0)
            refine s_icmp_ge C 145 dX3_as_96 (by decide) ?_ ?_
            · refine s_aload_n C dX3_as_145 0 rfl rfl ?_
              exact s_aret C (Or.inl ⟨_, rfl⟩) rfl dX3_as_146
            · refine s_aload_n C dX3_as_99 1 rfl rfl ?_
              refine s_getR [3] C (fl1 ⟨fo_X3_40_3, rfl⟩) (pl_of e4 rfl) dX3_as_100 fun a20 => ?_
              refine s_iload_n C dX3_as_103 2 rfl rfl ?_
              refine c_S C 1 [vr a20] (jk_1 hJ v88 h19) (lw_S q1370 q1371 q119 q1372) nd_J9_valueOf.2 rfl (le_fr hf rfl) (le_fr hlo rfl) rfl (Nat.le_of_ble_eq_true rfl) dX3_as_104 fun r21 h22 => ?_
              refine s_dk 110 finI [] (fun r23 h24 => ?_) (fun hk => s_dsp 33 (fun ht => c_V C 1 [] 33 RJ4 ro_33 (jk_23 hJ a20 r21 h22) (lw_V q1389 q1390 q1391 q113 q1394) nd_J4_containsKey rfl (le_fr hf rfl) (le_fr hlo rfl) rfl (Nat.le_of_ble_eq_true rfl) dX3_as_107 hk ht) s_dsp0)
              have hj139 : ∀ (x2 : Int32) (h25 : Hp), Sim id E (QM id E finR) h25 139 [(0, vr x0), (1, vr x1), (2, .int x2)] [] (g_Tree_as_j139 rec88 x0 x1 x2 h25) := by
                intro x2 h25
                refine s_iinc (la' := [(2, .int (x2 + (1 : Int32))), (0, vr x0), (1, vr x1)]) C 2 dX3_as_139 rfl rfl (lt_nl e5 rfl) rfl ?_
                refine s_goto C 88 dX3_as_142 (by decide) ?_
                refine Sim.keep [1, 2, 0] rfl ?_
                exact hr88 _ _
              refine s_if_eq C 139 dX3_as_110 (by decide) ?_ ?_
              · exact hj139 _ _
              · refine s_aload_n C dX3_as_113 0 rfl rfl ?_
                refine s_getR [3] C (fl1 ⟨fo_X3_40_3, rfl⟩) (pl_of e4 rfl) dX3_as_114 fun a26 => ?_
                refine s_iload_n C dX3_as_117 2 rfl rfl ?_
                refine c_S C 1 [vr a26] (jk_1 hJ v88 h24) (lw_S q1370 q1371 q119 q1372) nd_J9_valueOf.2 rfl (le_fr hf rfl) (le_fr hlo rfl) rfl (Nat.le_of_ble_eq_true rfl) dX3_as_118 fun r27 h28 => ?_
                refine s_aload_n C dX3_as_121 1 rfl rfl ?_
                refine s_getR [3] C (fl1 ⟨fo_X3_40_3, rfl⟩) (pl_of e4 rfl) dX3_as_122 fun a29 => ?_
                refine s_iload_n C dX3_as_125 2 rfl rfl ?_
                refine c_S C 1 [vr a29, vr r27, vr a26] (jk_1 hJ v88 h28) (lw_S q1370 q1371 q119 q1372) nd_J9_valueOf.2 rfl (le_fr hf rfl) (le_fr hlo rfl) rfl (Nat.le_of_ble_eq_true rfl) dX3_as_126 fun r30 h31 => ?_
                refine s_dk 132 finR [vr r27, vr a26] (fun r32 h33 => ?_) (fun hk => s_dsp 33 (fun ht => c_V C 1 [vr r27, vr a26] 33 RJ4 ro_33 (jk_24 hJ a29 r30 h31) (lw_V q1396 q1397 q1398 q113 q1401) nd_J4_get rfl (le_fr hf rfl) (le_fr hlo rfl) rfl (Nat.le_of_ble_eq_true rfl) dX3_as_129 hk ht) s_dsp0)
                refine s_cast [35] "java/lang/Integer" C q1345 (fl1 ao_java_lang_Integer_35) dX3_as_132 ?_
                refine s_dk 138 finR [] (fun r34 h35 => ?_) (fun hk => s_dsp 33 (fun ht => c_V C 2 [] 33 RJ4 ro_33 (jk_25 hJ a26 r27 r32 h33) (lw_V q2253 q1856 q1857 q113 q1860) nd_J4_put rfl (le_fr hf rfl) (le_fr hlo rfl) rfl (Nat.le_of_ble_eq_true rfl) dX3_as_135 hk ht) s_dsp0)
                refine s_pop C dX3_as_138 rfl ?_
                exact hj139 _ _
          refine s_istore_n (la' := [(2, .int (0 : Int32)), (0, vr x0), (1, vr x1)]) C 2 dX3_as_87 rfl (lt_nl e5 rfl) rfl ?_
          refine Sim.keep [1, 2, 0] rfl ?_
          exact hL88 _ _ _ _
        · refine s_aload_n C dX3_as_68 2 rfl rfl ?_
          refine s_dk 74 finR [] (fun r36 h37 => ?_) (fun hk => s_dsp 23 (fun ht => c_F C 0 [] 23 RJ11 ro_23 (jk_18 hJ x2 h15) (lw_F q460 q463 q465 q121 q467) ⟨q462, q461, q466, q464, q441, by decide +kernel, by decide +kernel⟩ (by decide +kernel) rfl (le_fr hf rfl) (le_fr hlo rfl) rfl (Nat.le_of_ble_eq_true rfl) dX3_as_69 hk ht) (s_dsp 27 (fun ht => c_F C 0 [] 27 RJ26 ro_27 (jk_33 hJ x2 h15) (lw_F q460 q548 q550 q138 q552) ⟨q462, q461, q551, q549, q453, by decide +kernel, by decide +kernel⟩ (by decide +kernel) rfl (le_fr hf rfl) (le_fr hlo rfl) rfl (Nat.le_of_ble_eq_true rfl) dX3_as_69 hk ht) s_dsp0))
          refine s_cast [12] "FinalLinks$Vote" C q2228 (fl1 ao_FinalLinks_Vote_12) dX3_as_74 ?_
          refine s_astore_n (la' := [(3, vr r36), (0, vr x0), (1, vr x1), (2, vr x2)]) C 3 dX3_as_77 rfl (lt_nl e5 rfl) rfl ?_
          refine s_aload_n C dX3_as_78 1 rfl rfl ?_
          refine s_aload_n C dX3_as_79 0 rfl rfl ?_
          refine s_dk 83 finV [] (fun _ h38 => ?_) (fun hk => s_dsp 3 (fun ht => c_V C 1 [] 3 RX3 ro_3 (ct_g_Tree_adds hL hJ x0 r36 h37) (lw_V q2229 q2231 qs25 q114 q2232) nd_X3_adds rfl (le_fr hf rfl) (le_fr hlo rfl) rfl (Nat.le_of_ble_eq_true rfl) dX3_as_80 hk ht) s_dsp0)
          refine s_goto C 59 dX3_as_83 (by decide) ?_
          refine Sim.keep [1, 2, 3] rfl ?_
          exact hr59 _ _
      refine s_astore_n (la' := [(2, vr r11), (0, vr x0), (1, vr x1)]) C 2 dX3_as_58 rfl (lt_nl e5 rfl) rfl ?_
      refine Sim.keep [1, 2, 0] rfl ?_
      exact hL59 _ _ _ _ _
    · refine s_aload_n C dX3_as_29 2 rfl rfl ?_
      refine s_dk 35 finR [] (fun r39 h40 => ?_) (fun hk => s_dsp 23 (fun ht => c_F C 0 [] 23 RJ11 ro_23 (jk_18 hJ x2 h9) (lw_F q460 q463 q465 q121 q467) ⟨q462, q461, q466, q464, q441, by decide +kernel, by decide +kernel⟩ (by decide +kernel) rfl (le_fr hf rfl) (le_fr hlo rfl) rfl (Nat.le_of_ble_eq_true rfl) dX3_as_30 hk ht) (s_dsp 27 (fun ht => c_F C 0 [] 27 RJ26 ro_27 (jk_33 hJ x2 h9) (lw_F q460 q548 q550 q138 q552) ⟨q462, q461, q551, q549, q453, by decide +kernel, by decide +kernel⟩ (by decide +kernel) rfl (le_fr hf rfl) (le_fr hlo rfl) rfl (Nat.le_of_ble_eq_true rfl) dX3_as_30 hk ht) s_dsp0))
      refine s_cast [9] "FinalLinks$Block" C q568 (fl1 ao_FinalLinks_Block_9) dX3_as_35 ?_
      refine s_astore_n (la' := [(3, vr r39), (0, vr x0), (1, vr x1), (2, vr x2)]) C 3 dX3_as_38 rfl (lt_nl e5 rfl) rfl ?_
      refine s_aload_n C dX3_as_39 1 rfl rfl ?_
      refine s_getR [3] C (fl1 ⟨fo_X3_12_3, rfl⟩) (pl_of e4 rfl) dX3_as_40 fun a41 => ?_
      refine s_aload_n C dX3_as_43 0 rfl rfl ?_
      refine s_dk 47 finI [] (fun r42 h43 => ?_) (fun hk => s_dsp 25 (fun ht => c_V C 1 [] 25 RJ2 ro_25 (jk_12 hJ a41 r39 h40) (lw_V q569 q570 q571 q111 q572) nd_J2_add rfl (le_fr hf rfl) (le_fr hlo rfl) rfl (Nat.le_of_ble_eq_true rfl) dX3_as_44 hk ht) s_dsp0)
      refine s_pop C dX3_as_47 rfl ?_
      refine s_goto C 20 dX3_as_48 (by decide) ?_
      refine Sim.keep [1, 2, 3] rfl ?_
      exact hr20 _ _
  refine s_astore_n (la' := [(2, vr r5), (0, vr x0), (1, vr x1)]) C 2 dX3_as_19 rfl (lt_nl e5 rfl) rfl ?_
  refine Sim.keep [1, 2, 0] rfl ?_
  exact hL20 _ _ _ _ _

def g_FinalLinks_snap_j62 (x0 : Nat) (h2 : Hp) : Option (Unit × Hp) :=
  (getR [1] 9 x0 h2).bind fun a3 =>
  (getI [1] 10 x0 h2).bind fun a4 =>
  (aldR [207] a3 a4 h2).bind fun a5 =>
  (getR [1] 4 x0 h2).bind fun a6 =>
  bn (dsp (tg h2 a5 % 500) none [(3, g_Tree_as a5 a6 h2)]) fun r7 h8 =>
  (getI [1] 10 x0 h8).bind fun a9 =>
  (putI [1] 0 10 x0 (a9 + (1 : Int32)) h8).bind fun h10 =>
  some ((), h10)
def g_FinalLinks_snap_L18 (x0 : Nat) (x1 : Nat) : Int32 → Hp → Option (Unit × Hp) :=
  lp FU fun rec18 v18 h13 =>
    if (8 : Int32) ≤ v18 then
      (getR [1] 9 x0 h13).bind fun a14 =>
      (astR [207] [3] a14 (7 : Int32) x1 h13).bind fun h15 =>
      (getI [1] 10 x0 h15).bind fun a16 =>
      (putI [1] 0 10 x0 (a16 - (1 : Int32)) h15).bind fun h17 =>
      g_FinalLinks_snap_j62 x0 h17
    else
      (getR [1] 9 x0 h13).bind fun a18 =>
      (getR [1] 9 x0 h13).bind fun a19 =>
      (aldR [207] a19 v18 h13).bind fun a20 =>
      (astR [207] [3] a18 (v18 - (1 : Int32)) a20 h13).bind fun h21 =>
      rec18 (v18 + (1 : Int32)) h21
def g_FinalLinks_snap (x0 : Nat) (h : Hp) : Option (Unit × Hp) :=
  (getI [1] 10 x0 h).bind fun a1 =>
  if a1 = (8 : Int32) then
    (getR [1] 9 x0 h).bind fun a11 =>
    (aldR [207] a11 (0 : Int32) h).bind fun a12 =>
    g_FinalLinks_snap_L18 x0 a12 (1 : Int32) h
  else
    g_FinalLinks_snap_j62 x0 h
theorem ct_g_FinalLinks_snap {G : Gx} {RL : Lv} {l : Launch} (hL : LvA G RL plA) (hJ : JK G RL l) (x0 : Nat) (h : Hp) : Ct id G RL l yX1_snap (ws_ yX1_snap cX1_snap 3 none) 44 4087 finV [vr x0] h (g_FinalLinks_snap x0 h) := by
  refine Ct.of (Pl := plA) [(0, vr x0)] (by decide) hL rfl (Nat.le_of_ble_eq_true rfl) ?_
  intro E C e6 hf hlo e1 e2 e3 e4 e5
  subst e1; subst e2; subst e3
  replace C : Cx E cX1_snap none RX1 := C
  replace e6 : (eMe E).name = "snap" := e6
  unfold g_FinalLinks_snap
  refine s_aload_n C dX1_snap_0 0 rfl rfl ?_
  refine s_getI [1] C (fl1 ⟨fo_X1_110_1, rfl⟩) (pl_of e4 rfl) dX1_snap_1 fun a1 => ?_
  refine s_bipush C (8 : Int32) dX1_snap_4 (by decide) ?_
  have hj62 : ∀ (x0 : Nat) (h2 : Hp), Sim id E (QM id E finV) h2 62 [(0, vr x0)] [] (g_FinalLinks_snap_j62 x0 h2) := by
    intro x0 h2
    refine s_aload_n C dX1_snap_62 0 rfl rfl ?_
    refine s_getR [1] C (fl1 ⟨fo_X1_55_1, rfl⟩) (pl_of e4 rfl) dX1_snap_63 fun a3 => ?_
    refine s_aload_n C dX1_snap_66 0 rfl rfl ?_
    refine s_getI [1] C (fl1 ⟨fo_X1_110_1, rfl⟩) (pl_of e4 rfl) dX1_snap_67 fun a4 => ?_
    refine s_aald [207] 7 C (by decide) (fl1 rfl) (pl_of e4 rfl) dX1_snap_70 fun a5 => ?_
    refine s_aload_n C dX1_snap_71 0 rfl rfl ?_
    refine s_getR [1] C (fl1 ⟨fo_X1_34_1, rfl⟩) (pl_of e4 rfl) dX1_snap_72 fun a6 => ?_
    refine s_dk 78 finR [] (fun r7 h8 => ?_) (fun hk => s_dsp 3 (fun ht => c_V C 1 [] 3 RX3 ro_3 (ct_g_Tree_as hL hJ a5 a6 h2) (lw_V q2224 q2225 q2226 q114 q2227) nd_X3_as rfl (le_fr hf rfl) (le_fr hlo rfl) rfl (Nat.le_of_ble_eq_true rfl) dX1_snap_75 hk ht) s_dsp0)
    refine s_pop C dX1_snap_78 rfl ?_
    refine s_aload_n C dX1_snap_79 0 rfl rfl ?_
    refine s_dup C dX1_snap_80 rfl ?_
    refine s_getI [1] C (fl1 ⟨fo_X1_110_1, rfl⟩) (pl_of e4 rfl) dX1_snap_81 fun a9 => ?_
    refine s_iconst C (1 : Int32) dX1_snap_84 (by decide) ?_
    refine s_iadd C dX1_snap_85 ?_
    refine s_putI [1] 0 C (by decide) (by decide) (fl1 ⟨⟨by decide, fo_X1_110_1, rfl⟩, rfl⟩) (pl_of e4 rfl) (fl1 (Or.inl rfl)) dX1_snap_86 fun h10 => ?_
    exact s_vret C rfl dX1_snap_89
  refine s_icmp_ne C 62 dX1_snap_6 (by decide) ?_ ?_
  · exact hj62 _ _
  · refine s_aload_n C dX1_snap_9 0 rfl rfl ?_
    refine s_getR [1] C (fl1 ⟨fo_X1_55_1, rfl⟩) (pl_of e4 rfl) dX1_snap_10 fun a11 => ?_
    refine s_iconst C (0 : Int32) dX1_snap_13 (by decide) ?_
    refine s_aald [207] 7 C (by decide) (fl1 rfl) (pl_of e4 rfl) dX1_snap_14 fun a12 => ?_
    refine s_astore_n (la' := [(1, vr a12), (0, vr x0)]) C 1 dX1_snap_15 rfl (lt_nl e5 rfl) rfl ?_
    refine s_iconst C (1 : Int32) dX1_snap_16 (by decide) ?_
    have hL18 : ∀ (x0 : Nat) (x1 : Nat) (v18 : Int32) (h13 : Hp), Sim id E (QM id E finV) h13 18 [(0, vr x0), (1, vr x1), (2, .int v18)] [] (g_FinalLinks_snap_L18 x0 x1 v18 h13) := by
      intro x0 x1 v18 h13
      refine Sim.loop (fun v18 => [(0, vr x0), (1, vr x1), (2, .int v18)]) (fun _ => []) (fun rec18 hr18 v18 h13 => ?_) FU v18 h13
      refine s_iload_n C dX1_snap_18 2 rfl rfl ?_
      refine s_bipush C (8 : Int32) dX1_snap_19 (by decide) ?_
      refine s_icmp_ge C 44 dX1_snap_21 (by decide) ?_ ?_
      · refine s_aload_n C dX1_snap_44 0 rfl rfl ?_
        refine s_getR [1] C (fl1 ⟨fo_X1_55_1, rfl⟩) (pl_of e4 rfl) dX1_snap_45 fun a14 => ?_
        refine s_bipush C (7 : Int32) dX1_snap_48 (by decide) ?_
        refine s_aload_n C dX1_snap_50 1 rfl rfl ?_
        refine s_aast [207] [3] 7 "FinalLinks$Tree" C (by decide) rfl (fl1 ⟨by decide, rfl⟩) (pl_of e4 rfl) (fl1 ao_FinalLinks_Tree_3) dX1_snap_51 fun h15 => ?_
        refine s_aload_n C dX1_snap_52 0 rfl rfl ?_
        refine s_dup C dX1_snap_53 rfl ?_
        refine s_getI [1] C (fl1 ⟨fo_X1_110_1, rfl⟩) (pl_of e4 rfl) dX1_snap_54 fun a16 => ?_
        refine s_iconst C (1 : Int32) dX1_snap_57 (by decide) ?_
        refine s_isub C dX1_snap_58 ?_
        refine s_putI [1] 0 C (by decide) (by decide) (fl1 ⟨⟨by decide, fo_X1_110_1, rfl⟩, rfl⟩) (pl_of e4 rfl) (fl1 (Or.inl rfl)) dX1_snap_59 fun h17 => ?_
        refine Sim.keep [0] rfl ?_
        exact hj62 _ _
      · refine s_aload_n C dX1_snap_24 0 rfl rfl ?_
        refine s_getR [1] C (fl1 ⟨fo_X1_55_1, rfl⟩) (pl_of e4 rfl) dX1_snap_25 fun a18 => ?_
        refine s_iload_n C dX1_snap_28 2 rfl rfl ?_
        refine s_iconst C (1 : Int32) dX1_snap_29 (by decide) ?_
        refine s_isub C dX1_snap_30 ?_
        refine s_aload_n C dX1_snap_31 0 rfl rfl ?_
        refine s_getR [1] C (fl1 ⟨fo_X1_55_1, rfl⟩) (pl_of e4 rfl) dX1_snap_32 fun a19 => ?_
        refine s_iload_n C dX1_snap_35 2 rfl rfl ?_
        refine s_aald [207] 7 C (by decide) (fl1 rfl) (pl_of e4 rfl) dX1_snap_36 fun a20 => ?_
        refine s_aast [207] [3] 7 "FinalLinks$Tree" C (by decide) rfl (fl1 ⟨by decide, rfl⟩) (pl_of e4 rfl) (fl1 ao_FinalLinks_Tree_3) dX1_snap_37 fun h21 => ?_
        refine s_iinc (la' := [(2, .int (v18 + (1 : Int32))), (0, vr x0), (1, vr x1)]) C 2 dX1_snap_38 rfl rfl (lt_nl e5 rfl) rfl ?_
        refine s_goto C 18 dX1_snap_41 (by decide) ?_
        refine Sim.keep [1, 2, 0] rfl ?_
        exact hr18 _ _
    refine s_istore_n (la' := [(2, .int (1 : Int32)), (1, vr a12), (0, vr x0)]) C 2 dX1_snap_17 rfl (lt_nl e5 rfl) rfl ?_
    refine Sim.keep [2, 1, 0] rfl ?_
    exact hL18 _ _ _ _

def g_FinalLinks_lives (x0 : Nat) (h : Hp) : Option (Unit × Hp) :=
  bn (dsp (tg h x0 % 500) none [(1, g_FinalLinks_snap x0 h)]) fun _ h1 =>
  (getR [1] 6 x0 h1).bind fun a2 =>
  (getR [1] 4 x0 h1).bind fun a3 =>
  (getR [1] 5 x0 h1).bind fun a4 =>
  bn (dsp (tg h1 a3 % 500) none [(3, g_Tree_as a3 a4 h1)]) fun r5 h6 =>
  bn (dsp (tg h6 a2 % 500) none [(4, g_Judged_of a2 r5 h6)]) fun r7 h8 =>
  some ((), h8)
theorem ct_g_FinalLinks_lives {G : Gx} {RL : Lv} {l : Launch} (hL : LvA G RL plA) (hJ : JK G RL l) (x0 : Nat) (h : Hp) : Ct id G RL l yX1_lives (ws_ yX1_lives cX1_lives 1 none) 48 4178 finV [vr x0] h (g_FinalLinks_lives x0 h) := by
  refine Ct.of (Pl := plA) [(0, vr x0)] (by decide) hL rfl (Nat.le_of_ble_eq_true rfl) ?_
  intro E C e6 hf hlo e1 e2 e3 e4 e5
  subst e1; subst e2; subst e3
  replace C : Cx E cX1_lives none RX1 := C
  replace e6 : (eMe E).name = "lives" := e6
  unfold g_FinalLinks_lives
  refine s_aload_n C dX1_lives_0 0 rfl rfl ?_
  refine s_dk 4 finV [] (fun _ h1 => ?_) (fun hk => s_dsp 1 (fun ht => c_V C 0 [] 1 RX1 ro_1 (ct_g_FinalLinks_snap hL hJ x0 h) (lw_V q2330 q2332 qs27 q107 q2333) nd_X1_snap rfl (le_fr hf rfl) (le_fr hlo rfl) rfl (Nat.le_of_ble_eq_true rfl) dX1_lives_1 hk ht) s_dsp0)
  refine s_aload_n C dX1_lives_4 0 rfl rfl ?_
  refine s_getR [1] C (fl1 ⟨fo_X1_48_1, rfl⟩) (pl_of e4 rfl) dX1_lives_5 fun a2 => ?_
  refine s_aload_n C dX1_lives_8 0 rfl rfl ?_
  refine s_getR [1] C (fl1 ⟨fo_X1_34_1, rfl⟩) (pl_of e4 rfl) dX1_lives_9 fun a3 => ?_
  refine s_aload_n C dX1_lives_12 0 rfl rfl ?_
  refine s_getR [1] C (fl1 ⟨fo_X1_38_1, rfl⟩) (pl_of e4 rfl) dX1_lives_13 fun a4 => ?_
  refine s_dk 19 finR [vr a2] (fun r5 h6 => ?_) (fun hk => s_dsp 3 (fun ht => c_V C 1 [vr a2] 3 RX3 ro_3 (ct_g_Tree_as hL hJ a3 a4 h1) (lw_V q2224 q2225 q2226 q114 q2227) nd_X3_as rfl (le_fr hf rfl) (le_fr hlo rfl) rfl (Nat.le_of_ble_eq_true rfl) dX1_lives_16 hk ht) s_dsp0)
  refine s_dk 22 finR [] (fun r7 h8 => ?_) (fun hk => s_dsp 4 (fun ht => c_V C 1 [] 4 RX4 ro_4 (ct_g_Judged_of hL hJ a2 r5 h6) (lw_V q722 q723 q724 q130 q725) nd_X4_of rfl (le_fr hf rfl) (le_fr hlo rfl) rfl (Nat.le_of_ble_eq_true rfl) dX1_lives_19 hk ht) s_dsp0)
  refine s_pop C dX1_lives_22 rfl ?_
  exact s_vret C rfl dX1_lives_23

def g_Tree_vote (x0 : Nat) (x1 : Int32) (x2 : Int32) (x3 : Int32) (h : Hp) : Option (Unit × Hp) :=
  bn (newO 12 2 h) fun o1 h2 =>
  bn (newO 10 2 h2) fun o3 h4 =>
  bn (oLinkInit o3 x2 x3 h4) fun _ h5 =>
  bn (oVoteInit o1 x1 o3 h5) fun _ h6 =>
  bn (dsp (tg h6 x0 % 500) none [(3, g_Tree_adds x0 o1 h6)]) fun _ h7 =>
  some ((), h7)
theorem ct_g_Tree_vote {G : Gx} {RL : Lv} {l : Launch} (hL : LvA G RL plA) (hJ : JK G RL l) (x0 : Nat) (x1 : Int32) (x2 : Int32) (x3 : Int32) (h : Hp) : Ct id G RL l yX3_vote (ws_ yX3_vote cX3_vote 4 none) 43 4064 finV [vr x0, .int x1, .int x2, .int x3] h (g_Tree_vote x0 x1 x2 x3 h) := by
  refine Ct.of (Pl := plA) [(0, vr x0), (1, .int x1), (2, .int x2), (3, .int x3)] (by decide) hL rfl (Nat.le_of_ble_eq_true rfl) ?_
  intro E C e6 hf hlo e1 e2 e3 e4 e5
  subst e1; subst e2; subst e3
  replace C : Cx E cX3_vote none RX3 := C
  replace e6 : (eMe E).name = "vote" := e6
  unfold g_Tree_vote
  refine s_aload_n C dX3_vote_0 0 rfl rfl ?_
  refine s_newO 12 2 C no_X3_78 (pl_of1 e4 rfl) dX3_vote_1 fun o1 h2 zo1 => ?_
  refine s_dup C dX3_vote_4 rfl ?_
  refine s_iload_n C dX3_vote_5 1 rfl rfl ?_
  refine s_newO 10 2 C no_X3_170 (pl_of1 e4 rfl) dX3_vote_6 fun o3 h4 zo3 => ?_
  refine s_dup C dX3_vote_9 rfl ?_
  refine s_iload_n C dX3_vote_10 2 rfl rfl ?_
  refine s_iload_n C dX3_vote_11 3 rfl rfl ?_
  refine c_I C 2 [vr o3, .int x1, vr o1, vr o1, vr x0] zo3 (jk_19 hJ o3 x2 x3 h4) (lw_meth q2270) q157 q2268 q2269 rfl nd_X11_init.2 rfl (le_fr hf rfl) (le_fr hlo rfl) rfl (Nat.le_of_ble_eq_true rfl) dX3_vote_12 fun _ h5 => ?_
  refine c_I C 2 [vr o1, vr x0] zo1 (jk_20 hJ o1 x1 o3 h5) (lw_meth q2287) q160 q2285 q2286 rfl nd_X14_init.2 rfl (le_fr hf rfl) (le_fr hlo rfl) rfl (Nat.le_of_ble_eq_true rfl) dX3_vote_15 fun _ h6 => ?_
  refine s_dk 21 finV [] (fun _ h7 => ?_) (fun hk => s_dsp 3 (fun ht => c_V C 1 [] 3 RX3 ro_3 (ct_g_Tree_adds hL hJ x0 o1 h6) (lw_V q2229 q2231 qs25 q114 q2232) nd_X3_adds rfl (le_fr hf rfl) (le_fr hlo rfl) rfl (Nat.le_of_ble_eq_true rfl) dX3_vote_18 hk ht) s_dsp0)
  exact s_vret C rfl dX3_vote_21

def g_Tree_whyVote_j16  (h3 : Hp) : Option (Int32 × Hp) :=
  some ((1 : Int32), h3)
def g_Tree_whyVote_j75 (y0 : Int32) (h20 : Hp) : Option (Int32 × Hp) :=
  some (y0, h20)
def g_Tree_whyVote (x0 : Nat) (x1 : Int32) (x2 : Int32) (x3 : Int32) (h : Hp) : Option (Int32 × Hp) :=
  bn (dsp (tg h x0 % 500) none [(3, g_Tree_isPoint x0 x2 h)]) fun r1 h2 =>
  if r1 = 0 then
    g_Tree_whyVote_j16 h2
  else
    bn (dsp (tg h2 x0 % 500) none [(3, g_Tree_isPoint x0 x3 h2)]) fun r4 h5 =>
    if r4 = 0 then
      g_Tree_whyVote_j16 h5
    else
      bn (dsp (tg h5 x0 % 500) none [(3, g_Tree_isAhead x0 x2 x3 h5)]) fun r6 h7 =>
      if r6 = 0 then
        some ((2 : Int32), h7)
      else
        (getR [3] 3 x0 h7).bind fun a8 =>
        bn (newO 12 2 h7) fun o9 h10 =>
        bn (newO 10 2 h10) fun o11 h12 =>
        bn (oLinkInit o11 x2 x3 h12) fun _ h13 =>
        bn (oVoteInit o9 x1 o11 h13) fun _ h14 =>
        bn (dsp (tg h14 a8 % 500) none [(34, oMpHas [1034] a8 o9 h14)]) fun r15 h16 =>
        if r15 = 0 then
          (getR [3] 2 x0 h16).bind fun a17 =>
          bn (dsp (tg h16 a17 % 500) none [(25, oAlSize a17 h16)]) fun r18 h19 =>
          if r18 = (48 : Int32) then
            g_Tree_whyVote_j75 (4 : Int32) h19
          else
            g_Tree_whyVote_j75 (0 : Int32) h19
        else
          some ((3 : Int32), h16)
theorem ct_g_Tree_whyVote {G : Gx} {RL : Lv} {l : Launch} (hL : LvA G RL plA) (hJ : JK G RL l) (x0 : Nat) (x1 : Int32) (x2 : Int32) (x3 : Int32) (h : Hp) : Ct id G RL l yX3_whyVote (ws_ yX3_whyVote cX3_whyVote 4 (some .int)) 44 4087 finI [vr x0, .int x1, .int x2, .int x3] h (g_Tree_whyVote x0 x1 x2 x3 h) := by
  refine Ct.of (Pl := plA) [(0, vr x0), (1, .int x1), (2, .int x2), (3, .int x3)] (by decide) hL rfl (Nat.le_of_ble_eq_true rfl) ?_
  intro E C e6 hf hlo e1 e2 e3 e4 e5
  subst e1; subst e2; subst e3
  replace C : Cx E cX3_whyVote (some .int) RX3 := C
  replace e6 : (eMe E).name = "whyVote" := e6
  unfold g_Tree_whyVote
  refine s_aload_n C dX3_whyVote_0 0 rfl rfl ?_
  refine s_iload_n C dX3_whyVote_1 2 rfl rfl ?_
  refine s_dk 5 finI [] (fun r1 h2 => ?_) (fun hk => s_dsp 3 (fun ht => c_V C 1 [] 3 RX3 ro_3 (ct_g_Tree_isPoint hL hJ x0 x2 h) (lw_V q2264 q2163 q2164 q114 q2165) nd_X3_isPoint rfl (le_fr hf rfl) (le_fr hlo rfl) rfl (Nat.le_of_ble_eq_true rfl) dX3_whyVote_2 hk ht) s_dsp0)
  have hj16 : ∀  (h3 : Hp), Sim id E (QM id E finI) h3 16 [] [] (g_Tree_whyVote_j16 h3) := by
    intro h3
    refine s_iconst C (1 : Int32) dX3_whyVote_16 (by decide) ?_
    exact s_iret C rfl dX3_whyVote_17
  refine s_if_eq C 16 dX3_whyVote_5 (by decide) ?_ ?_
  · refine Sim.keep [] rfl ?_
    exact hj16 _
  · refine s_aload_n C dX3_whyVote_8 0 rfl rfl ?_
    refine s_iload_n C dX3_whyVote_9 3 rfl rfl ?_
    refine s_dk 13 finI [] (fun r4 h5 => ?_) (fun hk => s_dsp 3 (fun ht => c_V C 1 [] 3 RX3 ro_3 (ct_g_Tree_isPoint hL hJ x0 x3 h2) (lw_V q2264 q2163 q2164 q114 q2165) nd_X3_isPoint rfl (le_fr hf rfl) (le_fr hlo rfl) rfl (Nat.le_of_ble_eq_true rfl) dX3_whyVote_10 hk ht) s_dsp0)
    refine s_if_ne C 18 dX3_whyVote_13 (by decide) ?_ ?_
    · refine s_aload_n C dX3_whyVote_18 0 rfl rfl ?_
      refine s_iload_n C dX3_whyVote_19 2 rfl rfl ?_
      refine s_iload_n C dX3_whyVote_20 3 rfl rfl ?_
      refine s_dk 24 finI [] (fun r6 h7 => ?_) (fun hk => s_dsp 3 (fun ht => c_V C 2 [] 3 RX3 ro_3 (ct_g_Tree_isAhead hL hJ x0 x2 x3 h5) (lw_V q2265 q1403 q1404 q114 q1405) nd_X3_isAhead rfl (le_fr hf rfl) (le_fr hlo rfl) rfl (Nat.le_of_ble_eq_true rfl) dX3_whyVote_21 hk ht) s_dsp0)
      refine s_if_ne C 29 dX3_whyVote_24 (by decide) ?_ ?_
      · refine s_aload_n C dX3_whyVote_29 0 rfl rfl ?_
        refine s_getR [3] C (fl1 ⟨fo_X3_26_3, rfl⟩) (pl_of e4 rfl) dX3_whyVote_30 fun a8 => ?_
        refine s_newO 12 2 C no_X3_78 (pl_of1 e4 rfl) dX3_whyVote_33 fun o9 h10 zo9 => ?_
        refine s_dup C dX3_whyVote_36 rfl ?_
        refine s_iload_n C dX3_whyVote_37 1 rfl rfl ?_
        refine s_newO 10 2 C no_X3_170 (pl_of1 e4 rfl) dX3_whyVote_38 fun o11 h12 zo11 => ?_
        refine s_dup C dX3_whyVote_41 rfl ?_
        refine s_iload_n C dX3_whyVote_42 2 rfl rfl ?_
        refine s_iload_n C dX3_whyVote_43 3 rfl rfl ?_
        refine c_I C 2 [vr o11, .int x1, vr o9, vr o9, vr a8] zo11 (jk_19 hJ o11 x2 x3 h12) (lw_meth q2270) q157 q2268 q2269 rfl nd_X11_init.2 rfl (le_fr hf rfl) (le_fr hlo rfl) rfl (Nat.le_of_ble_eq_true rfl) dX3_whyVote_44 fun _ h13 => ?_
        refine c_I C 2 [vr o9, vr a8] zo9 (jk_20 hJ o9 x1 o11 h13) (lw_meth q2287) q160 q2285 q2286 rfl nd_X14_init.2 rfl (le_fr hf rfl) (le_fr hlo rfl) rfl (Nat.le_of_ble_eq_true rfl) dX3_whyVote_47 fun _ h14 => ?_
        refine s_dk 53 finI [] (fun r15 h16 => ?_) (fun hk => s_dsp 34 (fun ht => c_V C 1 [] 34 RJ6 ro_34 (jk_37 hJ a8 o9 h14) (lw_V q2302 q2303 q2304 q116 q2305) nd_J6_contains rfl (le_fr hf rfl) (le_fr hlo rfl) rfl (Nat.le_of_ble_eq_true rfl) dX3_whyVote_50 hk ht) s_dsp0)
        refine s_if_eq C 58 dX3_whyVote_53 (by decide) ?_ ?_
        · refine s_aload_n C dX3_whyVote_58 0 rfl rfl ?_
          refine s_getR [3] C (fl1 ⟨fo_X3_18_3, rfl⟩) (pl_of e4 rfl) dX3_whyVote_59 fun a17 => ?_
          refine s_dk 65 finI [] (fun r18 h19 => ?_) (fun hk => s_dsp 25 (fun ht => c_V C 0 [] 25 RJ2 ro_25 (jk_15 hJ a17 h16) (lw_V q770 q731 q732 q111 q733) nd_J2_size rfl (le_fr hf rfl) (le_fr hlo rfl) rfl (Nat.le_of_ble_eq_true rfl) dX3_whyVote_62 hk ht) s_dsp0)
          refine s_bipush C (48 : Int32) dX3_whyVote_65 (by decide) ?_
          have hj75 : ∀ (y0 : Int32) (h20 : Hp), Sim id E (QM id E finI) h20 75 [] [.int y0] (g_Tree_whyVote_j75 y0 h20) := by
            intro y0 h20
            exact s_iret C rfl dX3_whyVote_75
          refine s_icmp_ne C 74 dX3_whyVote_67 (by decide) ?_ ?_
          · refine s_iconst C (0 : Int32) dX3_whyVote_74 (by decide) ?_
            refine Sim.keep [] rfl ?_
            exact hj75 _ _
          · refine s_iconst C (4 : Int32) dX3_whyVote_70 (by decide) ?_
            refine s_goto C 75 dX3_whyVote_71 (by decide) ?_
            refine Sim.keep [] rfl ?_
            exact hj75 _ _
        · refine s_iconst C (3 : Int32) dX3_whyVote_56 (by decide) ?_
          exact s_iret C rfl dX3_whyVote_57
      · refine s_iconst C (2 : Int32) dX3_whyVote_27 (by decide) ?_
        exact s_iret C rfl dX3_whyVote_28
    · refine Sim.keep [] rfl ?_
      exact hj16 _

def g_Casts_does_j37 (x2 : Int32) (h6 : Hp) : Option (Int32 × Hp) :=
  some (x2, h6)
def g_Casts_does (x0 : Nat) (x1 : Nat) (h : Hp) : Option (Int32 × Hp) :=
  (getI [11] 0 x0 h).bind fun a1 =>
  (getI [11] 1 x0 h).bind fun a2 =>
  (getI [11] 2 x0 h).bind fun a3 =>
  bn (dsp (tg h x1 % 500) none [(3, g_Tree_whyVote x1 a1 a2 a3 h)]) fun r4 h5 =>
  if r4 = 0 then
    (getI [11] 0 x0 h5).bind fun a7 =>
    (getI [11] 1 x0 h5).bind fun a8 =>
    (getI [11] 2 x0 h5).bind fun a9 =>
    bn (dsp (tg h5 x1 % 500) none [(3, g_Tree_vote x1 a7 a8 a9 h5)]) fun _ h10 =>
    g_Casts_does_j37 r4 h10
  else
    g_Casts_does_j37 r4 h5
theorem ct_g_Casts_does {G : Gx} {RL : Lv} {l : Launch} (hL : LvA G RL plA) (hJ : JK G RL l) (x0 : Nat) (x1 : Nat) (h : Hp) : Ct id G RL l yX13_does (ws_ yX13_does cX13_does 3 (some .int)) 45 4110 finI [vr x0, vr x1] h (g_Casts_does x0 x1 h) := by
  refine Ct.of (Pl := plA) [(0, vr x0), (1, vr x1)] (by decide) hL rfl (Nat.le_of_ble_eq_true rfl) ?_
  intro E C e6 hf hlo e1 e2 e3 e4 e5
  subst e1; subst e2; subst e3
  replace C : Cx E cX13_does (some .int) RX13 := C
  replace e6 : (eMe E).name = "does" := e6
  unfold g_Casts_does
  refine s_aload_n C dX13_does_0 1 rfl rfl ?_
  refine s_aload_n C dX13_does_1 0 rfl rfl ?_
  refine s_getI [11] C (fl1 ⟨fo_X13_7_11, rfl⟩) (pl_of e4 rfl) dX13_does_2 fun a1 => ?_
  refine s_aload_n C dX13_does_5 0 rfl rfl ?_
  refine s_getI [11] C (fl1 ⟨fo_X13_13_11, rfl⟩) (pl_of e4 rfl) dX13_does_6 fun a2 => ?_
  refine s_aload_n C dX13_does_9 0 rfl rfl ?_
  refine s_getI [11] C (fl1 ⟨fo_X13_16_11, rfl⟩) (pl_of e4 rfl) dX13_does_10 fun a3 => ?_
  refine s_dk 16 finI [] (fun r4 h5 => ?_) (fun hk => s_dsp 3 (fun ht => c_V C 3 [] 3 RX3 ro_3 (ct_g_Tree_whyVote hL hJ x1 a1 a2 a3 h) (lw_V q2260 q2261 q2262 q114 q2263) nd_X3_whyVote rfl (le_fr hf rfl) (le_fr hlo rfl) rfl (Nat.le_of_ble_eq_true rfl) dX13_does_13 hk ht) s_dsp0)
  refine s_istore_n (la' := [(2, .int r4), (0, vr x0), (1, vr x1)]) C 2 dX13_does_16 rfl (lt_nl e5 rfl) rfl ?_
  refine s_iload_n C dX13_does_17 0 rfl rfl ?_
  have hj37 : ∀ (x2 : Int32) (h6 : Hp), Sim id E (QM id E finI) h6 37 [(2, .int x2)] [] (g_Casts_does_j37 x2 h6) := by
    intro x2 h6
    refine s_iload_n C dX13_does_37 0 rfl rfl ?_
    exact s_iret C rfl dX13_does_38
  refine s_if_ne C 37 dX13_does_18 (by decide) ?_ ?_
  · refine Sim.keep [0] rfl ?_
    exact hj37 _ _
  · refine s_aload_n C dX13_does_21 2 rfl rfl ?_
    refine s_aload_n C dX13_does_22 1 rfl rfl ?_
    refine s_getI [11] C (fl1 ⟨fo_X13_7_11, rfl⟩) (pl_of e4 rfl) dX13_does_23 fun a7 => ?_
    refine s_aload_n C dX13_does_26 1 rfl rfl ?_
    refine s_getI [11] C (fl1 ⟨fo_X13_13_11, rfl⟩) (pl_of e4 rfl) dX13_does_27 fun a8 => ?_
    refine s_aload_n C dX13_does_30 1 rfl rfl ?_
    refine s_getI [11] C (fl1 ⟨fo_X13_16_11, rfl⟩) (pl_of e4 rfl) dX13_does_31 fun a9 => ?_
    refine s_dk 37 finV [] (fun _ h10 => ?_) (fun hk => s_dsp 3 (fun ht => c_V C 3 [] 3 RX3 ro_3 (ct_g_Tree_vote hL hJ x1 a7 a8 a9 h5) (lw_V q2307 q2308 q2309 q114 q2310) nd_X3_vote rfl (le_fr hf rfl) (le_fr hlo rfl) rfl (Nat.le_of_ble_eq_true rfl) dX13_does_34 hk ht) s_dsp0)
    refine Sim.keep [0] rfl ?_
    exact hj37 _ _

def g_Casts_sort (x0 : Nat) (h : Hp) : Option (Int32 × Hp) :=
  some ((0 : Int32), h)
theorem ct_g_Casts_sort {G : Gx} {RL : Lv} {l : Launch} (hL : LvA G RL plA) (hJ : JK G RL l) (x0 : Nat) (h : Hp) : Ct id G RL l yX13_sort (ws_ yX13_sort cX13_sort 1 (some .int)) 0 0 finI [vr x0] h (g_Casts_sort x0 h) := by
  refine Ct.of (Pl := plA) [(0, vr x0)] (by decide) hL rfl (Nat.le_of_ble_eq_true rfl) ?_
  intro E C e6 hf hlo e1 e2 e3 e4 e5
  subst e1; subst e2; subst e3
  replace C : Cx E cX13_sort (some .int) RX13 := C
  replace e6 : (eMe E).name = "sort" := e6
  unfold g_Casts_sort
  refine s_iconst C (0 : Int32) dX13_sort_0 (by decide) ?_
  exact s_iret C rfl dX13_sort_1

def g_Block_init (x0 : Nat) (x1 : Int32) (x2 : Int32) (x3 : Int32) (x4 : Int32) (h : Hp) : Option (Unit × Hp) :=
  if x0 = 0 then none else
  (putI [9] 0 0 x0 x1 h).bind fun h2 =>
  (putI [9] 0 1 x0 x2 h2).bind fun h3 =>
  (putI [9] 0 2 x0 x3 h3).bind fun h4 =>
  (putI [9] 0 3 x0 x4 h4).bind fun h5 =>
  some ((), h5)
theorem ct_g_Block_init {G : Gx} {RL : Lv} {l : Launch} (hL : LvA G RL plA) (hJ : JK G RL l) (x0 : Nat) (x1 : Int32) (x2 : Int32) (x3 : Int32) (x4 : Int32) (h : Hp) : Ct id G RL l yX10_init (ws_ yX10_init cX10_init 5 none) 1 20 finV [vr x0, .int x1, .int x2, .int x3, .int x4] h (g_Block_init x0 x1 x2 x3 x4 h) := by
  refine Ct.of (Pl := plA) [(0, vr x0), (1, .int x1), (2, .int x2), (3, .int x3), (4, .int x4)] (by decide) hL rfl (Nat.le_of_ble_eq_true rfl) ?_
  intro E C e6 hf hlo e1 e2 e3 e4 e5
  subst e1; subst e2; subst e3
  replace C : Cx E cX10_init none RX10 := C
  replace e6 : (eMe E).name = "<init>" := e6
  unfold g_Block_init
  refine s_aload_n C dX10_init_0 0 rfl rfl ?_
  refine s_nz fun z1 => ?_
  refine s_objI C z1 q2101 q177 q178 (le_fr hf rfl) (le_fr hlo rfl) (Nat.le_of_ble_eq_true rfl) dX10_init_1 ?_
  refine s_aload_n C dX10_init_4 0 rfl rfl ?_
  refine s_iload_n C dX10_init_5 1 rfl rfl ?_
  refine s_putI [9] 0 C (by decide) (by decide) (fl1 ⟨⟨by decide, fo_X10_7_9, rfl⟩, rfl⟩) (pl_of e4 rfl) (fl1 (Or.inr ⟨e6, fx_X10_7_9⟩)) dX10_init_6 fun h2 => ?_
  refine s_aload_n C dX10_init_9 0 rfl rfl ?_
  refine s_iload_n C dX10_init_10 2 rfl rfl ?_
  refine s_putI [9] 0 C (by decide) (by decide) (fl1 ⟨⟨by decide, fo_X10_13_9, rfl⟩, rfl⟩) (pl_of e4 rfl) (fl1 (Or.inr ⟨e6, fx_X10_13_9⟩)) dX10_init_11 fun h3 => ?_
  refine s_aload_n C dX10_init_14 0 rfl rfl ?_
  refine s_iload_n C dX10_init_15 3 rfl rfl ?_
  refine s_putI [9] 0 C (by decide) (by decide) (fl1 ⟨⟨by decide, fo_X10_16_9, rfl⟩, rfl⟩) (pl_of e4 rfl) (fl1 (Or.inr ⟨e6, fx_X10_16_9⟩)) dX10_init_16 fun h4 => ?_
  refine s_aload_n C dX10_init_19 0 rfl rfl ?_
  refine s_iload C dX10_init_20 4 rfl ?_
  refine s_putI [9] 0 C (by decide) (by decide) (fl1 ⟨⟨by decide, fo_X10_19_9, rfl⟩, rfl⟩) (pl_of e4 rfl) (fl1 (Or.inr ⟨e6, fx_X10_19_9⟩)) dX10_init_22 fun h5 => ?_
  exact s_vret C rfl dX10_init_25

def g_Tree_grow (x0 : Nat) (x1 : Int32) (h : Hp) : Option (Unit × Hp) :=
  (getR [3] 1 x0 h).bind fun a1 =>
  bn (newO 9 4 h) fun o2 h3 =>
  bn (dsp (tg h3 x0 % 500) none [(3, g_Tree_height x0 x1 h3)]) fun r4 h5 =>
  bn (g_Block_init o2 x1 (r4 + (1 : Int32)) (-1 : Int32) (0 : Int32) h5) fun _ h6 =>
  bn (dsp (tg h6 a1 % 500) none [(25, oAlAdd a1 o2 h6)]) fun r7 h8 =>
  some ((), h8)
theorem ct_g_Tree_grow {G : Gx} {RL : Lv} {l : Launch} (hL : LvA G RL plA) (hJ : JK G RL l) (x0 : Nat) (x1 : Int32) (h : Hp) : Ct id G RL l yX3_grow (ws_ yX3_grow cX3_grow 2 none) 42 4042 finV [vr x0, .int x1] h (g_Tree_grow x0 x1 h) := by
  refine Ct.of (Pl := plA) [(0, vr x0), (1, .int x1)] (by decide) hL rfl (Nat.le_of_ble_eq_true rfl) ?_
  intro E C e6 hf hlo e1 e2 e3 e4 e5
  subst e1; subst e2; subst e3
  replace C : Cx E cX3_grow none RX3 := C
  replace e6 : (eMe E).name = "grow" := e6
  unfold g_Tree_grow
  refine s_aload_n C dX3_grow_0 0 rfl rfl ?_
  refine s_getR [3] C (fl1 ⟨fo_X3_12_3, rfl⟩) (pl_of e4 rfl) dX3_grow_1 fun a1 => ?_
  refine s_newO 9 4 C no_X3_68 (pl_of1 e4 rfl) dX3_grow_4 fun o2 h3 zo2 => ?_
  refine s_dup C dX3_grow_7 rfl ?_
  refine s_iload_n C dX3_grow_8 1 rfl rfl ?_
  refine s_aload_n C dX3_grow_9 0 rfl rfl ?_
  refine s_iload_n C dX3_grow_10 1 rfl rfl ?_
  refine s_dk 14 finI [.int x1, vr o2, vr o2, vr a1] (fun r4 h5 => ?_) (fun hk => s_dsp 3 (fun ht => c_V C 1 [.int x1, vr o2, vr o2, vr a1] 3 RX3 ro_3 (ct_g_Tree_height hL hJ x0 x1 h3) (lw_V q757 q758 q759 q114 q760) nd_X3_height rfl (le_fr hf rfl) (le_fr hlo rfl) rfl (Nat.le_of_ble_eq_true rfl) dX3_grow_11 hk ht) s_dsp0)
  refine s_iconst C (1 : Int32) dX3_grow_14 (by decide) ?_
  refine s_iadd C dX3_grow_15 ?_
  refine s_iconst C (-1 : Int32) dX3_grow_16 (by decide) ?_
  refine s_iconst C (0 : Int32) dX3_grow_17 (by decide) ?_
  refine c_I C 4 [vr o2, vr a1] zo2 (ct_g_Block_init hL hJ o2 x1 (r4 + (1 : Int32)) (-1 : Int32) (0 : Int32) h5) (lw_meth q2100) q156 q2319 q2099 rfl nd_X10_init.2 rfl (le_fr hf rfl) (le_fr hlo rfl) rfl (Nat.le_of_ble_eq_true rfl) dX3_grow_18 fun _ h6 => ?_
  refine s_dk 24 finI [] (fun r7 h8 => ?_) (fun hk => s_dsp 25 (fun ht => c_V C 1 [] 25 RJ2 ro_25 (jk_12 hJ a1 o2 h6) (lw_V q569 q570 q571 q111 q572) nd_J2_add rfl (le_fr hf rfl) (le_fr hlo rfl) rfl (Nat.le_of_ble_eq_true rfl) dX3_grow_21 hk ht) s_dsp0)
  refine s_pop C dX3_grow_24 rfl ?_
  exact s_vret C rfl dX3_grow_25

def g_Grows_does (x0 : Nat) (x1 : Nat) (h : Hp) : Option (Int32 × Hp) :=
  bn (dsp (tg h x1 % 500) none [(3, g_Tree_size x1 h)]) fun r1 h2 =>
  if r1 = (20 : Int32) then
    some ((1 : Int32), h2)
  else
    (getI [14] 0 x0 h2).bind fun a3 =>
    bn (dsp (tg h2 x1 % 500) none [(3, g_Tree_grow x1 a3 h2)]) fun _ h4 =>
    some ((0 : Int32), h4)
theorem ct_g_Grows_does {G : Gx} {RL : Lv} {l : Launch} (hL : LvA G RL plA) (hJ : JK G RL l) (x0 : Nat) (x1 : Nat) (h : Hp) : Ct id G RL l yX16_does (ws_ yX16_does cX16_does 2 (some .int)) 43 4063 finI [vr x0, vr x1] h (g_Grows_does x0 x1 h) := by
  refine Ct.of (Pl := plA) [(0, vr x0), (1, vr x1)] (by decide) hL rfl (Nat.le_of_ble_eq_true rfl) ?_
  intro E C e6 hf hlo e1 e2 e3 e4 e5
  subst e1; subst e2; subst e3
  replace C : Cx E cX16_does (some .int) RX16 := C
  replace e6 : (eMe E).name = "does" := e6
  unfold g_Grows_does
  refine s_aload_n C dX16_does_0 1 rfl rfl ?_
  refine s_dk 4 finI [] (fun r1 h2 => ?_) (fun hk => s_dsp 3 (fun ht => c_V C 0 [] 3 RX3 ro_3 (ct_g_Tree_size hL hJ x1 h) (lw_V q2314 q767 q768 q114 q769) nd_X3_size rfl (le_fr hf rfl) (le_fr hlo rfl) rfl (Nat.le_of_ble_eq_true rfl) dX16_does_1 hk ht) s_dsp0)
  refine s_bipush C (20 : Int32) dX16_does_4 (by decide) ?_
  refine s_icmp_ne C 11 dX16_does_6 (by decide) ?_ ?_
  · refine s_aload_n C dX16_does_11 1 rfl rfl ?_
    refine s_aload_n C dX16_does_12 0 rfl rfl ?_
    refine s_getI [14] C (fl1 ⟨fo_X16_9_14, rfl⟩) (pl_of e4 rfl) dX16_does_13 fun a3 => ?_
    refine s_dk 19 finV [] (fun _ h4 => ?_) (fun hk => s_dsp 3 (fun ht => c_V C 1 [] 3 RX3 ro_3 (ct_g_Tree_grow hL hJ x1 a3 h2) (lw_V q2315 q2316 q2317 q114 q2318) nd_X3_grow rfl (le_fr hf rfl) (le_fr hlo rfl) rfl (Nat.le_of_ble_eq_true rfl) dX16_does_16 hk ht) s_dsp0)
    refine s_iconst C (0 : Int32) dX16_does_19 (by decide) ?_
    exact s_iret C rfl dX16_does_20
  · refine s_iconst C (1 : Int32) dX16_does_9 (by decide) ?_
    exact s_iret C rfl dX16_does_10

def g_Grows_sort (x0 : Nat) (h : Hp) : Option (Int32 × Hp) :=
  some ((20 : Int32), h)
theorem ct_g_Grows_sort {G : Gx} {RL : Lv} {l : Launch} (hL : LvA G RL plA) (hJ : JK G RL l) (x0 : Nat) (h : Hp) : Ct id G RL l yX16_sort (ws_ yX16_sort cX16_sort 1 (some .int)) 0 0 finI [vr x0] h (g_Grows_sort x0 h) := by
  refine Ct.of (Pl := plA) [(0, vr x0)] (by decide) hL rfl (Nat.le_of_ble_eq_true rfl) ?_
  intro E C e6 hf hlo e1 e2 e3 e4 e5
  subst e1; subst e2; subst e3
  replace C : Cx E cX16_sort (some .int) RX16 := C
  replace e6 : (eMe E).name = "sort" := e6
  unfold g_Grows_sort
  refine s_bipush C (20 : Int32) dX16_sort_0 (by decide) ?_
  exact s_iret C rfl dX16_sort_2

def g_Looks_does (x0 : Nat) (x1 : Nat) (h : Hp) : Option (Int32 × Hp) :=
  (getI [13] 0 x0 h).bind fun a1 =>
  bn (dsp (tg h x1 % 500) none [(3, g_Tree_lookOf x1 a1 h)]) fun r2 h3 =>
  (getI [13] 1 x0 h3).bind fun a4 =>
  if r2 = a4 then
    some ((1 : Int32), h3)
  else
    (getR [3] 5 x1 h3).bind fun a5 =>
    (getI [13] 0 x0 h3).bind fun a6 =>
    bn (oValueOf a6 h3) fun r7 h8 =>
    (getI [13] 1 x0 h8).bind fun a9 =>
    bn (oValueOf a9 h8) fun r10 h11 =>
    bn (dsp (tg h11 a5 % 500) none [(33, oMpPut a5 r7 r10 h11)]) fun r12 h13 =>
    some ((0 : Int32), h13)
theorem ct_g_Looks_does {G : Gx} {RL : Lv} {l : Launch} (hL : LvA G RL plA) (hJ : JK G RL l) (x0 : Nat) (x1 : Nat) (h : Hp) : Ct id G RL l yX15_does (ws_ yX15_does cX15_does 2 (some .int)) 42 4043 finI [vr x0, vr x1] h (g_Looks_does x0 x1 h) := by
  refine Ct.of (Pl := plA) [(0, vr x0), (1, vr x1)] (by decide) hL rfl (Nat.le_of_ble_eq_true rfl) ?_
  intro E C e6 hf hlo e1 e2 e3 e4 e5
  subst e1; subst e2; subst e3
  replace C : Cx E cX15_does (some .int) RX15 := C
  replace e6 : (eMe E).name = "does" := e6
  unfold g_Looks_does
  refine s_aload_n C dX15_does_0 1 rfl rfl ?_
  refine s_aload_n C dX15_does_1 0 rfl rfl ?_
  refine s_getI [13] C (fl1 ⟨fo_X15_7_13, rfl⟩) (pl_of e4 rfl) dX15_does_2 fun a1 => ?_
  refine s_dk 8 finI [] (fun r2 h3 => ?_) (fun hk => s_dsp 3 (fun ht => c_V C 1 [] 3 RX3 ro_3 (ct_g_Tree_lookOf hL hJ x1 a1 h) (lw_V q2323 q1367 q1368 q114 q1369) nd_X3_lookOf rfl (le_fr hf rfl) (le_fr hlo rfl) rfl (Nat.le_of_ble_eq_true rfl) dX15_does_5 hk ht) s_dsp0)
  refine s_aload_n C dX15_does_8 0 rfl rfl ?_
  refine s_getI [13] C (fl1 ⟨fo_X15_13_13, rfl⟩) (pl_of e4 rfl) dX15_does_9 fun a4 => ?_
  refine s_icmp_ne C 17 dX15_does_12 (by decide) ?_ ?_
  · refine s_aload_n C dX15_does_17 1 rfl rfl ?_
    refine s_getR [3] C (fl1 ⟨fo_X15_22_3, rfl⟩) (pl_of e4 rfl) dX15_does_18 fun a5 => ?_
    refine s_aload_n C dX15_does_21 0 rfl rfl ?_
    refine s_getI [13] C (fl1 ⟨fo_X15_7_13, rfl⟩) (pl_of e4 rfl) dX15_does_22 fun a6 => ?_
    refine c_S C 1 [vr a5] (jk_1 hJ a6 h3) (lw_S q2324 q1371 q119 q1372) nd_J9_valueOf.2 rfl (le_fr hf rfl) (le_fr hlo rfl) rfl (Nat.le_of_ble_eq_true rfl) dX15_does_25 fun r7 h8 => ?_
    refine s_aload_n C dX15_does_28 0 rfl rfl ?_
    refine s_getI [13] C (fl1 ⟨fo_X15_13_13, rfl⟩) (pl_of e4 rfl) dX15_does_29 fun a9 => ?_
    refine c_S C 1 [vr r7, vr a5] (jk_1 hJ a9 h8) (lw_S q2324 q1371 q119 q1372) nd_J9_valueOf.2 rfl (le_fr hf rfl) (le_fr hlo rfl) rfl (Nat.le_of_ble_eq_true rfl) dX15_does_32 fun r10 h11 => ?_
    refine s_dk 38 finR [] (fun r12 h13 => ?_) (fun hk => s_dsp 33 (fun ht => c_V C 2 [] 33 RJ4 ro_33 (jk_25 hJ a5 r7 r10 h11) (lw_V q2325 q1856 q1857 q113 q1860) nd_J4_put rfl (le_fr hf rfl) (le_fr hlo rfl) rfl (Nat.le_of_ble_eq_true rfl) dX15_does_35 hk ht) s_dsp0)
    refine s_pop C dX15_does_38 rfl ?_
    refine s_iconst C (0 : Int32) dX15_does_39 (by decide) ?_
    exact s_iret C rfl dX15_does_40
  · refine s_iconst C (1 : Int32) dX15_does_15 (by decide) ?_
    exact s_iret C rfl dX15_does_16

def g_Looks_sort (x0 : Nat) (h : Hp) : Option (Int32 × Hp) :=
  some ((10 : Int32), h)
theorem ct_g_Looks_sort {G : Gx} {RL : Lv} {l : Launch} (hL : LvA G RL plA) (hJ : JK G RL l) (x0 : Nat) (h : Hp) : Ct id G RL l yX15_sort (ws_ yX15_sort cX15_sort 1 (some .int)) 0 0 finI [vr x0] h (g_Looks_sort x0 h) := by
  refine Ct.of (Pl := plA) [(0, vr x0)] (by decide) hL rfl (Nat.le_of_ble_eq_true rfl) ?_
  intro E C e6 hf hlo e1 e2 e3 e4 e5
  subst e1; subst e2; subst e3
  replace C : Cx E cX15_sort (some .int) RX15 := C
  replace e6 : (eMe E).name = "sort" := e6
  unfold g_Looks_sort
  refine s_bipush C (10 : Int32) dX15_sort_0 (by decide) ?_
  exact s_iret C rfl dX15_sort_2
