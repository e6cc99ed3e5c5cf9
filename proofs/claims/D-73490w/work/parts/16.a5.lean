/-! THE CLASSES' METHODS (printed by hgenapp.py): functions on a heap where the library's things are single cells; contracts -/
set_option maxRecDepth 100000
def g_FinalLinks_odds_j18  (h3 : Hp) : Option (Int32 × Hp) :=
  some ((-1 : Int32), h3)
def g_FinalLinks_odds_j74 (rec26 : (Int32 × Int32) → Hp → Option (Int32 × Hp)) (x0 : Nat) (x1 : Int32) (x2 : Int32) (x3 : Int32) (x4 : Int32) (x5 : Int32) (h19 : Hp) : Option (Int32 × Hp) :=
  rec26 (x4, (x5 + (1 : Int32))) h19
def g_FinalLinks_odds_L26 (x0 : Nat) (x1 : Int32) (x2 : Int32) (x3 : Int32) : (Int32 × Int32) → Hp → Option (Int32 × Hp) :=
  lp FU fun rec26 v26 h6 =>
    if x2 ≤ v26.2 then
      some (v26.1, h6)
    else
      (getR [1] 5 x0 h6).bind fun a7 =>
      (getR [1] 4 x0 h6).bind fun a8 =>
      bn (dsp (tg h6 a7 % 500) none [(3, g_Tree_as a7 a8 h6)]) fun r9 h10 =>
      bn (dsp (tg h10 r9 % 500) none [(3, g_Tree_drawn r9 (12 : Int32) (x3 + v26.2) h10)]) fun r11 h12 =>
      (getR [1] 7 x0 h12).bind fun a13 =>
      (getR [1] 5 x0 h12).bind fun a14 =>
      bn (dsp (tg h12 a13 % 500) none [(4, g_Judged_of a13 a14 h12)]) fun r15 h16 =>
      bn (dsp (tg h16 r15 % 500) none [(4, g_Judged_isChosen r15 x1 h16)]) fun r17 h18 =>
      if r17 = 0 then
        g_FinalLinks_odds_j74 rec26 x0 x1 x2 x3 v26.1 v26.2 h18
      else
        g_FinalLinks_odds_j74 rec26 x0 x1 x2 x3 (v26.1 + (1 : Int32)) v26.2 h18
def g_FinalLinks_odds (x0 : Nat) (x1 : Int32) (x2 : Int32) (x3 : Int32) (h : Hp) : Option (Int32 × Hp) :=
  bn (dsp (tg h x0 % 500) none [(1, g_FinalLinks_isBlock x0 x1 h)]) fun r1 h2 =>
  if r1 = 0 then
    g_FinalLinks_odds_j18 h2
  else
    bn (g_FinalLinks_isIn x2 (1 : Int32) (20 : Int32) h2) fun r4 h5 =>
    if r4 = 0 then
      g_FinalLinks_odds_j18 h5
    else
      g_FinalLinks_odds_L26 x0 x1 x2 x3 ((0 : Int32), (0 : Int32)) h5
theorem ct_g_FinalLinks_odds {G : Gx} {RL : Lv} {l : Launch} (hL : LvA G RL plA) (hJ : JK G RL l) (x0 : Nat) (x1 : Int32) (x2 : Int32) (x3 : Int32) (h : Hp) : Ct id G RL l yX1_odds (ws_ yX1_odds cX1_odds 6 (some .int)) 48 4179 finI [vr x0, .int x1, .int x2, .int x3] h (g_FinalLinks_odds x0 x1 x2 x3 h) := by
  refine Ct.of (Pl := plA) [(0, vr x0), (1, .int x1), (2, .int x2), (3, .int x3)] (by decide) hL rfl (Nat.le_of_ble_eq_true rfl) ?_
  intro E C e6 hf hlo e1 e2 e3 e4 e5
  subst e1; subst e2; subst e3
  replace C : Cx E cX1_odds (some .int) RX1 := C
  replace e6 : (eMe E).name = "odds" := e6
  unfold g_FinalLinks_odds
  refine s_aload_n C dX1_odds_0 0 rfl rfl ?_
  refine s_iload_n C dX1_odds_1 1 rfl rfl ?_
  refine s_dk 5 finI [] (fun r1 h2 => ?_) (fun hk => s_dsp 1 (fun ht => c_V C 1 [] 1 RX1 ro_1 (ct_g_FinalLinks_isBlock hL hJ x0 x1 h) (lw_V q2135 q2137 qs20 q107 q2138) nd_X1_isBlock rfl (le_fr hf rfl) (le_fr hlo rfl) rfl (Nat.le_of_ble_eq_true rfl) dX1_odds_2 hk ht) s_dsp0)
  have hj18 : ∀  (h3 : Hp), Sim id E (QM id E finI) h3 18 [] [] (g_FinalLinks_odds_j18 h3) := by
    intro h3
    refine s_iconst C (-1 : Int32) dX1_odds_18 (by decide) ?_
    exact s_iret C rfl dX1_odds_19
  refine s_if_eq C 18 dX1_odds_5 (by decide) ?_ ?_
  · refine Sim.keep [] rfl ?_
    exact hj18 _
  · refine s_iload_n C dX1_odds_8 2 rfl rfl ?_
    refine s_iconst C (1 : Int32) dX1_odds_9 (by decide) ?_
    refine s_bipush C (20 : Int32) dX1_odds_10 (by decide) ?_
    refine c_S C 3 [] (ct_g_FinalLinks_isIn hL hJ x2 (1 : Int32) (20 : Int32) h2) (lw_S q2171 q1775 q107 q1776) nd_X1_isIn.2 rfl (le_fr hf rfl) (le_fr hlo rfl) rfl (Nat.le_of_ble_eq_true rfl) dX1_odds_12 fun r4 h5 => ?_
    refine s_if_ne C 20 dX1_odds_15 (by decide) ?_ ?_
    · refine s_iconst C (0 : Int32) dX1_odds_20 (by decide) ?_
      refine s_istore (la' := [(4, .int (0 : Int32)), (0, vr x0), (1, .int x1), (2, .int x2), (3, .int x3)]) C dX1_odds_21 (lt_nl e5 rfl) rfl ?_
      refine s_iconst C (0 : Int32) dX1_odds_23 (by decide) ?_
      have hL26 : ∀ (x0 : Nat) (x1 : Int32) (x2 : Int32) (x3 : Int32) (v26 : (Int32 × Int32)) (h6 : Hp), Sim id E (QM id E finI) h6 26 [(0, vr x0), (1, .int x1), (2, .int x2), (3, .int x3), (4, .int v26.1), (5, .int v26.2)] [] (g_FinalLinks_odds_L26 x0 x1 x2 x3 v26 h6) := by
        intro x0 x1 x2 x3 v26 h6
        refine Sim.loop (fun v26 => [(0, vr x0), (1, .int x1), (2, .int x2), (3, .int x3), (4, .int v26.1), (5, .int v26.2)]) (fun _ => []) (fun rec26 hr26 v26 h6 => ?_) FU v26 h6
        refine s_iload C dX1_odds_26 5 rfl ?_
        refine s_iload_n C dX1_odds_28 2 rfl rfl ?_
        refine s_icmp_ge C 80 dX1_odds_29 (by decide) ?_ ?_
        · refine s_iload C dX1_odds_80 4 rfl ?_
          exact s_iret C rfl dX1_odds_82
        · refine s_aload_n C dX1_odds_32 0 rfl rfl ?_
          refine s_getR [1] C (fl1 ⟨fo_X1_38_1, rfl⟩) (pl_of e4 rfl) dX1_odds_33 fun a7 => ?_
          refine s_aload_n C dX1_odds_36 0 rfl rfl ?_
          refine s_getR [1] C (fl1 ⟨fo_X1_34_1, rfl⟩) (pl_of e4 rfl) dX1_odds_37 fun a8 => ?_
          refine s_dk 43 finR [] (fun r9 h10 => ?_) (fun hk => s_dsp 3 (fun ht => c_V C 1 [] 3 RX3 ro_3 (ct_g_Tree_as hL hJ a7 a8 h6) (lw_V q2224 q2225 q2226 q114 q2227) nd_X3_as rfl (le_fr hf rfl) (le_fr hlo rfl) rfl (Nat.le_of_ble_eq_true rfl) dX1_odds_40 hk ht) s_dsp0)
          refine s_bipush C (12 : Int32) dX1_odds_43 (by decide) ?_
          refine s_iload_n C dX1_odds_45 3 rfl rfl ?_
          refine s_iload C dX1_odds_46 5 rfl ?_
          refine s_iadd C dX1_odds_48 ?_
          refine s_dk 52 finI [] (fun r11 h12 => ?_) (fun hk => s_dsp 3 (fun ht => c_V C 2 [] 3 RX3 ro_3 (ct_g_Tree_drawn hL hJ r9 (12 : Int32) (x3 + v26.2) h10) (lw_V q2511 q2512 q2513 q114 q2514) nd_X3_drawn rfl (le_fr hf rfl) (le_fr hlo rfl) rfl (Nat.le_of_ble_eq_true rfl) dX1_odds_49 hk ht) s_dsp0)
          refine s_pop C dX1_odds_52 rfl ?_
          refine s_aload_n C dX1_odds_53 0 rfl rfl ?_
          refine s_getR [1] C (fl1 ⟨fo_X1_52_1, rfl⟩) (pl_of e4 rfl) dX1_odds_54 fun a13 => ?_
          refine s_aload_n C dX1_odds_57 0 rfl rfl ?_
          refine s_getR [1] C (fl1 ⟨fo_X1_38_1, rfl⟩) (pl_of e4 rfl) dX1_odds_58 fun a14 => ?_
          refine s_dk 64 finR [] (fun r15 h16 => ?_) (fun hk => s_dsp 4 (fun ht => c_V C 1 [] 4 RX4 ro_4 (ct_g_Judged_of hL hJ a13 a14 h12) (lw_V q722 q723 q724 q130 q725) nd_X4_of rfl (le_fr hf rfl) (le_fr hlo rfl) rfl (Nat.le_of_ble_eq_true rfl) dX1_odds_61 hk ht) s_dsp0)
          refine s_iload_n C dX1_odds_64 1 rfl rfl ?_
          refine s_dk 68 finI [] (fun r17 h18 => ?_) (fun hk => s_dsp 4 (fun ht => c_V C 1 [] 4 RX4 ro_4 (ct_g_Judged_isChosen hL hJ r15 x1 h16) (lw_V q2537 q2538 q2539 q130 q2540) nd_X4_isChosen rfl (le_fr hf rfl) (le_fr hlo rfl) rfl (Nat.le_of_ble_eq_true rfl) dX1_odds_65 hk ht) s_dsp0)
          have hj74 : ∀ (x4 : Int32) (x5 : Int32) (h19 : Hp), Sim id E (QM id E finI) h19 74 [(0, vr x0), (1, .int x1), (2, .int x2), (3, .int x3), (4, .int x4), (5, .int x5)] [] (g_FinalLinks_odds_j74 rec26 x0 x1 x2 x3 x4 x5 h19) := by
            intro x4 x5 h19
            refine s_iinc (la' := [(5, .int (x5 + (1 : Int32))), (0, vr x0), (1, .int x1), (2, .int x2), (3, .int x3), (4, .int x4)]) C 5 dX1_odds_74 rfl rfl (lt_nl e5 rfl) rfl ?_
            refine s_goto C 26 dX1_odds_77 (by decide) ?_
            refine Sim.keep [1, 2, 3, 4, 5, 0] rfl ?_
            exact hr26 _ _
          refine s_if_eq C 74 dX1_odds_68 (by decide) ?_ ?_
          · exact hj74 _ _ _
          · refine s_iinc (la' := [(4, .int (v26.1 + (1 : Int32))), (0, vr x0), (1, .int x1), (2, .int x2), (3, .int x3), (5, .int v26.2)]) C 4 dX1_odds_71 rfl rfl (lt_nl e5 rfl) rfl ?_
            refine Sim.keep [1, 2, 3, 4, 0, 5] rfl ?_
            exact hj74 _ _ _
      refine s_istore (la' := [(5, .int (0 : Int32)), (4, .int (0 : Int32)), (0, vr x0), (1, .int x1), (2, .int x2), (3, .int x3)]) C dX1_odds_24 (lt_nl e5 rfl) rfl ?_
      refine Sim.keep [2, 3, 4, 5, 1, 0] rfl ?_
      exact hL26 _ _ _ _ _ _
    · refine Sim.keep [] rfl ?_
      exact hj18 _

def g_FinalLinks_offends_j42  (h3 : Hp) : Option (Int32 × Hp) :=
  some ((-1 : Int32), h3)
def g_FinalLinks_offends (x0 : Nat) (x1 : Int32) (x2 : Int32) (x3 : Int32) (h : Hp) : Option (Int32 × Hp) :=
  bn (dsp (tg h x0 % 500) none [(1, g_FinalLinks_isVoter x0 x1 h)]) fun r1 h2 =>
  if r1 = 0 then
    g_FinalLinks_offends_j42 h2
  else
    bn (dsp (tg h2 x0 % 500) none [(1, g_FinalLinks_isBlock x0 x2 h2)]) fun r4 h5 =>
    if r4 = 0 then
      g_FinalLinks_offends_j42 h5
    else
      bn (dsp (tg h5 x0 % 500) none [(1, g_FinalLinks_isBlock x0 x3 h5)]) fun r6 h7 =>
      if r6 = 0 then
        g_FinalLinks_offends_j42 h7
      else
        (getR [1] 4 x0 h7).bind fun a8 =>
        bn (dsp (tg h7 a8 % 500) none [(3, g_Tree_whyVote a8 x1 x2 x3 h7)]) fun r9 h10 =>
        bn (g_FinalLinks_isIn r9 (1 : Int32) (3 : Int32) h10) fun r11 h12 =>
        if r11 = 0 then
          (getR [1] 4 x0 h12).bind fun a13 =>
          bn (newO 10 2 h12) fun o14 h15 =>
          bn (oLinkInit o14 x2 x3 h15) fun _ h16 =>
          bn (dsp (tg h16 a13 % 500) none [(3, g_Tree_offends a13 x1 o14 h16)]) fun r17 h18 =>
          some (r17, h18)
        else
          g_FinalLinks_offends_j42 h12
theorem ct_g_FinalLinks_offends {G : Gx} {RL : Lv} {l : Launch} (hL : LvA G RL plA) (hJ : JK G RL l) (x0 : Nat) (x1 : Int32) (x2 : Int32) (x3 : Int32) (h : Hp) : Ct id G RL l yX1_offends (ws_ yX1_offends cX1_offends 4 (some .int)) 46 4133 finI [vr x0, .int x1, .int x2, .int x3] h (g_FinalLinks_offends x0 x1 x2 x3 h) := by
  refine Ct.of (Pl := plA) [(0, vr x0), (1, .int x1), (2, .int x2), (3, .int x3)] (by decide) hL rfl (Nat.le_of_ble_eq_true rfl) ?_
  intro E C e6 hf hlo e1 e2 e3 e4 e5
  subst e1; subst e2; subst e3
  replace C : Cx E cX1_offends (some .int) RX1 := C
  replace e6 : (eMe E).name = "offends" := e6
  unfold g_FinalLinks_offends
  refine s_aload_n C dX1_offends_0 0 rfl rfl ?_
  refine s_iload_n C dX1_offends_1 1 rfl rfl ?_
  refine s_dk 5 finI [] (fun r1 h2 => ?_) (fun hk => s_dsp 1 (fun ht => c_V C 1 [] 1 RX1 ro_1 (ct_g_FinalLinks_isVoter hL hJ x0 x1 h) (lw_V q2166 q2168 qs22 q107 q2169) nd_X1_isVoter rfl (le_fr hf rfl) (le_fr hlo rfl) rfl (Nat.le_of_ble_eq_true rfl) dX1_offends_2 hk ht) s_dsp0)
  have hj42 : ∀  (h3 : Hp), Sim id E (QM id E finI) h3 42 [] [] (g_FinalLinks_offends_j42 h3) := by
    intro h3
    refine s_iconst C (-1 : Int32) dX1_offends_42 (by decide) ?_
    exact s_iret C rfl dX1_offends_43
  refine s_if_eq C 42 dX1_offends_5 (by decide) ?_ ?_
  · refine Sim.keep [] rfl ?_
    exact hj42 _
  · refine s_aload_n C dX1_offends_8 0 rfl rfl ?_
    refine s_iload_n C dX1_offends_9 2 rfl rfl ?_
    refine s_dk 13 finI [] (fun r4 h5 => ?_) (fun hk => s_dsp 1 (fun ht => c_V C 1 [] 1 RX1 ro_1 (ct_g_FinalLinks_isBlock hL hJ x0 x2 h2) (lw_V q2135 q2137 qs20 q107 q2138) nd_X1_isBlock rfl (le_fr hf rfl) (le_fr hlo rfl) rfl (Nat.le_of_ble_eq_true rfl) dX1_offends_10 hk ht) s_dsp0)
    refine s_if_eq C 42 dX1_offends_13 (by decide) ?_ ?_
    · refine Sim.keep [] rfl ?_
      exact hj42 _
    · refine s_aload_n C dX1_offends_16 0 rfl rfl ?_
      refine s_iload_n C dX1_offends_17 3 rfl rfl ?_
      refine s_dk 21 finI [] (fun r6 h7 => ?_) (fun hk => s_dsp 1 (fun ht => c_V C 1 [] 1 RX1 ro_1 (ct_g_FinalLinks_isBlock hL hJ x0 x3 h5) (lw_V q2135 q2137 qs20 q107 q2138) nd_X1_isBlock rfl (le_fr hf rfl) (le_fr hlo rfl) rfl (Nat.le_of_ble_eq_true rfl) dX1_offends_18 hk ht) s_dsp0)
      refine s_if_eq C 42 dX1_offends_21 (by decide) ?_ ?_
      · refine Sim.keep [] rfl ?_
        exact hj42 _
      · refine s_aload_n C dX1_offends_24 0 rfl rfl ?_
        refine s_getR [1] C (fl1 ⟨fo_X1_34_1, rfl⟩) (pl_of e4 rfl) dX1_offends_25 fun a8 => ?_
        refine s_iload_n C dX1_offends_28 1 rfl rfl ?_
        refine s_iload_n C dX1_offends_29 2 rfl rfl ?_
        refine s_iload_n C dX1_offends_30 3 rfl rfl ?_
        refine s_dk 34 finI [] (fun r9 h10 => ?_) (fun hk => s_dsp 3 (fun ht => c_V C 3 [] 3 RX3 ro_3 (ct_g_Tree_whyVote hL hJ a8 x1 x2 x3 h7) (lw_V q2373 q2261 q2262 q114 q2263) nd_X3_whyVote rfl (le_fr hf rfl) (le_fr hlo rfl) rfl (Nat.le_of_ble_eq_true rfl) dX1_offends_31 hk ht) s_dsp0)
        refine s_iconst C (1 : Int32) dX1_offends_34 (by decide) ?_
        refine s_iconst C (3 : Int32) dX1_offends_35 (by decide) ?_
        refine c_S C 3 [] (ct_g_FinalLinks_isIn hL hJ r9 (1 : Int32) (3 : Int32) h10) (lw_S q2171 q1775 q107 q1776) nd_X1_isIn.2 rfl (le_fr hf rfl) (le_fr hlo rfl) rfl (Nat.le_of_ble_eq_true rfl) dX1_offends_36 fun r11 h12 => ?_
        refine s_if_eq C 44 dX1_offends_39 (by decide) ?_ ?_
        · refine s_aload_n C dX1_offends_44 0 rfl rfl ?_
          refine s_getR [1] C (fl1 ⟨fo_X1_34_1, rfl⟩) (pl_of e4 rfl) dX1_offends_45 fun a13 => ?_
          refine s_iload_n C dX1_offends_48 1 rfl rfl ?_
          refine s_newO 10 2 C no_X1_249 (pl_of1 e4 rfl) dX1_offends_49 fun o14 h15 zo14 => ?_
          refine s_dup C dX1_offends_52 rfl ?_
          refine s_iload_n C dX1_offends_53 2 rfl rfl ?_
          refine s_iload_n C dX1_offends_54 3 rfl rfl ?_
          refine c_I C 2 [vr o14, .int x1, vr a13] zo14 (jk_19 hJ o14 x2 x3 h15) (lw_meth q2270) q157 q2375 q2269 rfl nd_X11_init.2 rfl (le_fr hf rfl) (le_fr hlo rfl) rfl (Nat.le_of_ble_eq_true rfl) dX1_offends_55 fun _ h16 => ?_
          refine s_dk 61 finI [] (fun r17 h18 => ?_) (fun hk => s_dsp 3 (fun ht => c_V C 2 [] 3 RX3 ro_3 (ct_g_Tree_offends hL hJ a13 x1 o14 h16) (lw_V q2376 q2377 q2378 q114 q2379) nd_X3_offends rfl (le_fr hf rfl) (le_fr hlo rfl) rfl (Nat.le_of_ble_eq_true rfl) dX1_offends_58 hk ht) s_dsp0)
          exact s_iret C rfl dX1_offends_61
        · refine Sim.keep [] rfl ?_
          exact hj42 _

def g_FinalLinks_restore_j21  (h3 : Hp) : Option (Int32 × Hp) :=
  if nrw 2 (0 : Int32) = (0 : Int32) then some ((0 : Int32), h3) else none
def g_FinalLinks_restore (x0 : Nat) (x1 : Int32) (h : Hp) : Option (Int32 × Hp) :=
  bn (g_FinalLinks_isIn x1 (0 : Int32) (1 : Int32) h) fun r1 h2 =>
  if r1 = 0 then
    g_FinalLinks_restore_j21 h2
  else
    (getR [1] 15 x0 h2).bind fun a4 =>
    (aldR [208] a4 x1 h2).bind fun a5 =>
    (getR [5] 0 a5 h2).bind fun a6 =>
    if a6 = 0 then
      g_FinalLinks_restore_j21 h2
    else
      (getR [1] 15 x0 h2).bind fun a7 =>
      (aldR [208] a7 x1 h2).bind fun a8 =>
      (getR [5] 0 a8 h2).bind fun a9 =>
      (putR [1] 3 x0 a9 h2).bind fun h10 =>
      (getR [1] 15 x0 h10).bind fun a11 =>
      (aldR [208] a11 x1 h10).bind fun a12 =>
      (getR [5] 1 a12 h10).bind fun a13 =>
      (putR [1] 8 x0 a13 h10).bind fun h14 =>
      (getR [1] 6 x0 h14).bind fun a15 =>
      (getR [1] 4 x0 h14).bind fun a16 =>
      (getR [1] 15 x0 h14).bind fun a17 =>
      (aldR [208] a17 x1 h14).bind fun a18 =>
      (getR [5] 2 a18 h14).bind fun a19 =>
      bn (dsp (tg h14 a16 % 500) none [(3, g_Tree_as a16 a19 h14)]) fun r20 h21 =>
      bn (dsp (tg h21 a15 % 500) none [(4, g_Judged_of a15 r20 h21)]) fun r22 h23 =>
      (putI [1] 0 10 x0 (0 : Int32) h23).bind fun h24 =>
      if nrw 2 (1 : Int32) = (1 : Int32) then some ((1 : Int32), h24) else none
theorem ct_g_FinalLinks_restore {G : Gx} {RL : Lv} {l : Launch} (hL : LvA G RL plA) (hJ : JK G RL l) (x0 : Nat) (x1 : Int32) (h : Hp) : Ct id G RL l yX1_restore (ws_ yX1_restore cX1_restore 2 (some .boolean)) 48 4178 finI [vr x0, .int x1] h (g_FinalLinks_restore x0 x1 h) := by
  refine Ct.of (Pl := plA) [(0, vr x0), (1, .int x1)] (by decide) hL rfl (Nat.le_of_ble_eq_true rfl) ?_
  intro E C e6 hf hlo e1 e2 e3 e4 e5
  subst e1; subst e2; subst e3
  replace C : Cx E cX1_restore (some .boolean) RX1 := C
  replace e6 : (eMe E).name = "restore" := e6
  unfold g_FinalLinks_restore
  refine s_iload_n C dX1_restore_0 1 rfl rfl ?_
  refine s_iconst C (0 : Int32) dX1_restore_1 (by decide) ?_
  refine s_iconst C (1 : Int32) dX1_restore_2 (by decide) ?_
  refine c_S C 3 [] (ct_g_FinalLinks_isIn hL hJ x1 (0 : Int32) (1 : Int32) h) (lw_S q2171 q1775 q107 q1776) nd_X1_isIn.2 rfl (le_fr hf rfl) (le_fr hlo rfl) rfl (Nat.le_of_ble_eq_true rfl) dX1_restore_3 fun r1 h2 => ?_
  have hj21 : ∀  (h3 : Hp), Sim id E (QM id E finI) h3 21 [] [] (g_FinalLinks_restore_j21 h3) := by
    intro h3
    refine s_iconst C (0 : Int32) dX1_restore_21 (by decide) ?_
    exact s_zret 2 C (by decide) (by decide) rfl dX1_restore_22
  refine s_if_eq C 21 dX1_restore_6 (by decide) ?_ ?_
  · refine Sim.keep [] rfl ?_
    exact hj21 _
  · refine s_aload_n C dX1_restore_9 0 rfl rfl ?_
    refine s_getR [1] C (fl1 ⟨fo_X1_79_1, rfl⟩) (pl_of e4 rfl) dX1_restore_10 fun a4 => ?_
    refine s_iload_n C dX1_restore_13 1 rfl rfl ?_
    refine s_aald [208] 8 C (by decide) (fl1 rfl) (pl_of e4 rfl) dX1_restore_14 fun a5 => ?_
    refine s_getR [5] C (fl1 ⟨fo_X1_444_5, rfl⟩) (pl_of e4 rfl) dX1_restore_15 fun a6 => ?_
    refine s_ifnonnull C 23 dX1_restore_18 (by decide) ?_ ?_
    · refine s_aload_n C dX1_restore_23 0 rfl rfl ?_
      refine s_aload_n C dX1_restore_24 0 rfl rfl ?_
      refine s_getR [1] C (fl1 ⟨fo_X1_79_1, rfl⟩) (pl_of e4 rfl) dX1_restore_25 fun a7 => ?_
      refine s_iload_n C dX1_restore_28 1 rfl rfl ?_
      refine s_aald [208] 8 C (by decide) (fl1 rfl) (pl_of e4 rfl) dX1_restore_29 fun a8 => ?_
      refine s_getR [5] C (fl1 ⟨fo_X1_444_5, rfl⟩) (pl_of e4 rfl) dX1_restore_30 fun a9 => ?_
      refine s_putR [1] C (fl1 ⟨by decide, fo_X1_23_1, rfl⟩) (pl_of e4 rfl) (fl1 (Or.inl rfl)) dX1_restore_33 fun h10 => ?_
      refine s_aload_n C dX1_restore_36 0 rfl rfl ?_
      refine s_aload_n C dX1_restore_37 0 rfl rfl ?_
      refine s_getR [1] C (fl1 ⟨fo_X1_79_1, rfl⟩) (pl_of e4 rfl) dX1_restore_38 fun a11 => ?_
      refine s_iload_n C dX1_restore_41 1 rfl rfl ?_
      refine s_aald [208] 8 C (by decide) (fl1 rfl) (pl_of e4 rfl) dX1_restore_42 fun a12 => ?_
      refine s_getR [5] C (fl1 ⟨fo_X1_445_5, rfl⟩) (pl_of e4 rfl) dX1_restore_43 fun a13 => ?_
      refine s_putR [1] C (fl1 ⟨by decide, fo_X1_106_1, rfl⟩) (pl_of e4 rfl) (fl1 (Or.inl rfl)) dX1_restore_46 fun h14 => ?_
      refine s_aload_n C dX1_restore_49 0 rfl rfl ?_
      refine s_getR [1] C (fl1 ⟨fo_X1_48_1, rfl⟩) (pl_of e4 rfl) dX1_restore_50 fun a15 => ?_
      refine s_aload_n C dX1_restore_53 0 rfl rfl ?_
      refine s_getR [1] C (fl1 ⟨fo_X1_34_1, rfl⟩) (pl_of e4 rfl) dX1_restore_54 fun a16 => ?_
      refine s_aload_n C dX1_restore_57 0 rfl rfl ?_
      refine s_getR [1] C (fl1 ⟨fo_X1_79_1, rfl⟩) (pl_of e4 rfl) dX1_restore_58 fun a17 => ?_
      refine s_iload_n C dX1_restore_61 1 rfl rfl ?_
      refine s_aald [208] 8 C (by decide) (fl1 rfl) (pl_of e4 rfl) dX1_restore_62 fun a18 => ?_
      refine s_getR [5] C (fl1 ⟨fo_X1_446_5, rfl⟩) (pl_of e4 rfl) dX1_restore_63 fun a19 => ?_
      refine s_dk 69 finR [vr a15] (fun r20 h21 => ?_) (fun hk => s_dsp 3 (fun ht => c_V C 1 [vr a15] 3 RX3 ro_3 (ct_g_Tree_as hL hJ a16 a19 h14) (lw_V q2224 q2225 q2226 q114 q2227) nd_X3_as rfl (le_fr hf rfl) (le_fr hlo rfl) rfl (Nat.le_of_ble_eq_true rfl) dX1_restore_66 hk ht) s_dsp0)
      refine s_dk 72 finR [] (fun r22 h23 => ?_) (fun hk => s_dsp 4 (fun ht => c_V C 1 [] 4 RX4 ro_4 (ct_g_Judged_of hL hJ a15 r20 h21) (lw_V q722 q723 q724 q130 q725) nd_X4_of rfl (le_fr hf rfl) (le_fr hlo rfl) rfl (Nat.le_of_ble_eq_true rfl) dX1_restore_69 hk ht) s_dsp0)
      refine s_pop C dX1_restore_72 rfl ?_
      refine s_aload_n C dX1_restore_73 0 rfl rfl ?_
      refine s_iconst C (0 : Int32) dX1_restore_74 (by decide) ?_
      refine s_putI [1] 0 C (by decide) (by decide) (fl1 ⟨⟨by decide, fo_X1_110_1, rfl⟩, rfl⟩) (pl_of e4 rfl) (fl1 (Or.inl rfl)) dX1_restore_75 fun h24 => ?_
      refine s_iconst C (1 : Int32) dX1_restore_78 (by decide) ?_
      exact s_zret 2 C (by decide) (by decide) rfl dX1_restore_79
    · refine Sim.keep [] rfl ?_
      exact hj21 _

def g_Than_holds_j140 (y0 : Int32) (h6 : Hp) : Option (Int32 × Hp) :=
  if nrw 2 y0 = y0 then some (y0, h6) else none
def g_Than_holds_j76 (x0 : Nat) (y0 : Int32) (h4 : Hp) : Option (Int32 × Hp) :=
  (getI [20] 1 x0 h4).bind fun a5 =>
  if a5 = (60 : Int32) then
    (getI [20] 2 x0 h4).bind fun a10 =>
    if a10 ≤ y0 then
      g_Than_holds_j140 (0 : Int32) h4
    else
      g_Than_holds_j140 (1 : Int32) h4
  else
    (getI [20] 1 x0 h4).bind fun a7 =>
    if a7 = (61 : Int32) then
      (getI [20] 2 x0 h4).bind fun a9 =>
      if y0 = a9 then
        g_Than_holds_j140 (1 : Int32) h4
      else
        g_Than_holds_j140 (0 : Int32) h4
    else
      (getI [20] 2 x0 h4).bind fun a8 =>
      if y0 ≤ a8 then
        g_Than_holds_j140 (0 : Int32) h4
      else
        g_Than_holds_j140 (1 : Int32) h4
def g_Than_holds_j21 (x0 : Nat) (x1 : Nat) (x2 : Int32) (h2 : Hp) : Option (Int32 × Hp) :=
  (getI [20] 0 x0 h2).bind fun a3 =>
  if a3 = 0 then
    (getR [4] 0 x1 h2).bind fun a18 =>
    bn (dsp (tg h2 a18 % 500) none [(3, g_Tree_height a18 x2 h2)]) fun r19 h20 =>
    g_Than_holds_j76 x0 r19 h20
  else
    (getI [20] 0 x0 h2).bind fun a11 =>
    if a11 = (1 : Int32) then
      (getR [4] 0 x1 h2).bind fun a15 =>
      bn (dsp (tg h2 a15 % 500) none [(3, g_Tree_level a15 x2 h2)]) fun r16 h17 =>
      g_Than_holds_j76 x0 r16 h17
    else
      (getI [20] 0 x0 h2).bind fun a12 =>
      if a12 = (2 : Int32) then
        (getR [4] 8 x1 h2).bind fun a13 =>
        (aldI [200] a13 x2 h2).bind fun a14 =>
        g_Than_holds_j76 x0 a14 h2
      else
        g_Than_holds_j76 x0 x2 h2
def g_Than_holds (x0 : Nat) (x1 : Nat) (x2 : Int32) (h : Hp) : Option (Int32 × Hp) :=
  (getI [20] 0 x0 h).bind fun a1 =>
  if a1 = (1 : Int32) then
    (getR [4] 0 x1 h).bind fun a21 =>
    bn (dsp (tg h a21 % 500) none [(3, g_Tree_isPoint a21 x2 h)]) fun r22 h23 =>
    if r22 = 0 then
      if nrw 2 (0 : Int32) = (0 : Int32) then some ((0 : Int32), h23) else none
    else
      g_Than_holds_j21 x0 x1 x2 h23
  else
    g_Than_holds_j21 x0 x1 x2 h
theorem ct_g_Than_holds {G : Gx} {RL : Lv} {l : Launch} (hL : LvA G RL plA) (hJ : JK G RL l) (x0 : Nat) (x1 : Nat) (x2 : Int32) (h : Hp) : Ct id G RL l yX23_holds (ws_ yX23_holds cX23_holds 4 (some .boolean)) 43 4063 finI [vr x0, vr x1, .int x2] h (g_Than_holds x0 x1 x2 h) := by
  refine Ct.of (Pl := plA) [(0, vr x0), (1, vr x1), (2, .int x2)] (by decide) hL rfl (Nat.le_of_ble_eq_true rfl) ?_
  intro E C e6 hf hlo e1 e2 e3 e4 e5
  subst e1; subst e2; subst e3
  replace C : Cx E cX23_holds (some .boolean) RX23 := C
  replace e6 : (eMe E).name = "holds" := e6
  unfold g_Than_holds
  refine s_aload_n C dX23_holds_0 0 rfl rfl ?_
  refine s_getI [20] C (fl1 ⟨fo_X23_7_20, rfl⟩) (pl_of e4 rfl) dX23_holds_1 fun a1 => ?_
  refine s_iconst C (1 : Int32) dX23_holds_4 (by decide) ?_
  have hj21 : ∀ (x0 : Nat) (x1 : Nat) (x2 : Int32) (h2 : Hp), Sim id E (QM id E finI) h2 21 [(0, vr x0), (1, vr x1), (2, .int x2)] [] (g_Than_holds_j21 x0 x1 x2 h2) := by
    intro x0 x1 x2 h2
    refine s_aload_n C dX23_holds_21 0 rfl rfl ?_
    refine s_getI [20] C (fl1 ⟨fo_X23_7_20, rfl⟩) (pl_of e4 rfl) dX23_holds_22 fun a3 => ?_
    have hj76 : ∀ (x0 : Nat) (y0 : Int32) (h4 : Hp), Sim id E (QM id E finI) h4 76 [(0, vr x0)] [.int y0] (g_Than_holds_j76 x0 y0 h4) := by
      intro x0 y0 h4
      refine s_istore_n (la' := [(3, .int y0), (0, vr x0)]) C 3 dX23_holds_76 rfl (lt_nl e5 rfl) rfl ?_
      refine s_aload_n C dX23_holds_77 1 rfl rfl ?_
      refine s_getI [20] C (fl1 ⟨fo_X23_13_20, rfl⟩) (pl_of e4 rfl) dX23_holds_78 fun a5 => ?_
      refine s_bipush C (60 : Int32) dX23_holds_81 (by decide) ?_
      have hj140 : ∀ (y0 : Int32) (h6 : Hp), Sim id E (QM id E finI) h6 140 [] [.int y0] (g_Than_holds_j140 y0 h6) := by
        intro y0 h6
        exact s_zret 2 C (by decide) (by decide) rfl dX23_holds_140
      refine s_icmp_ne C 102 dX23_holds_83 (by decide) ?_ ?_
      · refine s_aload_n C dX23_holds_102 1 rfl rfl ?_
        refine s_getI [20] C (fl1 ⟨fo_X23_13_20, rfl⟩) (pl_of e4 rfl) dX23_holds_103 fun a7 => ?_
        refine s_bipush C (61 : Int32) dX23_holds_106 (by decide) ?_
        refine s_icmp_ne C 127 dX23_holds_108 (by decide) ?_ ?_
        · refine s_iload_n C dX23_holds_127 0 rfl rfl ?_
          refine s_aload_n C dX23_holds_128 1 rfl rfl ?_
          refine s_getI [20] C (fl1 ⟨fo_X23_16_20, rfl⟩) (pl_of e4 rfl) dX23_holds_129 fun a8 => ?_
          refine s_icmp_le C 139 dX23_holds_132 (by decide) ?_ ?_
          · refine s_iconst C (0 : Int32) dX23_holds_139 (by decide) ?_
            refine Sim.keep [] rfl ?_
            exact hj140 _ _
          · refine s_iconst C (1 : Int32) dX23_holds_135 (by decide) ?_
            refine s_goto C 140 dX23_holds_136 (by decide) ?_
            refine Sim.keep [] rfl ?_
            exact hj140 _ _
        · refine s_iload_n C dX23_holds_111 0 rfl rfl ?_
          refine s_aload_n C dX23_holds_112 1 rfl rfl ?_
          refine s_getI [20] C (fl1 ⟨fo_X23_16_20, rfl⟩) (pl_of e4 rfl) dX23_holds_113 fun a9 => ?_
          refine s_icmp_ne C 123 dX23_holds_116 (by decide) ?_ ?_
          · refine s_iconst C (0 : Int32) dX23_holds_123 (by decide) ?_
            refine s_goto C 140 dX23_holds_124 (by decide) ?_
            refine Sim.keep [] rfl ?_
            exact hj140 _ _
          · refine s_iconst C (1 : Int32) dX23_holds_119 (by decide) ?_
            refine s_goto C 140 dX23_holds_120 (by decide) ?_
            refine Sim.keep [] rfl ?_
            exact hj140 _ _
      · refine s_iload_n C dX23_holds_86 0 rfl rfl ?_
        refine s_aload_n C dX23_holds_87 1 rfl rfl ?_
        refine s_getI [20] C (fl1 ⟨fo_X23_16_20, rfl⟩) (pl_of e4 rfl) dX23_holds_88 fun a10 => ?_
        refine s_icmp_ge C 98 dX23_holds_91 (by decide) ?_ ?_
        · refine s_iconst C (0 : Int32) dX23_holds_98 (by decide) ?_
          refine s_goto C 140 dX23_holds_99 (by decide) ?_
          refine Sim.keep [] rfl ?_
          exact hj140 _ _
        · refine s_iconst C (1 : Int32) dX23_holds_94 (by decide) ?_
          refine s_goto C 140 dX23_holds_95 (by decide) ?_
          refine Sim.keep [] rfl ?_
          exact hj140 _ _
    refine s_if_ne C 39 dX23_holds_25 (by decide) ?_ ?_
    · refine s_aload_n C dX23_holds_39 0 rfl rfl ?_
      refine s_getI [20] C (fl1 ⟨fo_X23_7_20, rfl⟩) (pl_of e4 rfl) dX23_holds_40 fun a11 => ?_
      refine s_iconst C (1 : Int32) dX23_holds_43 (by decide) ?_
      refine s_icmp_ne C 58 dX23_holds_44 (by decide) ?_ ?_
      · refine s_aload_n C dX23_holds_58 0 rfl rfl ?_
        refine s_getI [20] C (fl1 ⟨fo_X23_7_20, rfl⟩) (pl_of e4 rfl) dX23_holds_59 fun a12 => ?_
        refine s_iconst C (2 : Int32) dX23_holds_62 (by decide) ?_
        refine s_icmp_ne C 75 dX23_holds_63 (by decide) ?_ ?_
        · refine s_iload_n C dX23_holds_75 2 rfl rfl ?_
          refine Sim.keep [0] rfl ?_
          exact hj76 _ _ _
        · refine s_aload_n C dX23_holds_66 1 rfl rfl ?_
          refine s_getR [4] C (fl1 ⟨fo_X23_38_4, rfl⟩) (pl_of e4 rfl) dX23_holds_67 fun a13 => ?_
          refine s_iload_n C dX23_holds_70 2 rfl rfl ?_
          refine s_iald [200] C (fl1 rfl) (pl_of e4 rfl) dX23_holds_71 fun a14 => ?_
          refine s_goto C 76 dX23_holds_72 (by decide) ?_
          refine Sim.keep [0] rfl ?_
          exact hj76 _ _ _
      · refine s_aload_n C dX23_holds_47 1 rfl rfl ?_
        refine s_getR [4] C (fl1 ⟨fo_X23_19_4, rfl⟩) (pl_of e4 rfl) dX23_holds_48 fun a15 => ?_
        refine s_iload_n C dX23_holds_51 2 rfl rfl ?_
        refine s_dk 55 finI [] (fun r16 h17 => ?_) (fun hk => s_dsp 3 (fun ht => c_V C 1 [] 3 RX3 ro_3 (ct_g_Tree_level hL hJ a15 x2 h2) (lw_V q2793 q754 q755 q114 q756) nd_X3_level rfl (le_fr hf rfl) (le_fr hlo rfl) rfl (Nat.le_of_ble_eq_true rfl) dX23_holds_52 hk ht) s_dsp0)
        refine s_goto C 76 dX23_holds_55 (by decide) ?_
        refine Sim.keep [0] rfl ?_
        exact hj76 _ _ _
    · refine s_aload_n C dX23_holds_28 1 rfl rfl ?_
      refine s_getR [4] C (fl1 ⟨fo_X23_19_4, rfl⟩) (pl_of e4 rfl) dX23_holds_29 fun a18 => ?_
      refine s_iload_n C dX23_holds_32 2 rfl rfl ?_
      refine s_dk 36 finI [] (fun r19 h20 => ?_) (fun hk => s_dsp 3 (fun ht => c_V C 1 [] 3 RX3 ro_3 (ct_g_Tree_height hL hJ a18 x2 h2) (lw_V q2792 q758 q759 q114 q760) nd_X3_height rfl (le_fr hf rfl) (le_fr hlo rfl) rfl (Nat.le_of_ble_eq_true rfl) dX23_holds_33 hk ht) s_dsp0)
      refine s_goto C 76 dX23_holds_36 (by decide) ?_
      refine Sim.keep [0] rfl ?_
      exact hj76 _ _ _
  refine s_icmp_ne C 21 dX23_holds_5 (by decide) ?_ ?_
  · exact hj21 _ _ _ _
  · refine s_aload_n C dX23_holds_8 1 rfl rfl ?_
    refine s_getR [4] C (fl1 ⟨fo_X23_19_4, rfl⟩) (pl_of e4 rfl) dX23_holds_9 fun a21 => ?_
    refine s_iload_n C dX23_holds_12 2 rfl rfl ?_
    refine s_dk 16 finI [] (fun r22 h23 => ?_) (fun hk => s_dsp 3 (fun ht => c_V C 1 [] 3 RX3 ro_3 (ct_g_Tree_isPoint hL hJ a21 x2 h) (lw_V q2791 q2163 q2164 q114 q2165) nd_X3_isPoint rfl (le_fr hf rfl) (le_fr hlo rfl) rfl (Nat.le_of_ble_eq_true rfl) dX23_holds_13 hk ht) s_dsp0)
    refine s_if_ne C 21 dX23_holds_16 (by decide) ?_ ?_
    · exact hj21 _ _ _ _
    · refine s_iconst C (0 : Int32) dX23_holds_19 (by decide) ?_
      exact s_zret 2 C (by decide) (by decide) rfl dX23_holds_20

def g_Under_holds (x0 : Nat) (x1 : Nat) (x2 : Int32) (h : Hp) : Option (Int32 × Hp) :=
  (getR [4] 0 x1 h).bind fun a1 =>
  (getI [18] 0 x0 h).bind fun a2 =>
  bn (dsp (tg h a1 % 500) none [(3, g_Tree_isAhead a1 a2 x2 h)]) fun r3 h4 =>
  if nrw 2 r3 = r3 then some (r3, h4) else none
theorem ct_g_Under_holds {G : Gx} {RL : Lv} {l : Launch} (hL : LvA G RL plA) (hJ : JK G RL l) (x0 : Nat) (x1 : Nat) (x2 : Int32) (h : Hp) : Ct id G RL l yX21_holds (ws_ yX21_holds cX21_holds 3 (some .boolean)) 44 4087 finI [vr x0, vr x1, .int x2] h (g_Under_holds x0 x1 x2 h) := by
  refine Ct.of (Pl := plA) [(0, vr x0), (1, vr x1), (2, .int x2)] (by decide) hL rfl (Nat.le_of_ble_eq_true rfl) ?_
  intro E C e6 hf hlo e1 e2 e3 e4 e5
  subst e1; subst e2; subst e3
  replace C : Cx E cX21_holds (some .boolean) RX21 := C
  replace e6 : (eMe E).name = "holds" := e6
  unfold g_Under_holds
  refine s_aload_n C dX21_holds_0 1 rfl rfl ?_
  refine s_getR [4] C (fl1 ⟨fo_X21_13_4, rfl⟩) (pl_of e4 rfl) dX21_holds_1 fun a1 => ?_
  refine s_aload_n C dX21_holds_4 0 rfl rfl ?_
  refine s_getI [18] C (fl1 ⟨fo_X21_7_18, rfl⟩) (pl_of e4 rfl) dX21_holds_5 fun a2 => ?_
  refine s_iload_n C dX21_holds_8 2 rfl rfl ?_
  refine s_dk 12 finI [] (fun r3 h4 => ?_) (fun hk => s_dsp 3 (fun ht => c_V C 2 [] 3 RX3 ro_3 (ct_g_Tree_isAhead hL hJ a1 a2 x2 h) (lw_V q2799 q1403 q1404 q114 q1405) nd_X3_isAhead rfl (le_fr hf rfl) (le_fr hlo rfl) rfl (Nat.le_of_ble_eq_true rfl) dX21_holds_9 hk ht) s_dsp0)
  exact s_zret 2 C (by decide) (by decide) rfl dX21_holds_12

def g_What_holds (x0 : Nat) (x1 : Nat) (x2 : Int32) (h : Hp) : Option (Int32 × Hp) :=
  (getI [19] 0 x0 h).bind fun a1 =>
  swi a1 (bn (dsp (tg h x1 % 500) none [(4, g_Judged_isChosen x1 x2 h)]) fun r12 h13 =>
    if nrw 2 r12 = r12 then some (r12, h13) else none) [
    ((0 : Int32), (getR [4] 0 x1 h).bind fun a2 =>
    bn (dsp (tg h a2 % 500) none [(3, g_Tree_isLeaf a2 x2 h)]) fun r3 h4 =>
    if nrw 2 r3 = r3 then some (r3, h4) else none),
    ((1 : Int32), (getR [4] 0 x1 h).bind fun a5 =>
    bn (dsp (tg h a5 % 500) none [(3, g_Tree_isPoint a5 x2 h)]) fun r6 h7 =>
    if nrw 2 r6 = r6 then some (r6, h7) else none),
    ((2 : Int32), bn (dsp (tg h x1 % 500) none [(4, g_Judged_isJust x1 x2 h)]) fun r8 h9 =>
    if nrw 2 r8 = r8 then some (r8, h9) else none),
    ((3 : Int32), bn (dsp (tg h x1 % 500) none [(4, g_Judged_isFinal x1 x2 h)]) fun r10 h11 =>
    if nrw 2 r10 = r10 then some (r10, h11) else none)]
theorem ct_g_What_holds {G : Gx} {RL : Lv} {l : Launch} (hL : LvA G RL plA) (hJ : JK G RL l) (x0 : Nat) (x1 : Nat) (x2 : Int32) (h : Hp) : Ct id G RL l yX22_holds (ws_ yX22_holds cX22_holds 3 (some .boolean)) 43 4063 finI [vr x0, vr x1, .int x2] h (g_What_holds x0 x1 x2 h) := by
  refine Ct.of (Pl := plA) [(0, vr x0), (1, vr x1), (2, .int x2)] (by decide) hL rfl (Nat.le_of_ble_eq_true rfl) ?_
  intro E C e6 hf hlo e1 e2 e3 e4 e5
  subst e1; subst e2; subst e3
  replace C : Cx E cX22_holds (some .boolean) RX22 := C
  replace e6 : (eMe E).name = "holds" := e6
  unfold g_What_holds
  refine s_aload_n C dX22_holds_0 0 rfl rfl ?_
  refine s_getI [19] C (fl1 ⟨fo_X22_7_19, rfl⟩) (pl_of e4 rfl) dX22_holds_1 fun a1 => ?_
  refine s_tsw C 66 dX22_holds_4 [(0 : Int32), (1 : Int32), (2 : Int32), (3 : Int32)] rfl (by decide +kernel) (by decide) (by decide) ⟨⟨36, by decide, ?_⟩, ⟨⟨45, by decide, ?_⟩, ⟨⟨54, by decide, ?_⟩, ⟨⟨60, by decide, ?_⟩, trivial⟩⟩⟩⟩ ?_
  · refine s_aload_n C dX22_holds_36 1 rfl rfl ?_
    refine s_getR [4] C (fl1 ⟨fo_X22_13_4, rfl⟩) (pl_of e4 rfl) dX22_holds_37 fun a2 => ?_
    refine s_iload_n C dX22_holds_40 2 rfl rfl ?_
    refine s_dk 44 finI [] (fun r3 h4 => ?_) (fun hk => s_dsp 3 (fun ht => c_V C 1 [] 3 RX3 ro_3 (ct_g_Tree_isLeaf hL hJ a2 x2 h) (lw_V q2802 q2803 q2804 q114 q2805) nd_X3_isLeaf rfl (le_fr hf rfl) (le_fr hlo rfl) rfl (Nat.le_of_ble_eq_true rfl) dX22_holds_41 hk ht) s_dsp0)
    exact s_zret 2 C (by decide) (by decide) rfl dX22_holds_44
  · refine s_aload_n C dX22_holds_45 1 rfl rfl ?_
    refine s_getR [4] C (fl1 ⟨fo_X22_13_4, rfl⟩) (pl_of e4 rfl) dX22_holds_46 fun a5 => ?_
    refine s_iload_n C dX22_holds_49 2 rfl rfl ?_
    refine s_dk 53 finI [] (fun r6 h7 => ?_) (fun hk => s_dsp 3 (fun ht => c_V C 1 [] 3 RX3 ro_3 (ct_g_Tree_isPoint hL hJ a5 x2 h) (lw_V q2806 q2163 q2164 q114 q2165) nd_X3_isPoint rfl (le_fr hf rfl) (le_fr hlo rfl) rfl (Nat.le_of_ble_eq_true rfl) dX22_holds_50 hk ht) s_dsp0)
    exact s_zret 2 C (by decide) (by decide) rfl dX22_holds_53
  · refine s_aload_n C dX22_holds_54 1 rfl rfl ?_
    refine s_iload_n C dX22_holds_55 2 rfl rfl ?_
    refine s_dk 59 finI [] (fun r8 h9 => ?_) (fun hk => s_dsp 4 (fun ht => c_V C 1 [] 4 RX4 ro_4 (ct_g_Judged_isJust hL hJ x1 x2 h) (lw_V q2807 q1348 q1349 q130 q1350) nd_X4_isJust rfl (le_fr hf rfl) (le_fr hlo rfl) rfl (Nat.le_of_ble_eq_true rfl) dX22_holds_56 hk ht) s_dsp0)
    exact s_zret 2 C (by decide) (by decide) rfl dX22_holds_59
  · refine s_aload_n C dX22_holds_60 1 rfl rfl ?_
    refine s_iload_n C dX22_holds_61 2 rfl rfl ?_
    refine s_dk 65 finI [] (fun r10 h11 => ?_) (fun hk => s_dsp 4 (fun ht => c_V C 1 [] 4 RX4 ro_4 (ct_g_Judged_isFinal hL hJ x1 x2 h) (lw_V q2808 q2447 q2448 q130 q2449) nd_X4_isFinal rfl (le_fr hf rfl) (le_fr hlo rfl) rfl (Nat.le_of_ble_eq_true rfl) dX22_holds_62 hk ht) s_dsp0)
    exact s_zret 2 C (by decide) (by decide) rfl dX22_holds_65
  · refine s_aload_n C dX22_holds_66 1 rfl rfl ?_
    refine s_iload_n C dX22_holds_67 2 rfl rfl ?_
    refine s_dk 71 finI [] (fun r12 h13 => ?_) (fun hk => s_dsp 4 (fun ht => c_V C 1 [] 4 RX4 ro_4 (ct_g_Judged_isChosen hL hJ x1 x2 h) (lw_V q2809 q2538 q2539 q130 q2540) nd_X4_isChosen rfl (le_fr hf rfl) (le_fr hlo rfl) rfl (Nat.le_of_ble_eq_true rfl) dX22_holds_68 hk ht) s_dsp0)
    exact s_zret 2 C (by decide) (by decide) rfl dX22_holds_71

def g_SentenceReader_init (x0 : Nat) (x1 : Nat) (x2 : Int32) (x3 : Nat) (h : Hp) : Option (Unit × Hp) :=
  if x0 = 0 then none else
  bn (g_Reader_init x0 x1 x2 (200 : Int32) x3 h) fun _ h1 =>
  some ((), h1)
theorem ct_g_SentenceReader_init {G : Gx} {RL : Lv} {l : Launch} (hL : LvA G RL plA) (hJ : JK G RL l) (x0 : Nat) (x1 : Nat) (x2 : Int32) (x3 : Nat) (h : Hp) : Ct id G RL l yX18_init (ws_ yX18_init cX18_init 4 none) 2 44 finV [vr x0, vr x1, .int x2, vr x3] h (g_SentenceReader_init x0 x1 x2 x3 h) := by
  refine Ct.of (Pl := plA) [(0, vr x0), (1, vr x1), (2, .int x2), (3, vr x3)] (by decide) hL rfl (Nat.le_of_ble_eq_true rfl) ?_
  intro E C e6 hf hlo e1 e2 e3 e4 e5
  subst e1; subst e2; subst e3
  replace C : Cx E cX18_init none RX18 := C
  replace e6 : (eMe E).name = "<init>" := e6
  unfold g_SentenceReader_init
  refine s_aload_n C dX18_init_0 0 rfl rfl ?_
  refine s_aload_n C dX18_init_1 1 rfl rfl ?_
  refine s_iload_n C dX18_init_2 2 rfl rfl ?_
  refine s_sipush C (200 : Int32) dX18_init_3 (by decide) ?_
  refine s_aload_n C dX18_init_6 3 rfl rfl ?_
  refine s_nz fun z2 => ?_
  refine c_I C 4 [] z2 (ct_g_Reader_init hL hJ x0 x1 x2 (200 : Int32) x3 h) (lw_meth q1506) q148 q2634 q1505 rfl nd_X7_init.2 rfl (le_fr hf rfl) (le_fr hlo rfl) rfl (Nat.le_of_ble_eq_true rfl) dX18_init_7 fun _ h1 => ?_
  exact s_vret C rfl dX18_init_10

def g_Cond_init (x0 : Nat) (h : Hp) : Option (Unit × Hp) :=
  if x0 = 0 then none else
  some ((), h)
theorem ct_g_Cond_init {G : Gx} {RL : Lv} {l : Launch} (hL : LvA G RL plA) (hJ : JK G RL l) (x0 : Nat) (h : Hp) : Ct id G RL l yX19_init (ws_ yX19_init cX19_init 1 none) 1 20 finV [vr x0] h (g_Cond_init x0 h) := by
  refine Ct.of (Pl := plA) [(0, vr x0)] (by decide) hL rfl (Nat.le_of_ble_eq_true rfl) ?_
  intro E C e6 hf hlo e1 e2 e3 e4 e5
  subst e1; subst e2; subst e3
  replace C : Cx E cX19_init none RX19 := C
  replace e6 : (eMe E).name = "<init>" := e6
  unfold g_Cond_init
  refine s_aload_n C dX19_init_0 0 rfl rfl ?_
  refine s_nz fun z1 => ?_
  refine s_objI C z1 q2709 q177 q178 (le_fr hf rfl) (le_fr hlo rfl) (Nat.le_of_ble_eq_true rfl) dX19_init_1 ?_
  exact s_vret C rfl dX19_init_4

def g_Two_init (x0 : Nat) (x1 : Nat) (x2 : Nat) (x3 : Int32) (h : Hp) : Option (Unit × Hp) :=
  if x0 = 0 then none else
  bn (g_Cond_init x0 h) fun _ h1 =>
  (putR [21] 0 x0 x1 h1).bind fun h3 =>
  (putR [21] 1 x0 x2 h3).bind fun h4 =>
  (putI [21] 2 2 x0 x3 h4).bind fun h5 =>
  some ((), h5)
theorem ct_g_Two_init {G : Gx} {RL : Lv} {l : Launch} (hL : LvA G RL plA) (hJ : JK G RL l) (x0 : Nat) (x1 : Nat) (x2 : Nat) (x3 : Int32) (h : Hp) : Ct id G RL l yX24_init (ws_ yX24_init cX24_init 4 none) 2 40 finV [vr x0, vr x1, vr x2, .int x3] h (g_Two_init x0 x1 x2 x3 h) := by
  refine Ct.of (Pl := plA) [(0, vr x0), (1, vr x1), (2, vr x2), (3, .int x3)] (by decide) hL rfl (Nat.le_of_ble_eq_true rfl) ?_
  intro E C e6 hf hlo e1 e2 e3 e4 e5
  subst e1; subst e2; subst e3
  replace C : Cx E cX24_init none RX24 := C
  replace e6 : (eMe E).name = "<init>" := e6
  unfold g_Two_init
  refine s_aload_n C dX24_init_0 0 rfl rfl ?_
  refine s_nz fun z2 => ?_
  refine c_IN C 0 [] _ z2 (ct_g_Cond_init hL hJ x0 h) (lw_meth q2708) q165 q2766 q2707 rfl nd_X19_init.2 rfl (le_fr hf rfl) (le_fr hlo rfl) rfl (Nat.le_of_ble_eq_true rfl) dX24_init_1 fun _ h1 => ?_
  refine s_aload_n C dX24_init_4 0 rfl rfl ?_
  refine s_aload_n C dX24_init_5 1 rfl rfl ?_
  refine s_putR [21] C (fl1 ⟨by decide, fo_X24_7_21, rfl⟩) (pl_of e4 rfl) (fl1 (Or.inr ⟨e6, fx_X24_7_21⟩)) dX24_init_6 fun h3 => ?_
  refine s_aload_n C dX24_init_9 0 rfl rfl ?_
  refine s_aload_n C dX24_init_10 2 rfl rfl ?_
  refine s_putR [21] C (fl1 ⟨by decide, fo_X24_13_21, rfl⟩) (pl_of e4 rfl) (fl1 (Or.inr ⟨e6, fx_X24_13_21⟩)) dX24_init_11 fun h4 => ?_
  refine s_aload_n C dX24_init_14 0 rfl rfl ?_
  refine s_iload_n C dX24_init_15 3 rfl rfl ?_
  refine s_putI [21] 2 C (by decide) (by decide) (fl1 ⟨⟨by decide, fo_X24_16_21, rfl⟩, rfl⟩) (pl_of e4 rfl) (fl1 (Or.inr ⟨e6, fx_X24_16_21⟩)) dX24_init_16 fun h5 => ?_
  exact s_vret C rfl dX24_init_19

def g_FinalLinks_tag (x0 : Nat) (x1 : Int32) (h : Hp) : Option (Int32 × Hp) :=
  bn (dsp (tg h x0 % 500) none [(1, g_FinalLinks_isVote x0 x1 h)]) fun r1 h2 =>
  if r1 = 0 then
    some ((-1 : Int32), h2)
  else
    (getR [1] 4 x0 h2).bind fun a3 =>
    (getR [3] 2 a3 h2).bind fun a4 =>
    bn (dsp (tg h2 a4 % 500) none [(25, oAlGet a4 x1 h2)]) fun r5 h6 =>
    (cst [12] r5 h6).bind fun _ =>
    bn (newO 29 4 h6) fun o7 h8 =>
    bn (oSbInit o7 h8) fun _ h9 =>
    (getR [1] 3 x0 h9).bind fun a10 =>
    (getR [2] 3 a10 h9).bind fun a11 =>
    (getI [512] 0 r5 h9).bind fun a12 =>
    bn (dsp (tg h9 a11 % 500) none [(25, oAlGet a11 a12 h9)]) fun r13 h14 =>
    (cst [28] r13 h14).bind fun _ =>
    bn (dsp (tg h14 o7 % 500) none [(29, oSbS o7 r13 h14)]) fun r15 h16 =>
    bn (dsp (tg h16 r15 % 500) none [(29, oSbS r15 18 h16)]) fun r17 h18 =>
    (getR [512] 1 r5 h18).bind fun a19 =>
    (getI [510] 0 a19 h18).bind fun a20 =>
    bn (dsp (tg h18 r17 % 500) none [(29, oSbI r17 a20 h18)]) fun r21 h22 =>
    bn (dsp (tg h22 r21 % 500) none [(29, oSbS r21 19 h22)]) fun r23 h24 =>
    (getR [512] 1 r5 h24).bind fun a25 =>
    (getI [510] 1 a25 h24).bind fun a26 =>
    bn (dsp (tg h24 r23 % 500) none [(29, oSbI r23 a26 h24)]) fun r27 h28 =>
    bn (dsp (tg h28 r27 % 500) none [(29, oSbStr r27 h28)]) fun r29 h30 =>
    (putR [1] 13 x0 r29 h30).bind fun h31 =>
    (getR [1] 13 x0 h31).bind fun a32 =>
    bn (dsp (tg h31 a32 % 500) none [(28, oLength a32 h31)]) fun r33 h34 =>
    some (r33, h34)
theorem ct_g_FinalLinks_tag {G : Gx} {RL : Lv} {l : Launch} (hL : LvA G RL plA) (hJ : JK G RL l) (x0 : Nat) (x1 : Int32) (h : Hp) : Ct id G RL l yX1_tag (ws_ yX1_tag cX1_tag 3 (some .int)) 42 4041 finI [vr x0, .int x1] h (g_FinalLinks_tag x0 x1 h) := by
  refine Ct.of (Pl := plA) [(0, vr x0), (1, .int x1)] (by decide) hL rfl (Nat.le_of_ble_eq_true rfl) ?_
  intro E C e6 hf hlo e1 e2 e3 e4 e5
  subst e1; subst e2; subst e3
  replace C : Cx E cX1_tag (some .int) RX1 := C
  replace e6 : (eMe E).name = "tag" := e6
  unfold g_FinalLinks_tag
  refine s_aload_n C dX1_tag_0 0 rfl rfl ?_
  refine s_iload_n C dX1_tag_1 1 rfl rfl ?_
  refine s_dk 5 finI [] (fun r1 h2 => ?_) (fun hk => s_dsp 1 (fun ht => c_V C 1 [] 1 RX1 ro_1 (ct_g_FinalLinks_isVote hL hJ x0 x1 h) (lw_V q2192 q2194 qs23 q107 q2195) nd_X1_isVote rfl (le_fr hf rfl) (le_fr hlo rfl) rfl (Nat.le_of_ble_eq_true rfl) dX1_tag_2 hk ht) s_dsp0)
  refine s_if_ne C 10 dX1_tag_5 (by decide) ?_ ?_
  · refine s_aload_n C dX1_tag_10 0 rfl rfl ?_
    refine s_getR [1] C (fl1 ⟨fo_X1_34_1, rfl⟩) (pl_of e4 rfl) dX1_tag_11 fun a3 => ?_
    refine s_getR [3] C (fl1 ⟨fo_X1_138_3, rfl⟩) (pl_of e4 rfl) dX1_tag_14 fun a4 => ?_
    refine s_iload_n C dX1_tag_17 1 rfl rfl ?_
    refine s_dk 21 finR [] (fun r5 h6 => ?_) (fun hk => s_dsp 25 (fun ht => c_V C 1 [] 25 RJ2 ro_25 (jk_14 hJ a4 x1 h2) (lw_V q2177 q735 q736 q111 q737) nd_J2_get rfl (le_fr hf rfl) (le_fr hlo rfl) rfl (Nat.le_of_ble_eq_true rfl) dX1_tag_18 hk ht) s_dsp0)
    refine s_cast [12] "FinalLinks$Vote" C q2185 (fl1 ao_FinalLinks_Vote_12) dX1_tag_21 ?_
    refine s_astore_n (la' := [(2, vr r5), (0, vr x0), (1, .int x1)]) C 2 dX1_tag_24 rfl (lt_nl e5 rfl) rfl ?_
    refine s_aload_n C dX1_tag_25 1 rfl rfl ?_
    refine s_newO 29 4 C no_X1_378 (pl_of1 e4 rfl) dX1_tag_26 fun o7 h8 zo7 => ?_
    refine s_dup C dX1_tag_29 rfl ?_
    refine c_I C 0 [vr o7, vr x0] zo7 (jk_6 hJ o7 h8) (lw_meth q1576) q151 q2460 q1575 rfl nd_J33_init.2 rfl (le_fr hf rfl) (le_fr hlo rfl) rfl (Nat.le_of_ble_eq_true rfl) dX1_tag_30 fun _ h9 => ?_
    refine s_aload_n C dX1_tag_33 1 rfl rfl ?_
    refine s_getR [1] C (fl1 ⟨fo_X1_23_1, rfl⟩) (pl_of e4 rfl) dX1_tag_34 fun a10 => ?_
    refine s_getR [2] C (fl1 ⟨fo_X1_381_2, rfl⟩) (pl_of e4 rfl) dX1_tag_37 fun a11 => ?_
    refine s_aload_n C dX1_tag_40 0 rfl rfl ?_
    refine s_getI [512] C (fl1 ⟨fo_X1_229_12, rfl⟩) (pl_of e4 rfl) dX1_tag_41 fun a12 => ?_
    refine s_dk 47 finR [vr o7, vr x0] (fun r13 h14 => ?_) (fun hk => s_dsp 25 (fun ht => c_V C 1 [vr o7, vr x0] 25 RJ2 ro_25 (jk_14 hJ a11 a12 h9) (lw_V q2177 q735 q736 q111 q737) nd_J2_get rfl (le_fr hf rfl) (le_fr hlo rfl) rfl (Nat.le_of_ble_eq_true rfl) dX1_tag_44 hk ht) s_dsp0)
    refine s_cast [28] "java/lang/String" C q2461 (fl1 ao_java_lang_String_28) dX1_tag_47 ?_
    refine s_dk 53 finR [vr x0] (fun r15 h16 => ?_) (fun hk => s_dsp 29 (fun ht => c_V C 1 [vr x0] 29 RJ33 ro_29 (jk_9 hJ o7 r13 h14) (lw_V q2462 q1793 q1794 q151 q1795) nd_J33_append_2 rfl (le_fr hf rfl) (le_fr hlo rfl) rfl (Nat.le_of_ble_eq_true rfl) dX1_tag_50 hk ht) s_dsp0)
    refine s_ldcSw C (List.mem_of_getElem? (i := 9) rfl) (by decide) (by decide) dX1_tag_53 ?_
    refine s_dk 59 finR [vr x0] (fun r17 h18 => ?_) (fun hk => s_dsp 29 (fun ht => c_V C 1 [vr x0] 29 RJ33 ro_29 (jk_9 hJ r15 18 h16) (lw_V q2462 q1793 q1794 q151 q1795) nd_J33_append_2 rfl (le_fr hf rfl) (le_fr hlo rfl) rfl (Nat.le_of_ble_eq_true rfl) dX1_tag_56 hk ht) s_dsp0)
    refine s_aload_n C dX1_tag_59 0 rfl rfl ?_
    refine s_getR [512] C (fl1 ⟨fo_X1_244_12, rfl⟩) (pl_of e4 rfl) dX1_tag_60 fun a19 => ?_
    refine s_getI [510] C (fl1 ⟨fo_X1_248_10, rfl⟩) (pl_of e4 rfl) dX1_tag_63 fun a20 => ?_
    refine s_dk 69 finR [vr x0] (fun r21 h22 => ?_) (fun hk => s_dsp 29 (fun ht => c_V C 1 [vr x0] 29 RJ33 ro_29 (jk_8 hJ r17 a20 h18) (lw_V q2464 q2465 q2466 q151 q2467) nd_J33_append_3 rfl (le_fr hf rfl) (le_fr hlo rfl) rfl (Nat.le_of_ble_eq_true rfl) dX1_tag_66 hk ht) s_dsp0)
    refine s_ldcSw C (List.mem_of_getElem? (i := 10) rfl) (by decide) (by decide) dX1_tag_69 ?_
    refine s_dk 75 finR [vr x0] (fun r23 h24 => ?_) (fun hk => s_dsp 29 (fun ht => c_V C 1 [vr x0] 29 RJ33 ro_29 (jk_9 hJ r21 19 h22) (lw_V q2462 q1793 q1794 q151 q1795) nd_J33_append_2 rfl (le_fr hf rfl) (le_fr hlo rfl) rfl (Nat.le_of_ble_eq_true rfl) dX1_tag_72 hk ht) s_dsp0)
    refine s_aload_n C dX1_tag_75 0 rfl rfl ?_
    refine s_getR [512] C (fl1 ⟨fo_X1_244_12, rfl⟩) (pl_of e4 rfl) dX1_tag_76 fun a25 => ?_
    refine s_getI [510] C (fl1 ⟨fo_X1_253_10, rfl⟩) (pl_of e4 rfl) dX1_tag_79 fun a26 => ?_
    refine s_dk 85 finR [vr x0] (fun r27 h28 => ?_) (fun hk => s_dsp 29 (fun ht => c_V C 1 [vr x0] 29 RJ33 ro_29 (jk_8 hJ r23 a26 h24) (lw_V q2464 q2465 q2466 q151 q2467) nd_J33_append_3 rfl (le_fr hf rfl) (le_fr hlo rfl) rfl (Nat.le_of_ble_eq_true rfl) dX1_tag_82 hk ht) s_dsp0)
    refine s_dk 88 finR [vr x0] (fun r29 h30 => ?_) (fun hk => s_dsp 29 (fun ht => c_V C 0 [vr x0] 29 RJ33 ro_29 (jk_10 hJ r27 h28) (lw_V q2490 q1663 q1664 q151 q1665) nd_J33_toString rfl (le_fr hf rfl) (le_fr hlo rfl) rfl (Nat.le_of_ble_eq_true rfl) dX1_tag_85 hk ht) s_dsp0)
    refine s_putR [1] C (fl1 ⟨by decide, fo_X1_68_1, rfl⟩) (pl_of e4 rfl) (fl1 (Or.inl rfl)) dX1_tag_88 fun h31 => ?_
    refine s_aload_n C dX1_tag_91 1 rfl rfl ?_
    refine s_getR [1] C (fl1 ⟨fo_X1_68_1, rfl⟩) (pl_of e4 rfl) dX1_tag_92 fun a32 => ?_
    refine s_dk 98 finI [] (fun r33 h34 => ?_) (fun hk => s_dsp 28 (fun ht => c_V C 0 [] 28 RJ27 ro_28 (jk_2 hJ a32 h31) (lw_V q2491 q1813 q1814 q139 q1815) nd_J27_length rfl (le_fr hf rfl) (le_fr hlo rfl) rfl (Nat.le_of_ble_eq_true rfl) dX1_tag_95 hk ht) s_dsp0)
    exact s_iret C rfl dX1_tag_98
  · refine s_iconst C (-1 : Int32) dX1_tag_8 (by decide) ?_
    exact s_iret C rfl dX1_tag_9

def g_FinalLinks_told_j19 (y0 : Int32) (h3 : Hp) : Option (Int32 × Hp) :=
  some (y0, h3)
def g_FinalLinks_told (x0 : Nat) (x1 : Int32) (h : Hp) : Option (Int32 × Hp) :=
  bn (g_FinalLinks_isIn x1 (0 : Int32) (3 : Int32) h) fun r1 h2 =>
  if r1 = 0 then
    g_FinalLinks_told_j19 (-1 : Int32) h2
  else
    (getR [1] 14 x0 h2).bind fun a4 =>
    (aldI [200] a4 x1 h2).bind fun a5 =>
    g_FinalLinks_told_j19 a5 h2
theorem ct_g_FinalLinks_told {G : Gx} {RL : Lv} {l : Launch} (hL : LvA G RL plA) (hJ : JK G RL l) (x0 : Nat) (x1 : Int32) (h : Hp) : Ct id G RL l yX1_told (ws_ yX1_told cX1_told 2 (some .int)) 1 22 finI [vr x0, .int x1] h (g_FinalLinks_told x0 x1 h) := by
  refine Ct.of (Pl := plA) [(0, vr x0), (1, .int x1)] (by decide) hL rfl (Nat.le_of_ble_eq_true rfl) ?_
  intro E C e6 hf hlo e1 e2 e3 e4 e5
  subst e1; subst e2; subst e3
  replace C : Cx E cX1_told (some .int) RX1 := C
  replace e6 : (eMe E).name = "told" := e6
  unfold g_FinalLinks_told
  refine s_iload_n C dX1_told_0 1 rfl rfl ?_
  refine s_iconst C (0 : Int32) dX1_told_1 (by decide) ?_
  refine s_iconst C (3 : Int32) dX1_told_2 (by decide) ?_
  refine c_S C 3 [] (ct_g_FinalLinks_isIn hL hJ x1 (0 : Int32) (3 : Int32) h) (lw_S q2171 q1775 q107 q1776) nd_X1_isIn.2 rfl (le_fr hf rfl) (le_fr hlo rfl) rfl (Nat.le_of_ble_eq_true rfl) dX1_told_3 fun r1 h2 => ?_
  have hj19 : ∀ (y0 : Int32) (h3 : Hp), Sim id E (QM id E finI) h3 19 [] [.int y0] (g_FinalLinks_told_j19 y0 h3) := by
    intro y0 h3
    exact s_iret C rfl dX1_told_19
  refine s_if_eq C 18 dX1_told_6 (by decide) ?_ ?_
  · refine s_iconst C (-1 : Int32) dX1_told_18 (by decide) ?_
    refine Sim.keep [] rfl ?_
    exact hj19 _ _
  · refine s_aload_n C dX1_told_9 0 rfl rfl ?_
    refine s_getR [1] C (fl1 ⟨fo_X1_72_1, rfl⟩) (pl_of e4 rfl) dX1_told_10 fun a4 => ?_
    refine s_iload_n C dX1_told_13 1 rfl rfl ?_
    refine s_iald [200] C (fl1 rfl) (pl_of e4 rfl) dX1_told_14 fun a5 => ?_
    refine s_goto C 19 dX1_told_15 (by decide) ?_
    refine Sim.keep [] rfl ?_
    exact hj19 _ _

def g_FinalLinks_undo (x0 : Nat) (h : Hp) : Option (Int32 × Hp) :=
  (getI [1] 10 x0 h).bind fun a1 =>
  if a1 = 0 then
    some ((-1 : Int32), h)
  else
    (getI [1] 10 x0 h).bind fun a2 =>
    (putI [1] 0 10 x0 (a2 - (1 : Int32)) h).bind fun h3 =>
    (getR [1] 6 x0 h3).bind fun a4 =>
    (getR [1] 4 x0 h3).bind fun a5 =>
    (getR [1] 9 x0 h3).bind fun a6 =>
    (getI [1] 10 x0 h3).bind fun a7 =>
    (aldR [207] a6 a7 h3).bind fun a8 =>
    bn (dsp (tg h3 a5 % 500) none [(3, g_Tree_as a5 a8 h3)]) fun r9 h10 =>
    bn (dsp (tg h10 a4 % 500) none [(4, g_Judged_of a4 r9 h10)]) fun r11 h12 =>
    (getI [1] 10 x0 h12).bind fun a13 =>
    some (a13, h12)
theorem ct_g_FinalLinks_undo {G : Gx} {RL : Lv} {l : Launch} (hL : LvA G RL plA) (hJ : JK G RL l) (x0 : Nat) (h : Hp) : Ct id G RL l yX1_undo (ws_ yX1_undo cX1_undo 1 (some .int)) 48 4178 finI [vr x0] h (g_FinalLinks_undo x0 h) := by
  refine Ct.of (Pl := plA) [(0, vr x0)] (by decide) hL rfl (Nat.le_of_ble_eq_true rfl) ?_
  intro E C e6 hf hlo e1 e2 e3 e4 e5
  subst e1; subst e2; subst e3
  replace C : Cx E cX1_undo (some .int) RX1 := C
  replace e6 : (eMe E).name = "undo" := e6
  unfold g_FinalLinks_undo
  refine s_aload_n C dX1_undo_0 0 rfl rfl ?_
  refine s_getI [1] C (fl1 ⟨fo_X1_110_1, rfl⟩) (pl_of e4 rfl) dX1_undo_1 fun a1 => ?_
  refine s_if_ne C 9 dX1_undo_4 (by decide) ?_ ?_
  · refine s_aload_n C dX1_undo_9 0 rfl rfl ?_
    refine s_dup C dX1_undo_10 rfl ?_
    refine s_getI [1] C (fl1 ⟨fo_X1_110_1, rfl⟩) (pl_of e4 rfl) dX1_undo_11 fun a2 => ?_
    refine s_iconst C (1 : Int32) dX1_undo_14 (by decide) ?_
    refine s_isub C dX1_undo_15 ?_
    refine s_putI [1] 0 C (by decide) (by decide) (fl1 ⟨⟨by decide, fo_X1_110_1, rfl⟩, rfl⟩) (pl_of e4 rfl) (fl1 (Or.inl rfl)) dX1_undo_16 fun h3 => ?_
    refine s_aload_n C dX1_undo_19 0 rfl rfl ?_
    refine s_getR [1] C (fl1 ⟨fo_X1_48_1, rfl⟩) (pl_of e4 rfl) dX1_undo_20 fun a4 => ?_
    refine s_aload_n C dX1_undo_23 0 rfl rfl ?_
    refine s_getR [1] C (fl1 ⟨fo_X1_34_1, rfl⟩) (pl_of e4 rfl) dX1_undo_24 fun a5 => ?_
    refine s_aload_n C dX1_undo_27 0 rfl rfl ?_
    refine s_getR [1] C (fl1 ⟨fo_X1_55_1, rfl⟩) (pl_of e4 rfl) dX1_undo_28 fun a6 => ?_
    refine s_aload_n C dX1_undo_31 0 rfl rfl ?_
    refine s_getI [1] C (fl1 ⟨fo_X1_110_1, rfl⟩) (pl_of e4 rfl) dX1_undo_32 fun a7 => ?_
    refine s_aald [207] 7 C (by decide) (fl1 rfl) (pl_of e4 rfl) dX1_undo_35 fun a8 => ?_
    refine s_dk 39 finR [vr a4] (fun r9 h10 => ?_) (fun hk => s_dsp 3 (fun ht => c_V C 1 [vr a4] 3 RX3 ro_3 (ct_g_Tree_as hL hJ a5 a8 h3) (lw_V q2224 q2225 q2226 q114 q2227) nd_X3_as rfl (le_fr hf rfl) (le_fr hlo rfl) rfl (Nat.le_of_ble_eq_true rfl) dX1_undo_36 hk ht) s_dsp0)
    refine s_dk 42 finR [] (fun r11 h12 => ?_) (fun hk => s_dsp 4 (fun ht => c_V C 1 [] 4 RX4 ro_4 (ct_g_Judged_of hL hJ a4 r9 h10) (lw_V q722 q723 q724 q130 q725) nd_X4_of rfl (le_fr hf rfl) (le_fr hlo rfl) rfl (Nat.le_of_ble_eq_true rfl) dX1_undo_39 hk ht) s_dsp0)
    refine s_pop C dX1_undo_42 rfl ?_
    refine s_aload_n C dX1_undo_43 0 rfl rfl ?_
    refine s_getI [1] C (fl1 ⟨fo_X1_110_1, rfl⟩) (pl_of e4 rfl) dX1_undo_44 fun a13 => ?_
    exact s_iret C rfl dX1_undo_47
  · refine s_iconst C (-1 : Int32) dX1_undo_7 (by decide) ?_
    exact s_iret C rfl dX1_undo_8

def g_FinalLinks_vote_j67 (y0 : Int32) (h7 : Hp) : Option (Int32 × Hp) :=
  some (y0, h7)
def g_FinalLinks_vote (x0 : Nat) (x1 : Int32) (x2 : Int32) (h : Hp) : Option (Int32 × Hp) :=
  bn (dsp (tg h x0 % 500) none [(1, g_FinalLinks_isVote x0 x1 h)]) fun r1 h2 =>
  if r1 = 0 then
    some ((-1 : Int32), h2)
  else
    (getR [1] 4 x0 h2).bind fun a3 =>
    (getR [3] 2 a3 h2).bind fun a4 =>
    bn (dsp (tg h2 a4 % 500) none [(25, oAlGet a4 x1 h2)]) fun r5 h6 =>
    (cst [12] r5 h6).bind fun _ =>
    if x2 = 0 then
      (getI [512] 0 r5 h6).bind fun a12 =>
      g_FinalLinks_vote_j67 a12 h6
    else
      if x2 = (1 : Int32) then
        (getR [512] 1 r5 h6).bind fun a10 =>
        (getI [510] 0 a10 h6).bind fun a11 =>
        g_FinalLinks_vote_j67 a11 h6
      else
        if x2 = (2 : Int32) then
          (getR [512] 1 r5 h6).bind fun a8 =>
          (getI [510] 1 a8 h6).bind fun a9 =>
          g_FinalLinks_vote_j67 a9 h6
        else
          g_FinalLinks_vote_j67 (-1 : Int32) h6
theorem ct_g_FinalLinks_vote {G : Gx} {RL : Lv} {l : Launch} (hL : LvA G RL plA) (hJ : JK G RL l) (x0 : Nat) (x1 : Int32) (x2 : Int32) (h : Hp) : Ct id G RL l yX1_vote (ws_ yX1_vote cX1_vote 4 (some .int)) 42 4041 finI [vr x0, .int x1, .int x2] h (g_FinalLinks_vote x0 x1 x2 h) := by
  refine Ct.of (Pl := plA) [(0, vr x0), (1, .int x1), (2, .int x2)] (by decide) hL rfl (Nat.le_of_ble_eq_true rfl) ?_
  intro E C e6 hf hlo e1 e2 e3 e4 e5
  subst e1; subst e2; subst e3
  replace C : Cx E cX1_vote (some .int) RX1 := C
  replace e6 : (eMe E).name = "vote" := e6
  unfold g_FinalLinks_vote
  refine s_aload_n C dX1_vote_0 0 rfl rfl ?_
  refine s_iload_n C dX1_vote_1 1 rfl rfl ?_
  refine s_dk 5 finI [] (fun r1 h2 => ?_) (fun hk => s_dsp 1 (fun ht => c_V C 1 [] 1 RX1 ro_1 (ct_g_FinalLinks_isVote hL hJ x0 x1 h) (lw_V q2192 q2194 qs23 q107 q2195) nd_X1_isVote rfl (le_fr hf rfl) (le_fr hlo rfl) rfl (Nat.le_of_ble_eq_true rfl) dX1_vote_2 hk ht) s_dsp0)
  refine s_if_ne C 10 dX1_vote_5 (by decide) ?_ ?_
  · refine s_aload_n C dX1_vote_10 0 rfl rfl ?_
    refine s_getR [1] C (fl1 ⟨fo_X1_34_1, rfl⟩) (pl_of e4 rfl) dX1_vote_11 fun a3 => ?_
    refine s_getR [3] C (fl1 ⟨fo_X1_138_3, rfl⟩) (pl_of e4 rfl) dX1_vote_14 fun a4 => ?_
    refine s_iload_n C dX1_vote_17 1 rfl rfl ?_
    refine s_dk 21 finR [] (fun r5 h6 => ?_) (fun hk => s_dsp 25 (fun ht => c_V C 1 [] 25 RJ2 ro_25 (jk_14 hJ a4 x1 h2) (lw_V q2177 q735 q736 q111 q737) nd_J2_get rfl (le_fr hf rfl) (le_fr hlo rfl) rfl (Nat.le_of_ble_eq_true rfl) dX1_vote_18 hk ht) s_dsp0)
    refine s_cast [12] "FinalLinks$Vote" C q2185 (fl1 ao_FinalLinks_Vote_12) dX1_vote_21 ?_
    refine s_astore_n (la' := [(3, vr r5), (0, vr x0), (1, .int x1), (2, .int x2)]) C 3 dX1_vote_24 rfl (lt_nl e5 rfl) rfl ?_
    refine s_iload_n C dX1_vote_25 3 rfl rfl ?_
    have hj67 : ∀ (y0 : Int32) (h7 : Hp), Sim id E (QM id E finI) h7 67 [] [.int y0] (g_FinalLinks_vote_j67 y0 h7) := by
      intro y0 h7
      exact s_iret C rfl dX1_vote_67
    refine s_if_ne C 36 dX1_vote_26 (by decide) ?_ ?_
    · refine s_iload_n C dX1_vote_36 3 rfl rfl ?_
      refine s_iconst C (1 : Int32) dX1_vote_37 (by decide) ?_
      refine s_icmp_ne C 51 dX1_vote_38 (by decide) ?_ ?_
      · refine s_iload_n C dX1_vote_51 3 rfl rfl ?_
        refine s_iconst C (2 : Int32) dX1_vote_52 (by decide) ?_
        refine s_icmp_ne C 66 dX1_vote_53 (by decide) ?_ ?_
        · refine s_iconst C (-1 : Int32) dX1_vote_66 (by decide) ?_
          refine Sim.keep [] rfl ?_
          exact hj67 _ _
        · refine s_aload_n C dX1_vote_56 0 rfl rfl ?_
          refine s_getR [512] C (fl1 ⟨fo_X1_244_12, rfl⟩) (pl_of e4 rfl) dX1_vote_57 fun a8 => ?_
          refine s_getI [510] C (fl1 ⟨fo_X1_253_10, rfl⟩) (pl_of e4 rfl) dX1_vote_60 fun a9 => ?_
          refine s_goto C 67 dX1_vote_63 (by decide) ?_
          refine Sim.keep [] rfl ?_
          exact hj67 _ _
      · refine s_aload_n C dX1_vote_41 0 rfl rfl ?_
        refine s_getR [512] C (fl1 ⟨fo_X1_244_12, rfl⟩) (pl_of e4 rfl) dX1_vote_42 fun a10 => ?_
        refine s_getI [510] C (fl1 ⟨fo_X1_248_10, rfl⟩) (pl_of e4 rfl) dX1_vote_45 fun a11 => ?_
        refine s_goto C 67 dX1_vote_48 (by decide) ?_
        refine Sim.keep [] rfl ?_
        exact hj67 _ _
    · refine s_aload_n C dX1_vote_29 0 rfl rfl ?_
      refine s_getI [512] C (fl1 ⟨fo_X1_229_12, rfl⟩) (pl_of e4 rfl) dX1_vote_30 fun a12 => ?_
      refine s_goto C 67 dX1_vote_33 (by decide) ?_
      refine Sim.keep [] rfl ?_
      exact hj67 _ _
  · refine s_iconst C (-1 : Int32) dX1_vote_8 (by decide) ?_
    exact s_iret C rfl dX1_vote_9

def g_FinalLinks_voter_j106 (rec72 : Int32 → Hp → Option (Int32 × Hp)) (x1 : Int32) (x3 : Int32) (x4 : Nat) (h19 : Hp) : Option (Int32 × Hp) :=
  rec72 x3 h19
def g_FinalLinks_voter_L72 (x1 : Int32) (x4 : Nat) : Int32 → Hp → Option (Int32 × Hp) :=
  lp FU fun rec72 v72 h13 =>
    bn (dsp (tg h13 x4 % 500) none [(23, oItHas x4 h13), (27, oKiHas x4 h13)]) fun r14 h15 =>
    if r14 = 0 then
      some (v72, h15)
    else
      bn (dsp (tg h15 x4 % 500) none [(23, oItNext x4 h15), (27, oKiNext x4 h15)]) fun r16 h17 =>
      (cst [12] r16 h17).bind fun _ =>
      (getI [512] 0 r16 h17).bind fun a18 =>
      if a18 = x1 then
        g_FinalLinks_voter_j106 rec72 x1 (v72 + (1 : Int32)) x4 h17
      else
        g_FinalLinks_voter_j106 rec72 x1 v72 x4 h17
def g_FinalLinks_voter_j139 (y0 : Int32) (h27 : Hp) : Option (Int32 × Hp) :=
  some (y0, h27)
def g_FinalLinks_voter (x0 : Nat) (x1 : Int32) (x2 : Int32) (h : Hp) : Option (Int32 × Hp) :=
  bn (dsp (tg h x0 % 500) none [(1, g_FinalLinks_isVoter x0 x1 h)]) fun r1 h2 =>
  if r1 = 0 then
    some ((-1 : Int32), h2)
  else
    swi x2 (some ((-1 : Int32), h2)) [
      ((0 : Int32), (getR [1] 3 x0 h2).bind fun a3 =>
      (getR [2] 2 a3 h2).bind fun a4 =>
      bn (dsp (tg h2 a4 % 500) none [(25, oAlGet a4 x1 h2)]) fun r5 h6 =>
      (cst [35] r5 h6).bind fun _ =>
      bn (dsp (tg h6 r5 % 500) none [(35, oIntValue r5 h6)]) fun r7 h8 =>
      some (r7, h8)),
      ((1 : Int32), (getR [1] 4 x0 h2).bind fun a9 =>
      (getR [3] 2 a9 h2).bind fun a10 =>
      bn (dsp (tg h2 a10 % 500) none [(25, oAlIter a10 h2)]) fun r11 h12 =>
      g_FinalLinks_voter_L72 x1 r11 (0 : Int32) h12),
      ((2 : Int32), (getR [1] 4 x0 h2).bind fun a20 =>
      bn (dsp (tg h2 a20 % 500) none [(3, g_Tree_lookOf a20 x1 h2)]) fun r21 h22 =>
      some (r21, h22)),
      ((3 : Int32), (getR [1] 6 x0 h2).bind fun a23 =>
      (getI [4] 3 a23 h2).bind fun a24 =>
      bn (g_FinalLinks_isOf a24 x1 h2) fun r25 h26 =>
      if r25 = 0 then
        g_FinalLinks_voter_j139 (0 : Int32) h26
      else
        g_FinalLinks_voter_j139 (1 : Int32) h26)]
theorem ct_g_FinalLinks_voter {G : Gx} {RL : Lv} {l : Launch} (hL : LvA G RL plA) (hJ : JK G RL l) (x0 : Nat) (x1 : Int32) (x2 : Int32) (h : Hp) : Ct id G RL l yX1_voter (ws_ yX1_voter cX1_voter 6 (some .int)) 43 4061 finI [vr x0, .int x1, .int x2] h (g_FinalLinks_voter x0 x1 x2 h) := by
  refine Ct.of (Pl := plA) [(0, vr x0), (1, .int x1), (2, .int x2)] (by decide) hL rfl (Nat.le_of_ble_eq_true rfl) ?_
  intro E C e6 hf hlo e1 e2 e3 e4 e5
  subst e1; subst e2; subst e3
  replace C : Cx E cX1_voter (some .int) RX1 := C
  replace e6 : (eMe E).name = "voter" := e6
  unfold g_FinalLinks_voter
  refine s_aload_n C dX1_voter_0 0 rfl rfl ?_
  refine s_iload_n C dX1_voter_1 1 rfl rfl ?_
  refine s_dk 5 finI [] (fun r1 h2 => ?_) (fun hk => s_dsp 1 (fun ht => c_V C 1 [] 1 RX1 ro_1 (ct_g_FinalLinks_isVoter hL hJ x0 x1 h) (lw_V q2166 q2168 qs22 q107 q2169) nd_X1_isVoter rfl (le_fr hf rfl) (le_fr hlo rfl) rfl (Nat.le_of_ble_eq_true rfl) dX1_voter_2 hk ht) s_dsp0)
  refine s_if_ne C 10 dX1_voter_5 (by decide) ?_ ?_
  · refine s_iload_n C dX1_voter_10 2 rfl rfl ?_
    refine s_tsw C 140 dX1_voter_11 [(0 : Int32), (1 : Int32), (2 : Int32), (3 : Int32)] rfl (by decide +kernel) (by decide) (by decide) ⟨⟨40, by decide, ?_⟩, ⟨⟨58, by decide, ?_⟩, ⟨⟨111, by decide, ?_⟩, ⟨⟨120, by decide, ?_⟩, trivial⟩⟩⟩⟩ ?_
    · refine s_aload_n C dX1_voter_40 0 rfl rfl ?_
      refine s_getR [1] C (fl1 ⟨fo_X1_23_1, rfl⟩) (pl_of e4 rfl) dX1_voter_41 fun a3 => ?_
      refine s_getR [2] C (fl1 ⟨fo_X1_205_2, rfl⟩) (pl_of e4 rfl) dX1_voter_44 fun a4 => ?_
      refine s_iload_n C dX1_voter_47 1 rfl rfl ?_
      refine s_dk 51 finR [] (fun r5 h6 => ?_) (fun hk => s_dsp 25 (fun ht => c_V C 1 [] 25 RJ2 ro_25 (jk_14 hJ a4 x1 h2) (lw_V q2177 q735 q736 q111 q737) nd_J2_get rfl (le_fr hf rfl) (le_fr hlo rfl) rfl (Nat.le_of_ble_eq_true rfl) dX1_voter_48 hk ht) s_dsp0)
      refine s_cast [35] "java/lang/Integer" C q2178 (fl1 ao_java_lang_Integer_35) dX1_voter_51 ?_
      refine s_dk 57 finI [] (fun r7 h8 => ?_) (fun hk => s_dsp 35 (fun ht => c_V C 0 [] 35 RJ9 ro_35 (jk_0 hJ r5 h6) (lw_V q2179 q1053 q1054 q119 q1055) nd_J9_intValue rfl (le_fr hf rfl) (le_fr hlo rfl) rfl (Nat.le_of_ble_eq_true rfl) dX1_voter_54 hk ht) s_dsp0)
      exact s_iret C rfl dX1_voter_57
    · refine s_iconst C (0 : Int32) dX1_voter_58 (by decide) ?_
      refine s_istore_n (la' := [(3, .int (0 : Int32)), (0, vr x0), (1, .int x1), (2, .int x2)]) C 3 dX1_voter_59 rfl (lt_nl e5 rfl) rfl ?_
      refine s_aload_n C dX1_voter_60 1 rfl rfl ?_
      refine s_getR [1] C (fl1 ⟨fo_X1_34_1, rfl⟩) (pl_of e4 rfl) dX1_voter_61 fun a9 => ?_
      refine s_getR [3] C (fl1 ⟨fo_X1_138_3, rfl⟩) (pl_of e4 rfl) dX1_voter_64 fun a10 => ?_
      refine s_dk 70 finR [] (fun r11 h12 => ?_) (fun hk => s_dsp 25 (fun ht => c_V C 0 [] 25 RJ2 ro_25 (jk_16 hJ a10 h2) (lw_V q2180 q415 q416 q111 q417) nd_J2_iterator rfl (le_fr hf rfl) (le_fr hlo rfl) rfl (Nat.le_of_ble_eq_true rfl) dX1_voter_67 hk ht) s_dsp0)
      have hL72 : ∀ (x1 : Int32) (x4 : Nat) (v72 : Int32) (h13 : Hp), Sim id E (QM id E finI) h13 72 [(1, .int x1), (3, .int v72), (4, vr x4)] [] (g_FinalLinks_voter_L72 x1 x4 v72 h13) := by
        intro x1 x4 v72 h13
        refine Sim.loop (fun v72 => [(1, .int x1), (3, .int v72), (4, vr x4)]) (fun _ => []) (fun rec72 hr72 v72 h13 => ?_) FU v72 h13
        refine s_aload C dX1_voter_72 2 rfl ?_
        refine s_dk 79 finI [] (fun r14 h15 => ?_) (fun hk => s_dsp 23 (fun ht => c_F C 0 [] 23 RJ11 ro_23 (jk_17 hJ x4 h13) (lw_F q2182 q442 q444 q121 q446) ⟨q440, q439, q445, q443, q441, by decide +kernel, by decide +kernel⟩ (by decide +kernel) rfl (le_fr hf rfl) (le_fr hlo rfl) rfl (Nat.le_of_ble_eq_true rfl) dX1_voter_74 hk ht) (s_dsp 27 (fun ht => c_F C 0 [] 27 RJ26 ro_27 (jk_32 hJ x4 h13) (lw_F q2182 q454 q456 q137 q458) ⟨q440, q439, q457, q455, q453, by decide +kernel, by decide +kernel⟩ (by decide +kernel) rfl (le_fr hf rfl) (le_fr hlo rfl) rfl (Nat.le_of_ble_eq_true rfl) dX1_voter_74 hk ht) s_dsp0))
        refine s_if_eq C 109 dX1_voter_79 (by decide) ?_ ?_
        · refine s_iload_n C dX1_voter_109 1 rfl rfl ?_
          exact s_iret C rfl dX1_voter_110
        · refine s_aload C dX1_voter_82 2 rfl ?_
          refine s_dk 89 finR [] (fun r16 h17 => ?_) (fun hk => s_dsp 23 (fun ht => c_F C 0 [] 23 RJ11 ro_23 (jk_18 hJ x4 h15) (lw_F q2184 q463 q465 q121 q467) ⟨q462, q461, q466, q464, q441, by decide +kernel, by decide +kernel⟩ (by decide +kernel) rfl (le_fr hf rfl) (le_fr hlo rfl) rfl (Nat.le_of_ble_eq_true rfl) dX1_voter_84 hk ht) (s_dsp 27 (fun ht => c_F C 0 [] 27 RJ26 ro_27 (jk_33 hJ x4 h15) (lw_F q2184 q548 q550 q138 q552) ⟨q462, q461, q551, q549, q453, by decide +kernel, by decide +kernel⟩ (by decide +kernel) rfl (le_fr hf rfl) (le_fr hlo rfl) rfl (Nat.le_of_ble_eq_true rfl) dX1_voter_84 hk ht) s_dsp0))
          refine s_cast [12] "FinalLinks$Vote" C q2185 (fl1 ao_FinalLinks_Vote_12) dX1_voter_89 ?_
          refine s_astore (la' := [(5, vr r16), (1, .int x1), (3, .int v72), (4, vr x4)]) C dX1_voter_92 (lt_nl e5 rfl) rfl ?_
          refine s_aload C dX1_voter_94 0 rfl ?_
          refine s_getI [512] C (fl1 ⟨fo_X1_229_12, rfl⟩) (pl_of e4 rfl) dX1_voter_96 fun a18 => ?_
          refine s_iload_n C dX1_voter_99 1 rfl rfl ?_
          have hj106 : ∀ (x3 : Int32) (h19 : Hp), Sim id E (QM id E finI) h19 106 [(1, .int x1), (3, .int x3), (4, vr x4)] [] (g_FinalLinks_voter_j106 rec72 x1 x3 x4 h19) := by
            intro x3 h19
            refine s_goto C 72 dX1_voter_106 (by decide) ?_
            exact hr72 _ _
          refine s_icmp_ne C 106 dX1_voter_100 (by decide) ?_ ?_
          · refine Sim.keep [1, 2, 3] rfl ?_
            exact hj106 _ _
          · refine s_iinc (la' := [(3, .int (v72 + (1 : Int32))), (5, vr r16), (1, .int x1), (4, vr x4)]) C 2 dX1_voter_103 rfl rfl (lt_nl e5 rfl) rfl ?_
            refine Sim.keep [2, 0, 3] rfl ?_
            exact hj106 _ _
      refine s_astore (la' := [(4, vr r11), (3, .int (0 : Int32)), (0, vr x0), (1, .int x1), (2, .int x2)]) C dX1_voter_70 (lt_nl e5 rfl) rfl ?_
      refine Sim.keep [3, 1, 0] rfl ?_
      exact hL72 _ _ _ _
    · refine s_aload_n C dX1_voter_111 0 rfl rfl ?_
      refine s_getR [1] C (fl1 ⟨fo_X1_34_1, rfl⟩) (pl_of e4 rfl) dX1_voter_112 fun a20 => ?_
      refine s_iload_n C dX1_voter_115 1 rfl rfl ?_
      refine s_dk 119 finI [] (fun r21 h22 => ?_) (fun hk => s_dsp 3 (fun ht => c_V C 1 [] 3 RX3 ro_3 (ct_g_Tree_lookOf hL hJ a20 x1 h2) (lw_V q2186 q1367 q1368 q114 q1369) nd_X3_lookOf rfl (le_fr hf rfl) (le_fr hlo rfl) rfl (Nat.le_of_ble_eq_true rfl) dX1_voter_116 hk ht) s_dsp0)
      exact s_iret C rfl dX1_voter_119
    · refine s_aload_n C dX1_voter_120 0 rfl rfl ?_
      refine s_getR [1] C (fl1 ⟨fo_X1_48_1, rfl⟩) (pl_of e4 rfl) dX1_voter_121 fun a23 => ?_
      refine s_getI [4] C (fl1 ⟨fo_X1_235_4, rfl⟩) (pl_of e4 rfl) dX1_voter_124 fun a24 => ?_
      refine s_iload_n C dX1_voter_127 1 rfl rfl ?_
      refine c_S C 2 [] (ct_g_FinalLinks_isOf hL hJ a24 x1 h2) (lw_S q2187 q1339 q107 q1340) nd_X1_isOf.2 rfl (le_fr hf rfl) (le_fr hlo rfl) rfl (Nat.le_of_ble_eq_true rfl) dX1_voter_128 fun r25 h26 => ?_
      have hj139 : ∀ (y0 : Int32) (h27 : Hp), Sim id E (QM id E finI) h27 139 [] [.int y0] (g_FinalLinks_voter_j139 y0 h27) := by
        intro y0 h27
        exact s_iret C rfl dX1_voter_139
      refine s_if_eq C 138 dX1_voter_131 (by decide) ?_ ?_
      · refine s_iconst C (0 : Int32) dX1_voter_138 (by decide) ?_
        refine Sim.keep [] rfl ?_
        exact hj139 _ _
      · refine s_iconst C (1 : Int32) dX1_voter_134 (by decide) ?_
        refine s_goto C 139 dX1_voter_135 (by decide) ?_
        refine Sim.keep [] rfl ?_
        exact hj139 _ _
    · refine s_iconst C (-1 : Int32) dX1_voter_140 (by decide) ?_
      exact s_iret C rfl dX1_voter_141
  · refine s_iconst C (-1 : Int32) dX1_voter_8 (by decide) ?_
    exact s_iret C rfl dX1_voter_9

def g_FinalLinks_votes_j42 (y0 : Int32) (h3 : Hp) : Option (Int32 × Hp) :=
  some (y0, h3)
def g_FinalLinks_votes_j41  (h4 : Hp) : Option (Int32 × Hp) :=
  g_FinalLinks_votes_j42 (-1 : Int32) h4
def g_FinalLinks_votes (x0 : Nat) (x1 : Int32) (x2 : Int32) (x3 : Int32) (h : Hp) : Option (Int32 × Hp) :=
  bn (dsp (tg h x0 % 500) none [(1, g_FinalLinks_isVoter x0 x1 h)]) fun r1 h2 =>
  if r1 = 0 then
    g_FinalLinks_votes_j41 h2
  else
    bn (dsp (tg h2 x0 % 500) none [(1, g_FinalLinks_isBlock x0 x2 h2)]) fun r5 h6 =>
    if r5 = 0 then
      g_FinalLinks_votes_j41 h6
    else
      bn (dsp (tg h6 x0 % 500) none [(1, g_FinalLinks_isBlock x0 x3 h6)]) fun r7 h8 =>
      if r7 = 0 then
        g_FinalLinks_votes_j41 h8
      else
        bn (newO 11 3 h8) fun o9 h10 =>
        bn (g_Casts_init o9 x1 x2 x3 h10) fun _ h11 =>
        bn (dsp (tg h11 x0 % 500) none [(1, g_FinalLinks_does x0 o9 h11)]) fun r12 h13 =>
        g_FinalLinks_votes_j42 r12 h13
theorem ct_g_FinalLinks_votes {G : Gx} {RL : Lv} {l : Launch} (hL : LvA G RL plA) (hJ : JK G RL l) (x0 : Nat) (x1 : Int32) (x2 : Int32) (x3 : Int32) (h : Hp) : Ct id G RL l yX1_votes (ws_ yX1_votes cX1_votes 4 (some .int)) 50 4220 finI [vr x0, .int x1, .int x2, .int x3] h (g_FinalLinks_votes x0 x1 x2 x3 h) := by
  refine Ct.of (Pl := plA) [(0, vr x0), (1, .int x1), (2, .int x2), (3, .int x3)] (by decide) hL rfl (Nat.le_of_ble_eq_true rfl) ?_
  intro E C e6 hf hlo e1 e2 e3 e4 e5
  subst e1; subst e2; subst e3
  replace C : Cx E cX1_votes (some .int) RX1 := C
  replace e6 : (eMe E).name = "votes" := e6
  unfold g_FinalLinks_votes
  refine s_aload_n C dX1_votes_0 0 rfl rfl ?_
  refine s_iload_n C dX1_votes_1 1 rfl rfl ?_
  refine s_dk 5 finI [] (fun r1 h2 => ?_) (fun hk => s_dsp 1 (fun ht => c_V C 1 [] 1 RX1 ro_1 (ct_g_FinalLinks_isVoter hL hJ x0 x1 h) (lw_V q2166 q2168 qs22 q107 q2169) nd_X1_isVoter rfl (le_fr hf rfl) (le_fr hlo rfl) rfl (Nat.le_of_ble_eq_true rfl) dX1_votes_2 hk ht) s_dsp0)
  have hj42 : ∀ (y0 : Int32) (h3 : Hp), Sim id E (QM id E finI) h3 42 [] [.int y0] (g_FinalLinks_votes_j42 y0 h3) := by
    intro y0 h3
    exact s_iret C rfl dX1_votes_42
  have hj41 : ∀  (h4 : Hp), Sim id E (QM id E finI) h4 41 [] [] (g_FinalLinks_votes_j41 h4) := by
    intro h4
    refine s_iconst C (-1 : Int32) dX1_votes_41 (by decide) ?_
    exact hj42 _ _
  refine s_if_eq C 41 dX1_votes_5 (by decide) ?_ ?_
  · refine Sim.keep [] rfl ?_
    exact hj41 _
  · refine s_aload_n C dX1_votes_8 0 rfl rfl ?_
    refine s_iload_n C dX1_votes_9 2 rfl rfl ?_
    refine s_dk 13 finI [] (fun r5 h6 => ?_) (fun hk => s_dsp 1 (fun ht => c_V C 1 [] 1 RX1 ro_1 (ct_g_FinalLinks_isBlock hL hJ x0 x2 h2) (lw_V q2135 q2137 qs20 q107 q2138) nd_X1_isBlock rfl (le_fr hf rfl) (le_fr hlo rfl) rfl (Nat.le_of_ble_eq_true rfl) dX1_votes_10 hk ht) s_dsp0)
    refine s_if_eq C 41 dX1_votes_13 (by decide) ?_ ?_
    · refine Sim.keep [] rfl ?_
      exact hj41 _
    · refine s_aload_n C dX1_votes_16 0 rfl rfl ?_
      refine s_iload_n C dX1_votes_17 3 rfl rfl ?_
      refine s_dk 21 finI [] (fun r7 h8 => ?_) (fun hk => s_dsp 1 (fun ht => c_V C 1 [] 1 RX1 ro_1 (ct_g_FinalLinks_isBlock hL hJ x0 x3 h6) (lw_V q2135 q2137 qs20 q107 q2138) nd_X1_isBlock rfl (le_fr hf rfl) (le_fr hlo rfl) rfl (Nat.le_of_ble_eq_true rfl) dX1_votes_18 hk ht) s_dsp0)
      refine s_if_eq C 41 dX1_votes_21 (by decide) ?_ ?_
      · refine Sim.keep [] rfl ?_
        exact hj41 _
      · refine s_aload_n C dX1_votes_24 0 rfl rfl ?_
        refine s_newO 11 3 C no_X1_293 (pl_of1 e4 rfl) dX1_votes_25 fun o9 h10 zo9 => ?_
        refine s_dup C dX1_votes_28 rfl ?_
        refine s_iload_n C dX1_votes_29 1 rfl rfl ?_
        refine s_iload_n C dX1_votes_30 2 rfl rfl ?_
        refine s_iload_n C dX1_votes_31 3 rfl rfl ?_
        refine c_I C 3 [vr o9, vr x0] zo9 (ct_g_Casts_init hL hJ o9 x1 x2 x3 h10) (lw_meth q2205) q159 q2203 q2204 rfl nd_X13_init.2 rfl (le_fr hf rfl) (le_fr hlo rfl) rfl (Nat.le_of_ble_eq_true rfl) dX1_votes_32 fun _ h11 => ?_
        refine s_dk 38 finI [] (fun r12 h13 => ?_) (fun hk => s_dsp 1 (fun ht => c_V C 1 [] 1 RX1 ro_1 (ct_g_FinalLinks_does hL hJ x0 o9 h11) (lw_V q2220 q2222 qs24 q107 q2223) nd_X1_does rfl (le_fr hf rfl) (le_fr hlo rfl) rfl (Nat.le_of_ble_eq_true rfl) dX1_votes_35 hk ht) s_dsp0)
        refine s_goto C 42 dX1_votes_38 (by decide) ?_
        refine Sim.keep [] rfl ?_
        exact hj42 _ _

def g_FinalLinks_way_j115 (rec32 : (Int32 × Int32) → Hp → Option (Int32 × Hp)) (x0 : Nat) (x1 : Int32) (x2 : Int32) (x3 : Int32) (h13 : Hp) : Option (Int32 × Hp) :=
  rec32 (x2, (x3 + (1 : Int32))) h13
def g_FinalLinks_way_j107 (rec32 : (Int32 × Int32) → Hp → Option (Int32 × Hp)) (x0 : Nat) (x1 : Int32) (x3 : Int32) (x4 : Int32) (h23 : Hp) : Option (Int32 × Hp) :=
  (putI [1] 0 12 x0 x3 h23).bind fun h24 =>
  g_FinalLinks_way_j115 rec32 x0 x1 x4 x3 h24
def g_FinalLinks_way_L32 (x0 : Nat) (x1 : Int32) : (Int32 × Int32) → Hp → Option (Int32 × Hp) :=
  lp FU fun rec32 v32 h6 =>
    (getR [1] 4 x0 h6).bind fun a7 =>
    bn (dsp (tg h6 a7 % 500) none [(3, g_Tree_size a7 h6)]) fun r8 h9 =>
    if r8 ≤ v32.2 then
      some (v32.1, h9)
    else
      (getR [1] 6 x0 h9).bind fun a10 =>
      bn (dsp (tg h9 a10 % 500) none [(4, g_Judged_isJust a10 v32.2 h9)]) fun r11 h12 =>
      if r11 = 0 then
        g_FinalLinks_way_j115 rec32 x0 x1 v32.1 v32.2 h12
      else
        (getR [1] 4 x0 h12).bind fun a14 =>
        bn (dsp (tg h12 a14 % 500) none [(3, g_Tree_isAhead a14 v32.2 x1 h12)]) fun r15 h16 =>
        if r15 = 0 then
          g_FinalLinks_way_j115 rec32 x0 x1 v32.1 v32.2 h16
        else
          (getR [1] 6 x0 h16).bind fun a17 =>
          bn (newO 10 2 h16) fun o18 h19 =>
          bn (oLinkInit o18 v32.2 x1 h19) fun _ h20 =>
          bn (dsp (tg h20 a17 % 500) none [(4, g_Judged_needOf a17 o18 h20)]) fun r21 h22 =>
          if r21 = (-1 : Int32) then
            g_FinalLinks_way_j115 rec32 x0 x1 v32.1 v32.2 h22
          else
            if v32.1 = (-1 : Int32) then
              g_FinalLinks_way_j107 rec32 x0 x1 v32.2 r21 h22
            else
              if r21 < v32.1 then
                g_FinalLinks_way_j107 rec32 x0 x1 v32.2 r21 h22
              else
                g_FinalLinks_way_j115 rec32 x0 x1 v32.1 v32.2 h22
def g_FinalLinks_way (x0 : Nat) (x1 : Int32) (h : Hp) : Option (Int32 × Hp) :=
  bn (dsp (tg h x0 % 500) none [(1, g_FinalLinks_isPoint x0 x1 h)]) fun r1 h2 =>
  if r1 = 0 then
    some ((-1 : Int32), h2)
  else
    (getR [1] 6 x0 h2).bind fun a3 =>
    bn (dsp (tg h2 a3 % 500) none [(4, g_Judged_isJust a3 x1 h2)]) fun r4 h5 =>
    if r4 = 0 then
      g_FinalLinks_way_L32 x0 x1 ((-1 : Int32), (0 : Int32)) h5
    else
      (putI [1] 0 12 x0 (-1 : Int32) h5).bind fun h25 =>
      some ((0 : Int32), h25)
theorem ct_g_FinalLinks_way {G : Gx} {RL : Lv} {l : Launch} (hL : LvA G RL plA) (hJ : JK G RL l) (x0 : Nat) (x1 : Int32) (h : Hp) : Ct id G RL l yX1_way (ws_ yX1_way cX1_way 5 (some .int)) 47 4159 finI [vr x0, .int x1] h (g_FinalLinks_way x0 x1 h) := by
  refine Ct.of (Pl := plA) [(0, vr x0), (1, .int x1)] (by decide) hL rfl (Nat.le_of_ble_eq_true rfl) ?_
  intro E C e6 hf hlo e1 e2 e3 e4 e5
  subst e1; subst e2; subst e3
  replace C : Cx E cX1_way (some .int) RX1 := C
  replace e6 : (eMe E).name = "way" := e6
  unfold g_FinalLinks_way
  refine s_aload_n C dX1_way_0 0 rfl rfl ?_
  refine s_iload_n C dX1_way_1 1 rfl rfl ?_
  refine s_dk 5 finI [] (fun r1 h2 => ?_) (fun hk => s_dsp 1 (fun ht => c_V C 1 [] 1 RX1 ro_1 (ct_g_FinalLinks_isPoint hL hJ x0 x1 h) (lw_V q2158 q2160 qs21 q107 q2161) nd_X1_isPoint rfl (le_fr hf rfl) (le_fr hlo rfl) rfl (Nat.le_of_ble_eq_true rfl) dX1_way_2 hk ht) s_dsp0)
  refine s_if_ne C 10 dX1_way_5 (by decide) ?_ ?_
  · refine s_aload_n C dX1_way_10 0 rfl rfl ?_
    refine s_getR [1] C (fl1 ⟨fo_X1_48_1, rfl⟩) (pl_of e4 rfl) dX1_way_11 fun a3 => ?_
    refine s_iload_n C dX1_way_14 1 rfl rfl ?_
    refine s_dk 18 finI [] (fun r4 h5 => ?_) (fun hk => s_dsp 4 (fun ht => c_V C 1 [] 4 RX4 ro_4 (ct_g_Judged_isJust hL hJ a3 x1 h2) (lw_V q2428 q1348 q1349 q130 q1350) nd_X4_isJust rfl (le_fr hf rfl) (le_fr hlo rfl) rfl (Nat.le_of_ble_eq_true rfl) dX1_way_15 hk ht) s_dsp0)
    refine s_if_eq C 28 dX1_way_18 (by decide) ?_ ?_
    · refine s_iconst C (-1 : Int32) dX1_way_28 (by decide) ?_
      refine s_istore_n (la' := [(2, .int (-1 : Int32)), (0, vr x0), (1, .int x1)]) C 2 dX1_way_29 rfl (lt_nl e5 rfl) rfl ?_
      refine s_iconst C (0 : Int32) dX1_way_30 (by decide) ?_
      have hL32 : ∀ (x0 : Nat) (x1 : Int32) (v32 : (Int32 × Int32)) (h6 : Hp), Sim id E (QM id E finI) h6 32 [(0, vr x0), (1, .int x1), (2, .int v32.1), (3, .int v32.2)] [] (g_FinalLinks_way_L32 x0 x1 v32 h6) := by
        intro x0 x1 v32 h6
        refine Sim.loop (fun v32 => [(0, vr x0), (1, .int x1), (2, .int v32.1), (3, .int v32.2)]) (fun _ => []) (fun rec32 hr32 v32 h6 => ?_) FU v32 h6
        refine s_iload_n C dX1_way_32 3 rfl rfl ?_
        refine s_aload_n C dX1_way_33 0 rfl rfl ?_
        refine s_getR [1] C (fl1 ⟨fo_X1_34_1, rfl⟩) (pl_of e4 rfl) dX1_way_34 fun a7 => ?_
        refine s_dk 40 finI [.int v32.2] (fun r8 h9 => ?_) (fun hk => s_dsp 3 (fun ht => c_V C 0 [.int v32.2] 3 RX3 ro_3 (ct_g_Tree_size hL hJ a7 h6) (lw_V q2429 q767 q768 q114 q769) nd_X3_size rfl (le_fr hf rfl) (le_fr hlo rfl) rfl (Nat.le_of_ble_eq_true rfl) dX1_way_37 hk ht) s_dsp0)
        refine s_icmp_ge C 121 dX1_way_40 (by decide) ?_ ?_
        · refine s_iload_n C dX1_way_121 2 rfl rfl ?_
          exact s_iret C rfl dX1_way_122
        · refine s_aload_n C dX1_way_43 0 rfl rfl ?_
          refine s_getR [1] C (fl1 ⟨fo_X1_48_1, rfl⟩) (pl_of e4 rfl) dX1_way_44 fun a10 => ?_
          refine s_iload_n C dX1_way_47 3 rfl rfl ?_
          refine s_dk 51 finI [] (fun r11 h12 => ?_) (fun hk => s_dsp 4 (fun ht => c_V C 1 [] 4 RX4 ro_4 (ct_g_Judged_isJust hL hJ a10 v32.2 h9) (lw_V q2428 q1348 q1349 q130 q1350) nd_X4_isJust rfl (le_fr hf rfl) (le_fr hlo rfl) rfl (Nat.le_of_ble_eq_true rfl) dX1_way_48 hk ht) s_dsp0)
          have hj115 : ∀ (x2 : Int32) (x3 : Int32) (h13 : Hp), Sim id E (QM id E finI) h13 115 [(0, vr x0), (1, .int x1), (2, .int x2), (3, .int x3)] [] (g_FinalLinks_way_j115 rec32 x0 x1 x2 x3 h13) := by
            intro x2 x3 h13
            refine s_iinc (la' := [(3, .int (x3 + (1 : Int32))), (0, vr x0), (1, .int x1), (2, .int x2)]) C 3 dX1_way_115 rfl rfl (lt_nl e5 rfl) rfl ?_
            refine s_goto C 32 dX1_way_118 (by decide) ?_
            refine Sim.keep [1, 2, 3, 0] rfl ?_
            exact hr32 _ _
          refine s_if_eq C 115 dX1_way_51 (by decide) ?_ ?_
          · exact hj115 _ _ _
          · refine s_aload_n C dX1_way_54 0 rfl rfl ?_
            refine s_getR [1] C (fl1 ⟨fo_X1_34_1, rfl⟩) (pl_of e4 rfl) dX1_way_55 fun a14 => ?_
            refine s_iload_n C dX1_way_58 3 rfl rfl ?_
            refine s_iload_n C dX1_way_59 1 rfl rfl ?_
            refine s_dk 63 finI [] (fun r15 h16 => ?_) (fun hk => s_dsp 3 (fun ht => c_V C 2 [] 3 RX3 ro_3 (ct_g_Tree_isAhead hL hJ a14 v32.2 x1 h12) (lw_V q2145 q1403 q1404 q114 q1405) nd_X3_isAhead rfl (le_fr hf rfl) (le_fr hlo rfl) rfl (Nat.le_of_ble_eq_true rfl) dX1_way_60 hk ht) s_dsp0)
            refine s_if_ne C 69 dX1_way_63 (by decide) ?_ ?_
            · refine s_aload_n C dX1_way_69 0 rfl rfl ?_
              refine s_getR [1] C (fl1 ⟨fo_X1_48_1, rfl⟩) (pl_of e4 rfl) dX1_way_70 fun a17 => ?_
              refine s_newO 10 2 C no_X1_249 (pl_of1 e4 rfl) dX1_way_73 fun o18 h19 zo18 => ?_
              refine s_dup C dX1_way_76 rfl ?_
              refine s_iload_n C dX1_way_77 3 rfl rfl ?_
              refine s_iload_n C dX1_way_78 1 rfl rfl ?_
              refine c_I C 2 [vr o18, vr a17] zo18 (jk_19 hJ o18 v32.2 x1 h19) (lw_meth q2270) q157 q2375 q2269 rfl nd_X11_init.2 rfl (le_fr hf rfl) (le_fr hlo rfl) rfl (Nat.le_of_ble_eq_true rfl) dX1_way_79 fun _ h20 => ?_
              refine s_dk 85 finI [] (fun r21 h22 => ?_) (fun hk => s_dsp 4 (fun ht => c_V C 1 [] 4 RX4 ro_4 (ct_g_Judged_needOf hL hJ a17 o18 h20) (lw_V q2408 q2409 q2410 q130 q2411) nd_X4_needOf rfl (le_fr hf rfl) (le_fr hlo rfl) rfl (Nat.le_of_ble_eq_true rfl) dX1_way_82 hk ht) s_dsp0)
              refine s_istore (la' := [(4, .int r21), (0, vr x0), (1, .int x1), (2, .int v32.1), (3, .int v32.2)]) C dX1_way_85 (lt_nl e5 rfl) rfl ?_
              refine s_iload C dX1_way_87 0 rfl ?_
              refine s_iconst C (-1 : Int32) dX1_way_89 (by decide) ?_
              refine s_icmp_eq C 115 dX1_way_90 (by decide) ?_ ?_
              · refine Sim.keep [1, 2, 3, 4] rfl ?_
                exact hj115 _ _ _
              · refine s_iload_n C dX1_way_93 3 rfl rfl ?_
                refine s_iconst C (-1 : Int32) dX1_way_94 (by decide) ?_
                have hj107 : ∀ (x3 : Int32) (x4 : Int32) (h23 : Hp), Sim id E (QM id E finI) h23 107 [(0, vr x0), (1, .int x1), (3, .int x3), (4, .int x4)] [] (g_FinalLinks_way_j107 rec32 x0 x1 x3 x4 h23) := by
                  intro x3 x4 h23
                  refine s_iload C dX1_way_107 3 rfl ?_
                  refine s_istore_n (la' := [(2, .int x4), (0, vr x0), (1, .int x1), (3, .int x3), (4, .int x4)]) C 2 dX1_way_109 rfl (lt_nl e5 rfl) rfl ?_
                  refine s_aload_n C dX1_way_110 1 rfl rfl ?_
                  refine s_iload_n C dX1_way_111 3 rfl rfl ?_
                  refine s_putI [1] 0 C (by decide) (by decide) (fl1 ⟨⟨by decide, fo_X1_63_1, rfl⟩, rfl⟩) (pl_of e4 rfl) (fl1 (Or.inl rfl)) dX1_way_112 fun h24 => ?_
                  refine Sim.keep [1, 2, 0, 3] rfl ?_
                  exact hj115 _ _ _
                refine s_icmp_eq C 107 dX1_way_95 (by decide) ?_ ?_
                · refine Sim.keep [1, 2, 4, 0] rfl ?_
                  exact hj107 _ _ _
                · refine s_iload C dX1_way_98 0 rfl ?_
                  refine s_iload_n C dX1_way_100 3 rfl rfl ?_
                  refine s_icmp_lt C 107 dX1_way_101 (by decide) ?_ ?_
                  · refine Sim.keep [1, 2, 4, 0] rfl ?_
                    exact hj107 _ _ _
                  · refine s_goto C 115 dX1_way_104 (by decide) ?_
                    refine Sim.keep [1, 2, 3, 4] rfl ?_
                    exact hj115 _ _ _
            · refine s_goto C 115 dX1_way_66 (by decide) ?_
              exact hj115 _ _ _
      refine s_istore_n (la' := [(3, .int (0 : Int32)), (2, .int (-1 : Int32)), (0, vr x0), (1, .int x1)]) C 3 dX1_way_31 rfl (lt_nl e5 rfl) rfl ?_
      refine Sim.keep [2, 3, 1, 0] rfl ?_
      exact hL32 _ _ _ _
    · refine s_aload_n C dX1_way_21 0 rfl rfl ?_
      refine s_iconst C (-1 : Int32) dX1_way_22 (by decide) ?_
      refine s_putI [1] 0 C (by decide) (by decide) (fl1 ⟨⟨by decide, fo_X1_63_1, rfl⟩, rfl⟩) (pl_of e4 rfl) (fl1 (Or.inl rfl)) dX1_way_23 fun h25 => ?_
      refine s_iconst C (0 : Int32) dX1_way_26 (by decide) ?_
      exact s_iret C rfl dX1_way_27
  · refine s_iconst C (-1 : Int32) dX1_way_8 (by decide) ?_
    exact s_iret C rfl dX1_way_9

def g_FinalLinks_wayFrom (x0 : Nat) (h : Hp) : Option (Int32 × Hp) :=
  (getI [1] 12 x0 h).bind fun a1 =>
  some (a1, h)
theorem ct_g_FinalLinks_wayFrom {G : Gx} {RL : Lv} {l : Launch} (hL : LvA G RL plA) (hJ : JK G RL l) (x0 : Nat) (h : Hp) : Ct id G RL l yX1_wayFrom (ws_ yX1_wayFrom cX1_wayFrom 1 (some .int)) 0 0 finI [vr x0] h (g_FinalLinks_wayFrom x0 h) := by
  refine Ct.of (Pl := plA) [(0, vr x0)] (by decide) hL rfl (Nat.le_of_ble_eq_true rfl) ?_
  intro E C e6 hf hlo e1 e2 e3 e4 e5
  subst e1; subst e2; subst e3
  replace C : Cx E cX1_wayFrom (some .int) RX1 := C
  replace e6 : (eMe E).name = "wayFrom" := e6
  unfold g_FinalLinks_wayFrom
  refine s_aload_n C dX1_wayFrom_0 0 rfl rfl ?_
  refine s_getI [1] C (fl1 ⟨fo_X1_63_1, rfl⟩) (pl_of e4 rfl) dX1_wayFrom_1 fun a1 => ?_
  exact s_iret C rfl dX1_wayFrom_4

def g_FinalLinks_weight_j29 (y0 : Int32) (h3 : Hp) : Option (Int32 × Hp) :=
  some (y0, h3)
def g_FinalLinks_weight_j28  (h4 : Hp) : Option (Int32 × Hp) :=
  g_FinalLinks_weight_j29 (-1 : Int32) h4
def g_FinalLinks_weight (x0 : Nat) (x1 : Int32) (x2 : Int32) (h : Hp) : Option (Int32 × Hp) :=
  bn (dsp (tg h x0 % 500) none [(1, g_FinalLinks_isPoint x0 x1 h)]) fun r1 h2 =>
  if r1 = 0 then
    g_FinalLinks_weight_j28 h2
  else
    bn (dsp (tg h2 x0 % 500) none [(1, g_FinalLinks_isVoter x0 x2 h2)]) fun r5 h6 =>
    if r5 = 0 then
      g_FinalLinks_weight_j28 h6
    else
      (getR [1] 4 x0 h6).bind fun a7 =>
      bn (dsp (tg h6 a7 % 500) none [(3, g_Tree_weight a7 x1 x2 h6)]) fun r8 h9 =>
      g_FinalLinks_weight_j29 r8 h9
theorem ct_g_FinalLinks_weight {G : Gx} {RL : Lv} {l : Launch} (hL : LvA G RL plA) (hJ : JK G RL l) (x0 : Nat) (x1 : Int32) (x2 : Int32) (h : Hp) : Ct id G RL l yX1_weight (ws_ yX1_weight cX1_weight 3 (some .int)) 44 4084 finI [vr x0, .int x1, .int x2] h (g_FinalLinks_weight x0 x1 x2 h) := by
  refine Ct.of (Pl := plA) [(0, vr x0), (1, .int x1), (2, .int x2)] (by decide) hL rfl (Nat.le_of_ble_eq_true rfl) ?_
  intro E C e6 hf hlo e1 e2 e3 e4 e5
  subst e1; subst e2; subst e3
  replace C : Cx E cX1_weight (some .int) RX1 := C
  replace e6 : (eMe E).name = "weight" := e6
  unfold g_FinalLinks_weight
  refine s_aload_n C dX1_weight_0 0 rfl rfl ?_
  refine s_iload_n C dX1_weight_1 1 rfl rfl ?_
  refine s_dk 5 finI [] (fun r1 h2 => ?_) (fun hk => s_dsp 1 (fun ht => c_V C 1 [] 1 RX1 ro_1 (ct_g_FinalLinks_isPoint hL hJ x0 x1 h) (lw_V q2158 q2160 qs21 q107 q2161) nd_X1_isPoint rfl (le_fr hf rfl) (le_fr hlo rfl) rfl (Nat.le_of_ble_eq_true rfl) dX1_weight_2 hk ht) s_dsp0)
  have hj29 : ∀ (y0 : Int32) (h3 : Hp), Sim id E (QM id E finI) h3 29 [] [.int y0] (g_FinalLinks_weight_j29 y0 h3) := by
    intro y0 h3
    exact s_iret C rfl dX1_weight_29
  have hj28 : ∀  (h4 : Hp), Sim id E (QM id E finI) h4 28 [] [] (g_FinalLinks_weight_j28 h4) := by
    intro h4
    refine s_iconst C (-1 : Int32) dX1_weight_28 (by decide) ?_
    exact hj29 _ _
  refine s_if_eq C 28 dX1_weight_5 (by decide) ?_ ?_
  · refine Sim.keep [] rfl ?_
    exact hj28 _
  · refine s_aload_n C dX1_weight_8 0 rfl rfl ?_
    refine s_iload_n C dX1_weight_9 2 rfl rfl ?_
    refine s_dk 13 finI [] (fun r5 h6 => ?_) (fun hk => s_dsp 1 (fun ht => c_V C 1 [] 1 RX1 ro_1 (ct_g_FinalLinks_isVoter hL hJ x0 x2 h2) (lw_V q2166 q2168 qs22 q107 q2169) nd_X1_isVoter rfl (le_fr hf rfl) (le_fr hlo rfl) rfl (Nat.le_of_ble_eq_true rfl) dX1_weight_10 hk ht) s_dsp0)
    refine s_if_eq C 28 dX1_weight_13 (by decide) ?_ ?_
    · refine Sim.keep [] rfl ?_
      exact hj28 _
    · refine s_aload_n C dX1_weight_16 0 rfl rfl ?_
      refine s_getR [1] C (fl1 ⟨fo_X1_34_1, rfl⟩) (pl_of e4 rfl) dX1_weight_17 fun a7 => ?_
      refine s_iload_n C dX1_weight_20 1 rfl rfl ?_
      refine s_iload_n C dX1_weight_21 2 rfl rfl ?_
      refine s_dk 25 finI [] (fun r8 h9 => ?_) (fun hk => s_dsp 3 (fun ht => c_V C 2 [] 3 RX3 ro_3 (ct_g_Tree_weight hL hJ a7 x1 x2 h6) (lw_V q2172 q1342 q1343 q114 q1344) nd_X3_weight rfl (le_fr hf rfl) (le_fr hlo rfl) rfl (Nat.le_of_ble_eq_true rfl) dX1_weight_22 hk ht) s_dsp0)
      refine s_goto C 29 dX1_weight_25 (by decide) ?_
      refine Sim.keep [] rfl ?_
      exact hj29 _ _

def g_Not_init (x0 : Nat) (x1 : Nat) (h : Hp) : Option (Unit × Hp) :=
  if x0 = 0 then none else
  bn (g_Cond_init x0 h) fun _ h1 =>
  (putR [17] 0 x0 x1 h1).bind fun h3 =>
  some ((), h3)
theorem ct_g_Not_init {G : Gx} {RL : Lv} {l : Launch} (hL : LvA G RL plA) (hJ : JK G RL l) (x0 : Nat) (x1 : Nat) (h : Hp) : Ct id G RL l yX20_init (ws_ yX20_init cX20_init 2 none) 2 40 finV [vr x0, vr x1] h (g_Not_init x0 x1 h) := by
  refine Ct.of (Pl := plA) [(0, vr x0), (1, vr x1)] (by decide) hL rfl (Nat.le_of_ble_eq_true rfl) ?_
  intro E C e6 hf hlo e1 e2 e3 e4 e5
  subst e1; subst e2; subst e3
  replace C : Cx E cX20_init none RX20 := C
  replace e6 : (eMe E).name = "<init>" := e6
  unfold g_Not_init
  refine s_aload_n C dX20_init_0 0 rfl rfl ?_
  refine s_nz fun z2 => ?_
  refine c_IN C 0 [] _ z2 (ct_g_Cond_init hL hJ x0 h) (lw_meth q2708) q165 q2706 q2707 rfl nd_X19_init.2 rfl (le_fr hf rfl) (le_fr hlo rfl) rfl (Nat.le_of_ble_eq_true rfl) dX20_init_1 fun _ h1 => ?_
  refine s_aload_n C dX20_init_4 0 rfl rfl ?_
  refine s_aload_n C dX20_init_5 1 rfl rfl ?_
  refine s_putR [17] C (fl1 ⟨by decide, fo_X20_7_17, rfl⟩) (pl_of e4 rfl) (fl1 (Or.inr ⟨e6, fx_X20_7_17⟩)) dX20_init_6 fun h3 => ?_
  exact s_vret C rfl dX20_init_9

def g_SentenceReader_numbered_j53 (y0 : Int32) (h3 : Hp) : Option (Int32 × Hp) :=
  some (y0, h3)
def g_SentenceReader_numbered (x0 : Nat) (h : Hp) : Option (Int32 × Hp) :=
  bn (dsp (tg h x0 % 500) none [(16, g_Reader_is x0 30 h)]) fun r1 h2 =>
  if r1 = 0 then
    bn (dsp (tg h2 x0 % 500) none [(16, g_Reader_is x0 31 h2)]) fun r4 h5 =>
    if r4 = 0 then
      bn (dsp (tg h5 x0 % 500) none [(16, g_Reader_is x0 32 h5)]) fun r6 h7 =>
      if r6 = 0 then
        bn (dsp (tg h7 x0 % 500) none [(16, g_Reader_is x0 33 h7)]) fun r8 h9 =>
        if r8 = 0 then
          g_SentenceReader_numbered_j53 (-1 : Int32) h9
        else
          g_SentenceReader_numbered_j53 (3 : Int32) h9
      else
        g_SentenceReader_numbered_j53 (2 : Int32) h7
    else
      g_SentenceReader_numbered_j53 (1 : Int32) h5
  else
    g_SentenceReader_numbered_j53 (0 : Int32) h2
theorem ct_g_SentenceReader_numbered {G : Gx} {RL : Lv} {l : Launch} (hL : LvA G RL plA) (hJ : JK G RL l) (x0 : Nat) (h : Hp) : Ct id G RL l yX18_numbered (ws_ yX18_numbered cX18_numbered 1 (some .int)) 42 4043 finI [vr x0] h (g_SentenceReader_numbered x0 h) := by
  refine Ct.of (Pl := plA) [(0, vr x0)] (by decide) hL rfl (Nat.le_of_ble_eq_true rfl) ?_
  intro E C e6 hf hlo e1 e2 e3 e4 e5
  subst e1; subst e2; subst e3
  replace C : Cx E cX18_numbered (some .int) RX18 := C
  replace e6 : (eMe E).name = "numbered" := e6
  unfold g_SentenceReader_numbered
  refine s_aload_n C dX18_numbered_0 0 rfl rfl ?_
  refine s_ldcS C (List.mem_of_getElem? (i := 21) rfl) (by decide) (by decide) dX18_numbered_1 ?_
  refine s_dk 6 finI [] (fun r1 h2 => ?_) (fun hk => s_dsp 16 (fun ht => c_U C 1 [] 16 RX18 _ ro_16 (ct_g_Reader_is hL hJ x0 30 h) (lw_U q2673 q2674 q2675 q1730 q148 q1731) rfl nd_X7_is.2 rfl (le_fr hf rfl) (le_fr hlo rfl) rfl (Nat.le_of_ble_eq_true rfl) dX18_numbered_3 hk ht) s_dsp0)
  have hj53 : ∀ (y0 : Int32) (h3 : Hp), Sim id E (QM id E finI) h3 53 [] [.int y0] (g_SentenceReader_numbered_j53 y0 h3) := by
    intro y0 h3
    exact s_iret C rfl dX18_numbered_53
  refine s_if_eq C 13 dX18_numbered_6 (by decide) ?_ ?_
  · refine s_aload_n C dX18_numbered_13 0 rfl rfl ?_
    refine s_ldcS C (List.mem_of_getElem? (i := 22) rfl) (by decide) (by decide) dX18_numbered_14 ?_
    refine s_dk 19 finI [] (fun r4 h5 => ?_) (fun hk => s_dsp 16 (fun ht => c_U C 1 [] 16 RX18 _ ro_16 (ct_g_Reader_is hL hJ x0 31 h2) (lw_U q2673 q2674 q2675 q1730 q148 q1731) rfl nd_X7_is.2 rfl (le_fr hf rfl) (le_fr hlo rfl) rfl (Nat.le_of_ble_eq_true rfl) dX18_numbered_16 hk ht) s_dsp0)
    refine s_if_eq C 26 dX18_numbered_19 (by decide) ?_ ?_
    · refine s_aload_n C dX18_numbered_26 0 rfl rfl ?_
      refine s_ldcS C (List.mem_of_getElem? (i := 23) rfl) (by decide) (by decide) dX18_numbered_27 ?_
      refine s_dk 32 finI [] (fun r6 h7 => ?_) (fun hk => s_dsp 16 (fun ht => c_U C 1 [] 16 RX18 _ ro_16 (ct_g_Reader_is hL hJ x0 32 h5) (lw_U q2673 q2674 q2675 q1730 q148 q1731) rfl nd_X7_is.2 rfl (le_fr hf rfl) (le_fr hlo rfl) rfl (Nat.le_of_ble_eq_true rfl) dX18_numbered_29 hk ht) s_dsp0)
      refine s_if_eq C 39 dX18_numbered_32 (by decide) ?_ ?_
      · refine s_aload_n C dX18_numbered_39 0 rfl rfl ?_
        refine s_ldcS C (List.mem_of_getElem? (i := 24) rfl) (by decide) (by decide) dX18_numbered_40 ?_
        refine s_dk 45 finI [] (fun r8 h9 => ?_) (fun hk => s_dsp 16 (fun ht => c_U C 1 [] 16 RX18 _ ro_16 (ct_g_Reader_is hL hJ x0 33 h7) (lw_U q2673 q2674 q2675 q1730 q148 q1731) rfl nd_X7_is.2 rfl (le_fr hf rfl) (le_fr hlo rfl) rfl (Nat.le_of_ble_eq_true rfl) dX18_numbered_42 hk ht) s_dsp0)
        refine s_if_eq C 52 dX18_numbered_45 (by decide) ?_ ?_
        · refine s_iconst C (-1 : Int32) dX18_numbered_52 (by decide) ?_
          refine Sim.keep [] rfl ?_
          exact hj53 _ _
        · refine s_iconst C (3 : Int32) dX18_numbered_48 (by decide) ?_
          refine s_goto C 53 dX18_numbered_49 (by decide) ?_
          refine Sim.keep [] rfl ?_
          exact hj53 _ _
      · refine s_iconst C (2 : Int32) dX18_numbered_35 (by decide) ?_
        refine s_goto C 53 dX18_numbered_36 (by decide) ?_
        refine Sim.keep [] rfl ?_
        exact hj53 _ _
    · refine s_iconst C (1 : Int32) dX18_numbered_22 (by decide) ?_
      refine s_goto C 53 dX18_numbered_23 (by decide) ?_
      refine Sim.keep [] rfl ?_
      exact hj53 _ _
  · refine s_iconst C (0 : Int32) dX18_numbered_9 (by decide) ?_
    refine s_goto C 53 dX18_numbered_10 (by decide) ?_
    refine Sim.keep [] rfl ?_
    exact hj53 _ _

def g_SentenceReader_plain_j66 (y0 : Int32) (h3 : Hp) : Option (Int32 × Hp) :=
  some (y0, h3)
def g_SentenceReader_plain (x0 : Nat) (h : Hp) : Option (Int32 × Hp) :=
  bn (dsp (tg h x0 % 500) none [(16, g_Reader_is x0 25 h)]) fun r1 h2 =>
  if r1 = 0 then
    bn (dsp (tg h2 x0 % 500) none [(16, g_Reader_is x0 26 h2)]) fun r4 h5 =>
    if r4 = 0 then
      bn (dsp (tg h5 x0 % 500) none [(16, g_Reader_is x0 27 h5)]) fun r6 h7 =>
      if r6 = 0 then
        bn (dsp (tg h7 x0 % 500) none [(16, g_Reader_is x0 28 h7)]) fun r8 h9 =>
        if r8 = 0 then
          bn (dsp (tg h9 x0 % 500) none [(16, g_Reader_is x0 29 h9)]) fun r10 h11 =>
          if r10 = 0 then
            g_SentenceReader_plain_j66 (-1 : Int32) h11
          else
            g_SentenceReader_plain_j66 (4 : Int32) h11
        else
          g_SentenceReader_plain_j66 (3 : Int32) h9
      else
        g_SentenceReader_plain_j66 (2 : Int32) h7
    else
      g_SentenceReader_plain_j66 (1 : Int32) h5
  else
    g_SentenceReader_plain_j66 (0 : Int32) h2
theorem ct_g_SentenceReader_plain {G : Gx} {RL : Lv} {l : Launch} (hL : LvA G RL plA) (hJ : JK G RL l) (x0 : Nat) (h : Hp) : Ct id G RL l yX18_plain (ws_ yX18_plain cX18_plain 1 (some .int)) 42 4043 finI [vr x0] h (g_SentenceReader_plain x0 h) := by
  refine Ct.of (Pl := plA) [(0, vr x0)] (by decide) hL rfl (Nat.le_of_ble_eq_true rfl) ?_
  intro E C e6 hf hlo e1 e2 e3 e4 e5
  subst e1; subst e2; subst e3
  replace C : Cx E cX18_plain (some .int) RX18 := C
  replace e6 : (eMe E).name = "plain" := e6
  unfold g_SentenceReader_plain
  refine s_aload_n C dX18_plain_0 0 rfl rfl ?_
  refine s_ldcS C (List.mem_of_getElem? (i := 16) rfl) (by decide) (by decide) dX18_plain_1 ?_
  refine s_dk 6 finI [] (fun r1 h2 => ?_) (fun hk => s_dsp 16 (fun ht => c_U C 1 [] 16 RX18 _ ro_16 (ct_g_Reader_is hL hJ x0 25 h) (lw_U q2673 q2674 q2675 q1730 q148 q1731) rfl nd_X7_is.2 rfl (le_fr hf rfl) (le_fr hlo rfl) rfl (Nat.le_of_ble_eq_true rfl) dX18_plain_3 hk ht) s_dsp0)
  have hj66 : ∀ (y0 : Int32) (h3 : Hp), Sim id E (QM id E finI) h3 66 [] [.int y0] (g_SentenceReader_plain_j66 y0 h3) := by
    intro y0 h3
    exact s_iret C rfl dX18_plain_66
  refine s_if_eq C 13 dX18_plain_6 (by decide) ?_ ?_
  · refine s_aload_n C dX18_plain_13 0 rfl rfl ?_
    refine s_ldcS C (List.mem_of_getElem? (i := 17) rfl) (by decide) (by decide) dX18_plain_14 ?_
    refine s_dk 19 finI [] (fun r4 h5 => ?_) (fun hk => s_dsp 16 (fun ht => c_U C 1 [] 16 RX18 _ ro_16 (ct_g_Reader_is hL hJ x0 26 h2) (lw_U q2673 q2674 q2675 q1730 q148 q1731) rfl nd_X7_is.2 rfl (le_fr hf rfl) (le_fr hlo rfl) rfl (Nat.le_of_ble_eq_true rfl) dX18_plain_16 hk ht) s_dsp0)
    refine s_if_eq C 26 dX18_plain_19 (by decide) ?_ ?_
    · refine s_aload_n C dX18_plain_26 0 rfl rfl ?_
      refine s_ldcS C (List.mem_of_getElem? (i := 18) rfl) (by decide) (by decide) dX18_plain_27 ?_
      refine s_dk 32 finI [] (fun r6 h7 => ?_) (fun hk => s_dsp 16 (fun ht => c_U C 1 [] 16 RX18 _ ro_16 (ct_g_Reader_is hL hJ x0 27 h5) (lw_U q2673 q2674 q2675 q1730 q148 q1731) rfl nd_X7_is.2 rfl (le_fr hf rfl) (le_fr hlo rfl) rfl (Nat.le_of_ble_eq_true rfl) dX18_plain_29 hk ht) s_dsp0)
      refine s_if_eq C 39 dX18_plain_32 (by decide) ?_ ?_
      · refine s_aload_n C dX18_plain_39 0 rfl rfl ?_
        refine s_ldcS C (List.mem_of_getElem? (i := 19) rfl) (by decide) (by decide) dX18_plain_40 ?_
        refine s_dk 45 finI [] (fun r8 h9 => ?_) (fun hk => s_dsp 16 (fun ht => c_U C 1 [] 16 RX18 _ ro_16 (ct_g_Reader_is hL hJ x0 28 h7) (lw_U q2673 q2674 q2675 q1730 q148 q1731) rfl nd_X7_is.2 rfl (le_fr hf rfl) (le_fr hlo rfl) rfl (Nat.le_of_ble_eq_true rfl) dX18_plain_42 hk ht) s_dsp0)
        refine s_if_eq C 52 dX18_plain_45 (by decide) ?_ ?_
        · refine s_aload_n C dX18_plain_52 0 rfl rfl ?_
          refine s_ldcS C (List.mem_of_getElem? (i := 20) rfl) (by decide) (by decide) dX18_plain_53 ?_
          refine s_dk 58 finI [] (fun r10 h11 => ?_) (fun hk => s_dsp 16 (fun ht => c_U C 1 [] 16 RX18 _ ro_16 (ct_g_Reader_is hL hJ x0 29 h9) (lw_U q2673 q2674 q2675 q1730 q148 q1731) rfl nd_X7_is.2 rfl (le_fr hf rfl) (le_fr hlo rfl) rfl (Nat.le_of_ble_eq_true rfl) dX18_plain_55 hk ht) s_dsp0)
          refine s_if_eq C 65 dX18_plain_58 (by decide) ?_ ?_
          · refine s_iconst C (-1 : Int32) dX18_plain_65 (by decide) ?_
            refine Sim.keep [] rfl ?_
            exact hj66 _ _
          · refine s_iconst C (4 : Int32) dX18_plain_61 (by decide) ?_
            refine s_goto C 66 dX18_plain_62 (by decide) ?_
            refine Sim.keep [] rfl ?_
            exact hj66 _ _
        · refine s_iconst C (3 : Int32) dX18_plain_48 (by decide) ?_
          refine s_goto C 66 dX18_plain_49 (by decide) ?_
          refine Sim.keep [] rfl ?_
          exact hj66 _ _
      · refine s_iconst C (2 : Int32) dX18_plain_35 (by decide) ?_
        refine s_goto C 66 dX18_plain_36 (by decide) ?_
        refine Sim.keep [] rfl ?_
        exact hj66 _ _
    · refine s_iconst C (1 : Int32) dX18_plain_22 (by decide) ?_
      refine s_goto C 66 dX18_plain_23 (by decide) ?_
      refine Sim.keep [] rfl ?_
      exact hj66 _ _
  · refine s_iconst C (0 : Int32) dX18_plain_9 (by decide) ?_
    refine s_goto C 66 dX18_plain_10 (by decide) ?_
    refine Sim.keep [] rfl ?_
    exact hj66 _ _

def g_Than_init (x0 : Nat) (x1 : Int32) (x2 : Int32) (x3 : Int32) (h : Hp) : Option (Unit × Hp) :=
  if x0 = 0 then none else
  bn (g_Cond_init x0 h) fun _ h1 =>
  (putI [20] 0 0 x0 x1 h1).bind fun h3 =>
  (putI [20] 0 1 x0 x2 h3).bind fun h4 =>
  (putI [20] 0 2 x0 x3 h4).bind fun h5 =>
  some ((), h5)
theorem ct_g_Than_init {G : Gx} {RL : Lv} {l : Launch} (hL : LvA G RL plA) (hJ : JK G RL l) (x0 : Nat) (x1 : Int32) (x2 : Int32) (x3 : Int32) (h : Hp) : Ct id G RL l yX23_init (ws_ yX23_init cX23_init 4 none) 2 40 finV [vr x0, .int x1, .int x2, .int x3] h (g_Than_init x0 x1 x2 x3 h) := by
  refine Ct.of (Pl := plA) [(0, vr x0), (1, .int x1), (2, .int x2), (3, .int x3)] (by decide) hL rfl (Nat.le_of_ble_eq_true rfl) ?_
  intro E C e6 hf hlo e1 e2 e3 e4 e5
  subst e1; subst e2; subst e3
  replace C : Cx E cX23_init none RX23 := C
  replace e6 : (eMe E).name = "<init>" := e6
  unfold g_Than_init
  refine s_aload_n C dX23_init_0 0 rfl rfl ?_
  refine s_nz fun z2 => ?_
  refine c_IN C 0 [] _ z2 (ct_g_Cond_init hL hJ x0 h) (lw_meth q2708) q165 q2749 q2707 rfl nd_X19_init.2 rfl (le_fr hf rfl) (le_fr hlo rfl) rfl (Nat.le_of_ble_eq_true rfl) dX23_init_1 fun _ h1 => ?_
  refine s_aload_n C dX23_init_4 0 rfl rfl ?_
  refine s_iload_n C dX23_init_5 1 rfl rfl ?_
  refine s_putI [20] 0 C (by decide) (by decide) (fl1 ⟨⟨by decide, fo_X23_7_20, rfl⟩, rfl⟩) (pl_of e4 rfl) (fl1 (Or.inr ⟨e6, fx_X23_7_20⟩)) dX23_init_6 fun h3 => ?_
  refine s_aload_n C dX23_init_9 0 rfl rfl ?_
  refine s_iload_n C dX23_init_10 2 rfl rfl ?_
  refine s_putI [20] 0 C (by decide) (by decide) (fl1 ⟨⟨by decide, fo_X23_13_20, rfl⟩, rfl⟩) (pl_of e4 rfl) (fl1 (Or.inr ⟨e6, fx_X23_13_20⟩)) dX23_init_11 fun h4 => ?_
  refine s_aload_n C dX23_init_14 0 rfl rfl ?_
  refine s_iload_n C dX23_init_15 3 rfl rfl ?_
  refine s_putI [20] 0 C (by decide) (by decide) (fl1 ⟨⟨by decide, fo_X23_16_20, rfl⟩, rfl⟩) (pl_of e4 rfl) (fl1 (Or.inr ⟨e6, fx_X23_16_20⟩)) dX23_init_16 fun h5 => ?_
  exact s_vret C rfl dX23_init_19

def g_Under_init (x0 : Nat) (x1 : Int32) (h : Hp) : Option (Unit × Hp) :=
  if x0 = 0 then none else
  bn (g_Cond_init x0 h) fun _ h1 =>
  (putI [18] 0 0 x0 x1 h1).bind fun h3 =>
  some ((), h3)
theorem ct_g_Under_init {G : Gx} {RL : Lv} {l : Launch} (hL : LvA G RL plA) (hJ : JK G RL l) (x0 : Nat) (x1 : Int32) (h : Hp) : Ct id G RL l yX21_init (ws_ yX21_init cX21_init 2 none) 2 40 finV [vr x0, .int x1] h (g_Under_init x0 x1 h) := by
  refine Ct.of (Pl := plA) [(0, vr x0), (1, .int x1)] (by decide) hL rfl (Nat.le_of_ble_eq_true rfl) ?_
  intro E C e6 hf hlo e1 e2 e3 e4 e5
  subst e1; subst e2; subst e3
  replace C : Cx E cX21_init none RX21 := C
  replace e6 : (eMe E).name = "<init>" := e6
  unfold g_Under_init
  refine s_aload_n C dX21_init_0 0 rfl rfl ?_
  refine s_nz fun z2 => ?_
  refine c_IN C 0 [] _ z2 (ct_g_Cond_init hL hJ x0 h) (lw_meth q2708) q165 q2722 q2707 rfl nd_X19_init.2 rfl (le_fr hf rfl) (le_fr hlo rfl) rfl (Nat.le_of_ble_eq_true rfl) dX21_init_1 fun _ h1 => ?_
  refine s_aload_n C dX21_init_4 0 rfl rfl ?_
  refine s_iload_n C dX21_init_5 1 rfl rfl ?_
  refine s_putI [18] 0 C (by decide) (by decide) (fl1 ⟨⟨by decide, fo_X21_7_18, rfl⟩, rfl⟩) (pl_of e4 rfl) (fl1 (Or.inr ⟨e6, fx_X21_7_18⟩)) dX21_init_6 fun h3 => ?_
  exact s_vret C rfl dX21_init_9

def g_What_init (x0 : Nat) (x1 : Int32) (h : Hp) : Option (Unit × Hp) :=
  if x0 = 0 then none else
  bn (g_Cond_init x0 h) fun _ h1 =>
  (putI [19] 0 0 x0 x1 h1).bind fun h3 =>
  some ((), h3)
theorem ct_g_What_init {G : Gx} {RL : Lv} {l : Launch} (hL : LvA G RL plA) (hJ : JK G RL l) (x0 : Nat) (x1 : Int32) (h : Hp) : Ct id G RL l yX22_init (ws_ yX22_init cX22_init 2 none) 2 40 finV [vr x0, .int x1] h (g_What_init x0 x1 h) := by
  refine Ct.of (Pl := plA) [(0, vr x0), (1, .int x1)] (by decide) hL rfl (Nat.le_of_ble_eq_true rfl) ?_
  intro E C e6 hf hlo e1 e2 e3 e4 e5
  subst e1; subst e2; subst e3
  replace C : Cx E cX22_init none RX22 := C
  replace e6 : (eMe E).name = "<init>" := e6
  unfold g_What_init
  refine s_aload_n C dX22_init_0 0 rfl rfl ?_
  refine s_nz fun z2 => ?_
  refine c_IN C 0 [] _ z2 (ct_g_Cond_init hL hJ x0 h) (lw_meth q2708) q165 q2732 q2707 rfl nd_X19_init.2 rfl (le_fr hf rfl) (le_fr hlo rfl) rfl (Nat.le_of_ble_eq_true rfl) dX22_init_1 fun _ h1 => ?_
  refine s_aload_n C dX22_init_4 0 rfl rfl ?_
  refine s_iload_n C dX22_init_5 1 rfl rfl ?_
  refine s_putI [19] 0 C (by decide) (by decide) (fl1 ⟨⟨by decide, fo_X22_7_19, rfl⟩, rfl⟩) (pl_of e4 rfl) (fl1 (Or.inr ⟨e6, fx_X22_7_19⟩)) dX22_init_6 fun h3 => ?_
  exact s_vret C rfl dX22_init_9
