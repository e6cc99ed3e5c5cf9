/-! THE LIBRARY'S METHODS ON THE RAW HEAP (printed by hgenraw.py) -/
set_option maxRecDepth 100000
def g_StringLatin1_compareTo_j40 (y0 : Int32) (h4 : Hp) : Option (Int32 × Hp) :=
  some (y0, h4)
def g_StringLatin1_compareTo (x0 : Nat) (x1 : Nat) (x2 : Int32) (x3 : Int32) (h : Hp) : Option (Int32 × Hp) :=
  bd ((if x3 < x2 then x3 else x2)) fun a1 =>
  bn (g_ArraysSupport_mismatch x0 x1 a1 h) fun r2 h3 =>
  if 0 ≤ r2 then
    bn (g_StringLatin1_getChar x0 r2 h3) fun r5 h6 =>
    bn (g_StringLatin1_getChar x1 r2 h6) fun r7 h8 =>
    g_StringLatin1_compareTo_j40 (r5 - r7) h8
  else
    g_StringLatin1_compareTo_j40 (x2 - x3) h3
theorem ct_g_StringLatin1_compareTo {G : Gx} {RL : Lv} {l : Launch} (hL : LvA G RL plR) (x0 : Nat) (x1 : Nat) (x2 : Int32) (x3 : Int32) (h : Hp) : Ct id G RL l yJ28_compareTo_2 (ws_ yJ28_compareTo_2 cJ28_compareTo_2 6 (some .int)) 1 29 finI [vr x0, vr x1, .int x2, .int x3] h (g_StringLatin1_compareTo x0 x1 x2 x3 h) := by
  refine Ct.of (Pl := plR) [(0, vr x0), (1, vr x1), (2, .int x2), (3, .int x3)] (by decide) hL rfl (Nat.le_of_ble_eq_true rfl) ?_
  intro E C e6 hf hlo e1 e2 e3 e4 e5
  subst e1; subst e2; subst e3
  replace C : Cx E cJ28_compareTo_2 (some .int) RJ28 := C
  replace e6 : (eMe E).name = "compareTo" := e6
  unfold g_StringLatin1_compareTo
  refine s_iload_n C dJ28_compareTo_2_0 2 rfl rfl ?_
  refine s_iload_n C dJ28_compareTo_2_1 3 rfl rfl ?_
  refine s_mmin C q1127 q648 q127 q649 (le_fr hf rfl) (le_fr hlo rfl) (Nat.le_of_ble_eq_true rfl) dJ28_compareTo_2_2 ?_
  refine s_bdi fun a1 => ?_
  refine s_istore (la' := [(4, .int a1), (0, vr x0), (1, vr x1), (2, .int x2), (3, .int x3)]) C dJ28_compareTo_2_5 (lt_nl e5 rfl) rfl ?_
  refine s_aload_n C dJ28_compareTo_2_7 1 rfl rfl ?_
  refine s_aload_n C dJ28_compareTo_2_8 2 rfl rfl ?_
  refine s_iload C dJ28_compareTo_2_9 0 rfl ?_
  refine c_S C 3 [] (ct_g_ArraysSupport_mismatch hL x0 x1 a1 h) (lw_S q1128 q1129 q126 q1130) nd_J16_mismatch.2 rfl (le_fr hf rfl) (le_fr hlo rfl) rfl (Nat.le_of_ble_eq_true rfl) dJ28_compareTo_2_11 fun r2 h3 => ?_
  refine s_istore (la' := [(5, .int r2), (4, .int a1), (0, vr x0), (1, vr x1), (2, .int x2), (3, .int x3)]) C dJ28_compareTo_2_14 (lt_nl e5 rfl) rfl ?_
  refine s_iload C dJ28_compareTo_2_16 0 rfl ?_
  have hj40 : ∀ (y0 : Int32) (h4 : Hp), Sim id E (QM id E finI) h4 40 [] [.int y0] (g_StringLatin1_compareTo_j40 y0 h4) := by
    intro y0 h4
    exact s_iret C rfl dJ28_compareTo_2_40
  refine s_if_ge C 27 dJ28_compareTo_2_18 (by decide) ?_ ?_
  · refine s_aload_n C dJ28_compareTo_2_27 2 rfl rfl ?_
    refine s_iload C dJ28_compareTo_2_28 0 rfl ?_
    refine c_S C 2 [] (ct_g_StringLatin1_getChar hL x0 r2 h3) (lw_S q1229 q1230 q140 q1231) nd_J28_getChar.2 rfl (le_fr hf rfl) (le_fr hlo rfl) rfl (Nat.le_of_ble_eq_true rfl) dJ28_compareTo_2_30 fun r5 h6 => ?_
    refine s_aload_n C dJ28_compareTo_2_33 3 rfl rfl ?_
    refine s_iload C dJ28_compareTo_2_34 0 rfl ?_
    refine c_S C 2 [.int r5] (ct_g_StringLatin1_getChar hL x1 r2 h6) (lw_S q1229 q1230 q140 q1231) nd_J28_getChar.2 rfl (le_fr hf rfl) (le_fr hlo rfl) rfl (Nat.le_of_ble_eq_true rfl) dJ28_compareTo_2_36 fun r7 h8 => ?_
    refine s_isub C dJ28_compareTo_2_39 ?_
    refine Sim.keep [] rfl ?_
    exact hj40 _ _
  · refine s_iload_n C dJ28_compareTo_2_21 4 rfl rfl ?_
    refine s_iload_n C dJ28_compareTo_2_22 5 rfl rfl ?_
    refine s_isub C dJ28_compareTo_2_23 ?_
    refine s_goto C 40 dJ28_compareTo_2_24 (by decide) ?_
    refine Sim.keep [] rfl ?_
    exact hj40 _ _

def g_StringLatin1_compareTo2 (x0 : Nat) (x1 : Nat) (h : Hp) : Option (Int32 × Hp) :=
  (alen [201, 701] x0 h).bind fun a1 =>
  (alen [201, 701] x1 h).bind fun a2 =>
  bn (g_StringLatin1_compareTo x0 x1 a1 a2 h) fun r3 h4 =>
  some (r3, h4)
theorem ct_g_StringLatin1_compareTo2 {G : Gx} {RL : Lv} {l : Launch} (hL : LvA G RL plR) (x0 : Nat) (x1 : Nat) (h : Hp) : Ct id G RL l yJ28_compareTo (ws_ yJ28_compareTo cJ28_compareTo 4 (some .int)) 2 54 finI [vr x0, vr x1] h (g_StringLatin1_compareTo2 x0 x1 h) := by
  refine Ct.of (Pl := plR) [(0, vr x0), (1, vr x1)] (by decide) hL rfl (Nat.le_of_ble_eq_true rfl) ?_
  intro E C e6 hf hlo e1 e2 e3 e4 e5
  subst e1; subst e2; subst e3
  replace C : Cx E cJ28_compareTo (some .int) RJ28 := C
  replace e6 : (eMe E).name = "compareTo" := e6
  unfold g_StringLatin1_compareTo2
  refine s_aload_n C dJ28_compareTo_0 0 rfl rfl ?_
  refine s_alen [201, 701] 1 C (flc rfl (fl1 rfl)) (pl_of e4 rfl) dJ28_compareTo_1 fun a1 => ?_
  refine s_istore_n (la' := [(2, .int a1), (0, vr x0), (1, vr x1)]) C 2 dJ28_compareTo_2 rfl (lt_nl e5 rfl) rfl ?_
  refine s_aload_n C dJ28_compareTo_3 2 rfl rfl ?_
  refine s_alen [201, 701] 1 C (flc rfl (fl1 rfl)) (pl_of e4 rfl) dJ28_compareTo_4 fun a2 => ?_
  refine s_istore_n (la' := [(3, .int a2), (2, .int a1), (0, vr x0), (1, vr x1)]) C 3 dJ28_compareTo_5 rfl (lt_nl e5 rfl) rfl ?_
  refine s_aload_n C dJ28_compareTo_6 2 rfl rfl ?_
  refine s_aload_n C dJ28_compareTo_7 3 rfl rfl ?_
  refine s_iload_n C dJ28_compareTo_8 1 rfl rfl ?_
  refine s_iload_n C dJ28_compareTo_9 0 rfl rfl ?_
  refine c_S C 4 [] (ct_g_StringLatin1_compareTo hL x0 x1 a1 a2 h) (lw_S q1124 q1125 q140 q1126) nd_J28_compareTo_2.2 rfl (le_fr hf rfl) (le_fr hlo rfl) rfl (Nat.le_of_ble_eq_true rfl) dJ28_compareTo_10 fun r3 h4 => ?_
  exact s_iret C rfl dJ28_compareTo_13

def g_StringLatin1_compareToUTF16Values (x0 : Nat) (x1 : Nat) (x2 : Int32) (x3 : Int32) (h : Hp) : Option (Int32 × Hp) :=
  bd ((if x3 < x2 then x3 else x2)) fun a1 =>
  if a1 ≤ (0 : Int32) then
    some ((x2 - x3), h)
  else
    bn (g_StringLatin1_getChar x0 (0 : Int32) h) fun r2 h3 =>
    none
theorem ct_g_StringLatin1_compareToUTF16Values {G : Gx} {RL : Lv} {l : Launch} (hL : LvA G RL plR) (x0 : Nat) (x1 : Nat) (x2 : Int32) (x3 : Int32) (h : Hp) : Ct id G RL l yJ28_compareToUTF16Values (ws_ yJ28_compareToUTF16Values cJ28_compareToUTF16Values 8 (some .int)) 1 29 finI [vr x0, vr x1, .int x2, .int x3] h (g_StringLatin1_compareToUTF16Values x0 x1 x2 x3 h) := by
  refine Ct.of (Pl := plR) [(0, vr x0), (1, vr x1), (2, .int x2), (3, .int x3)] (by decide) hL rfl (Nat.le_of_ble_eq_true rfl) ?_
  intro E C e6 hf hlo e1 e2 e3 e4 e5
  subst e1; subst e2; subst e3
  replace C : Cx E cJ28_compareToUTF16Values (some .int) RJ28 := C
  replace e6 : (eMe E).name = "compareToUTF16Values" := e6
  unfold g_StringLatin1_compareToUTF16Values
  refine s_iload_n C dJ28_compareToUTF16Values_0 2 rfl rfl ?_
  refine s_iload_n C dJ28_compareToUTF16Values_1 3 rfl rfl ?_
  refine s_mmin C q1127 q648 q127 q649 (le_fr hf rfl) (le_fr hlo rfl) (Nat.le_of_ble_eq_true rfl) dJ28_compareToUTF16Values_2 ?_
  refine s_bdi fun a1 => ?_
  refine s_istore (la' := [(4, .int a1), (0, vr x0), (1, vr x1), (2, .int x2), (3, .int x3)]) C dJ28_compareToUTF16Values_5 (lt_nl e5 rfl) rfl ?_
  refine s_iconst C (0 : Int32) dJ28_compareToUTF16Values_7 (by decide) ?_
  refine s_istore (la' := [(5, .int (0 : Int32)), (4, .int a1), (0, vr x0), (1, vr x1), (2, .int x2), (3, .int x3)]) C dJ28_compareToUTF16Values_8 (lt_nl e5 rfl) rfl ?_
  refine s_iload C dJ28_compareToUTF16Values_10 0 rfl ?_
  refine s_iload C dJ28_compareToUTF16Values_12 1 rfl ?_
  refine s_icmp_ge C 52 dJ28_compareToUTF16Values_14 (by decide) ?_ ?_
  · refine s_iload_n C dJ28_compareToUTF16Values_52 4 rfl rfl ?_
    refine s_iload_n C dJ28_compareToUTF16Values_53 5 rfl rfl ?_
    refine s_isub C dJ28_compareToUTF16Values_54 ?_
    exact s_iret C rfl dJ28_compareToUTF16Values_55
  · refine s_aload_n C dJ28_compareToUTF16Values_17 2 rfl rfl ?_
    refine s_iload C dJ28_compareToUTF16Values_18 0 rfl ?_
    refine c_S C 2 [] (ct_g_StringLatin1_getChar hL x0 (0 : Int32) h) (lw_S q1229 q1230 q140 q1231) nd_J28_getChar.2 rfl (le_fr hf rfl) (le_fr hlo rfl) rfl (Nat.le_of_ble_eq_true rfl) dJ28_compareToUTF16Values_20 fun r2 h3 => ?_
    refine s_istore (la' := [(6, .int r2), (5, .int (0 : Int32)), (4, .int a1), (0, vr x0), (1, vr x1), (2, .int x2), (3, .int x3)]) C dJ28_compareToUTF16Values_23 (lt_nl e5 rfl) rfl ?_
    refine s_aload_n C dJ28_compareToUTF16Values_25 4 rfl rfl ?_
    refine s_iload C dJ28_compareToUTF16Values_26 1 rfl ?_
    exact sim_none

def g_StringLatin1_length (x0 : Nat) (h : Hp) : Option (Int32 × Hp) :=
  (alen [201, 701] x0 h).bind fun a1 =>
  some (a1, h)
theorem ct_g_StringLatin1_length {G : Gx} {RL : Lv} {l : Launch} (hL : LvA G RL plR) (x0 : Nat) (h : Hp) : Ct id G RL l yJ28_length (ws_ yJ28_length cJ28_length 1 (some .int)) 0 0 finI [vr x0] h (g_StringLatin1_length x0 h) := by
  refine Ct.of (Pl := plR) [(0, vr x0)] (by decide) hL rfl (Nat.le_of_ble_eq_true rfl) ?_
  intro E C e6 hf hlo e1 e2 e3 e4 e5
  subst e1; subst e2; subst e3
  replace C : Cx E cJ28_length (some .int) RJ28 := C
  replace e6 : (eMe E).name = "length" := e6
  unfold g_StringLatin1_length
  refine s_aload_n C dJ28_length_0 0 rfl rfl ?_
  refine s_alen [201, 701] 1 C (flc rfl (fl1 rfl)) (pl_of e4 rfl) dJ28_length_1 fun a1 => ?_
  exact s_iret C rfl dJ28_length_2

def g_StringLatin1_compareToUTF16 (x0 : Nat) (x1 : Nat) (h : Hp) : Option (Int32 × Hp) :=
  bn (g_StringLatin1_length x0 h) fun r1 h2 =>
  none
theorem ct_g_StringLatin1_compareToUTF16 {G : Gx} {RL : Lv} {l : Launch} (hL : LvA G RL plR) (x0 : Nat) (x1 : Nat) (h : Hp) : Ct id G RL l yJ28_compareToUTF16 (ws_ yJ28_compareToUTF16 cJ28_compareToUTF16 4 (some .int)) 1 20 finI [vr x0, vr x1] h (g_StringLatin1_compareToUTF16 x0 x1 h) := by
  refine Ct.of (Pl := plR) [(0, vr x0), (1, vr x1)] (by decide) hL rfl (Nat.le_of_ble_eq_true rfl) ?_
  intro E C e6 hf hlo e1 e2 e3 e4 e5
  subst e1; subst e2; subst e3
  replace C : Cx E cJ28_compareToUTF16 (some .int) RJ28 := C
  replace e6 : (eMe E).name = "compareToUTF16" := e6
  unfold g_StringLatin1_compareToUTF16
  refine s_aload_n C dJ28_compareToUTF16_0 0 rfl rfl ?_
  refine c_S C 1 [] (ct_g_StringLatin1_length hL x0 h) (lw_S q1242 q1243 q140 q1244) nd_J28_length.2 rfl (le_fr hf rfl) (le_fr hlo rfl) rfl (Nat.le_of_ble_eq_true rfl) dJ28_compareToUTF16_1 fun r1 h2 => ?_
  refine s_istore_n (la' := [(2, .int r1), (0, vr x0), (1, vr x1)]) C 2 dJ28_compareToUTF16_4 rfl (lt_nl e5 rfl) rfl ?_
  refine s_aload_n C dJ28_compareToUTF16_5 2 rfl rfl ?_
  exact sim_none

def g_String_compareTo (x0 : Nat) (x1 : Nat) (h : Hp) : Option (Int32 × Hp) :=
  (getR [28, 528] 0 x0 h).bind fun a1 =>
  (getR [28, 528] 0 x1 h).bind fun a2 =>
  bn (dsp (tg h x0 % 500) none [(28, g_String_coder x0 h)]) fun r3 h4 =>
  bn (dsp (tg h4 x1 % 500) none [(28, g_String_coder x1 h4)]) fun r5 h6 =>
  if r3 = r5 then
    if r3 = 0 then
      bn (g_StringLatin1_compareTo2 a1 a2 h6) fun r9 h10 =>
      some (r9, h10)
    else
      none
  else
    if r3 = 0 then
      bn (g_StringLatin1_compareToUTF16 a1 a2 h6) fun r7 h8 =>
      some (r7, h8)
    else
      none
theorem ct_g_String_compareTo {G : Gx} {RL : Lv} {l : Launch} (hL : LvA G RL plR) (x0 : Nat) (x1 : Nat) (h : Hp) : Ct id G RL l yJ27_compareTo_2 (ws_ yJ27_compareTo_2 cJ27_compareTo_2 5 (some .int)) 3 77 finI [vr x0, vr x1] h (g_String_compareTo x0 x1 h) := by
  refine Ct.of (Pl := plR) [(0, vr x0), (1, vr x1)] (by decide) hL rfl (Nat.le_of_ble_eq_true rfl) ?_
  intro E C e6 hf hlo e1 e2 e3 e4 e5
  subst e1; subst e2; subst e3
  replace C : Cx E cJ27_compareTo_2 (some .int) RJ27 := C
  replace e6 : (eMe E).name = "compareTo" := e6
  unfold g_String_compareTo
  refine s_aload_n C dJ27_compareTo_2_0 0 rfl rfl ?_
  refine s_getR [28, 528] C (flc ⟨fo_J27_9_28, rfl⟩ (fl1 ⟨fo_J27_9_28, rfl⟩)) (pl_of e4 rfl) dJ27_compareTo_2_1 fun a1 => ?_
  refine s_astore_n (la' := [(2, vr a1), (0, vr x0), (1, vr x1)]) C 2 dJ27_compareTo_2_4 rfl (lt_nl e5 rfl) rfl ?_
  refine s_aload_n C dJ27_compareTo_2_5 2 rfl rfl ?_
  refine s_getR [28, 528] C (flc ⟨fo_J27_9_28, rfl⟩ (fl1 ⟨fo_J27_9_28, rfl⟩)) (pl_of e4 rfl) dJ27_compareTo_2_6 fun a2 => ?_
  refine s_astore_n (la' := [(3, vr a2), (2, vr a1), (0, vr x0), (1, vr x1)]) C 3 dJ27_compareTo_2_9 rfl (lt_nl e5 rfl) rfl ?_
  refine s_aload_n C dJ27_compareTo_2_10 2 rfl rfl ?_
  refine s_dk 14 finI [] (fun r3 h4 => ?_) (fun hk => s_dsp 28 (fun ht => c_V C 0 [] 28 RJ27 ro_28 (ct_g_String_coder hL x0 h) (lw_V q1117 q1118 q1119 q139 q1120) nd_J27_coder rfl (le_fr hf rfl) (le_fr hlo rfl) rfl (Nat.le_of_ble_eq_true rfl) dJ27_compareTo_2_11 hk ht) s_dsp0)
  refine s_istore (la' := [(4, .int r3), (3, vr a2), (2, vr a1), (0, vr x0), (1, vr x1)]) C dJ27_compareTo_2_14 (lt_nl e5 rfl) rfl ?_
  refine s_iload C dJ27_compareTo_2_16 0 rfl ?_
  refine s_aload_n C dJ27_compareTo_2_18 4 rfl rfl ?_
  refine s_dk 22 finI [.int r3] (fun r5 h6 => ?_) (fun hk => s_dsp 28 (fun ht => c_V C 0 [.int r3] 28 RJ27 ro_28 (ct_g_String_coder hL x1 h4) (lw_V q1117 q1118 q1119 q139 q1120) nd_J27_coder rfl (le_fr hf rfl) (le_fr hlo rfl) rfl (Nat.le_of_ble_eq_true rfl) dJ27_compareTo_2_19 hk ht) s_dsp0)
  refine s_icmp_ne C 44 dJ27_compareTo_2_22 (by decide) ?_ ?_
  · refine s_iload C dJ27_compareTo_2_44 0 rfl ?_
    refine s_if_ne C 57 dJ27_compareTo_2_46 (by decide) ?_ ?_
    · refine s_aload_n C dJ27_compareTo_2_57 2 rfl rfl ?_
      refine s_aload_n C dJ27_compareTo_2_58 1 rfl rfl ?_
      exact sim_none
    · refine s_aload_n C dJ27_compareTo_2_49 2 rfl rfl ?_
      refine s_aload_n C dJ27_compareTo_2_50 1 rfl rfl ?_
      refine c_S C 2 [] (ct_g_StringLatin1_compareToUTF16 hL a1 a2 h6) (lw_S q1239 q1240 q140 q1241) nd_J28_compareToUTF16.2 rfl (le_fr hf rfl) (le_fr hlo rfl) rfl (Nat.le_of_ble_eq_true rfl) dJ27_compareTo_2_51 fun r7 h8 => ?_
      refine s_goto C 62 dJ27_compareTo_2_54 (by decide) ?_
      exact s_iret C rfl dJ27_compareTo_2_62
  · refine s_iload C dJ27_compareTo_2_25 0 rfl ?_
    refine s_if_ne C 38 dJ27_compareTo_2_27 (by decide) ?_ ?_
    · refine s_aload_n C dJ27_compareTo_2_38 2 rfl rfl ?_
      refine s_aload_n C dJ27_compareTo_2_39 1 rfl rfl ?_
      exact sim_none
    · refine s_aload_n C dJ27_compareTo_2_30 2 rfl rfl ?_
      refine s_aload_n C dJ27_compareTo_2_31 1 rfl rfl ?_
      refine c_S C 2 [] (ct_g_StringLatin1_compareTo2 hL a1 a2 h6) (lw_S q1121 q1122 q140 q1123) nd_J28_compareTo.2 rfl (le_fr hf rfl) (le_fr hlo rfl) rfl (Nat.le_of_ble_eq_true rfl) dJ27_compareTo_2_32 fun r9 h10 => ?_
      refine s_goto C 43 dJ27_compareTo_2_35 (by decide) ?_
      exact s_iret C rfl dJ27_compareTo_2_43

def g_String_compareTo2 (x0 : Nat) (x1 : Nat) (h : Hp) : Option (Int32 × Hp) :=
  (cst [28] x1 h).bind fun _ =>
  bn (dsp (tg h x0 % 500) none [(28, g_String_compareTo x0 x1 h)]) fun r1 h2 =>
  some (r1, h2)
theorem ct_g_String_compareTo2 {G : Gx} {RL : Lv} {l : Launch} (hL : LvA G RL plR) (x0 : Nat) (x1 : Nat) (h : Hp) : Ct id G RL l yJ27_compareTo (ws_ yJ27_compareTo cJ27_compareTo 2 (some .int)) 4 101 finI [vr x0, vr x1] h (g_String_compareTo2 x0 x1 h) := by
  refine Ct.of (Pl := plR) [(0, vr x0), (1, vr x1)] (by decide) hL rfl (Nat.le_of_ble_eq_true rfl) ?_
  intro E C e6 hf hlo e1 e2 e3 e4 e5
  subst e1; subst e2; subst e3
  replace C : Cx E cJ27_compareTo (some .int) RJ27 := C
  replace e6 : (eMe E).name = "compareTo" := e6
  unfold g_String_compareTo2
  refine s_aload_n C dJ27_compareTo_0 0 rfl rfl ?_
  refine s_aload_n C dJ27_compareTo_1 1 rfl rfl ?_
  refine s_cast [28] "java/lang/String" C q1059 (fl1 ao_java_lang_String_28) dJ27_compareTo_2 ?_
  refine s_dk 8 finI [] (fun r1 h2 => ?_) (fun hk => s_dsp 28 (fun ht => c_V C 1 [] 28 RJ27 ro_28 (ct_g_String_compareTo hL x0 x1 h) (lw_V q1113 q1114 q1115 q139 q1116) nd_J27_compareTo_2 rfl (le_fr hf rfl) (le_fr hlo rfl) rfl (Nat.le_of_ble_eq_true rfl) dJ27_compareTo_5 hk ht) s_dsp0)
  exact s_iret C rfl dJ27_compareTo_8

def g_StringLatin1_equals_L9 (x0 : Nat) (x1 : Nat) : Int32 → Hp → Option (Int32 × Hp) :=
  lp FU fun rec9 v9 h3 =>
    (alen [201, 701] x0 h3).bind fun a4 =>
    if a4 ≤ v9 then
      if nrw 2 (1 : Int32) = (1 : Int32) then some ((1 : Int32), h3) else none
    else
      (aldI [201, 701] x0 v9 h3).bind fun a5 =>
      (aldI [201, 701] x1 v9 h3).bind fun a6 =>
      if a5 = a6 then
        rec9 (v9 + (1 : Int32)) h3
      else
        if nrw 2 (0 : Int32) = (0 : Int32) then some ((0 : Int32), h3) else none
def g_StringLatin1_equals (x0 : Nat) (x1 : Nat) (h : Hp) : Option (Int32 × Hp) :=
  (alen [201, 701] x0 h).bind fun a1 =>
  (alen [201, 701] x1 h).bind fun a2 =>
  if a1 = a2 then
    g_StringLatin1_equals_L9 x0 x1 (0 : Int32) h
  else
    if nrw 2 (0 : Int32) = (0 : Int32) then some ((0 : Int32), h) else none
theorem ct_g_StringLatin1_equals {G : Gx} {RL : Lv} {l : Launch} (hL : LvA G RL plR) (x0 : Nat) (x1 : Nat) (h : Hp) : Ct id G RL l yJ28_equals (ws_ yJ28_equals cJ28_equals 3 (some .boolean)) 0 0 finI [vr x0, vr x1] h (g_StringLatin1_equals x0 x1 h) := by
  refine Ct.of (Pl := plR) [(0, vr x0), (1, vr x1)] (by decide) hL rfl (Nat.le_of_ble_eq_true rfl) ?_
  intro E C e6 hf hlo e1 e2 e3 e4 e5
  subst e1; subst e2; subst e3
  replace C : Cx E cJ28_equals (some .boolean) RJ28 := C
  replace e6 : (eMe E).name = "equals" := e6
  unfold g_StringLatin1_equals
  refine s_aload_n C dJ28_equals_0 0 rfl rfl ?_
  refine s_alen [201, 701] 1 C (flc rfl (fl1 rfl)) (pl_of e4 rfl) dJ28_equals_1 fun a1 => ?_
  refine s_aload_n C dJ28_equals_2 1 rfl rfl ?_
  refine s_alen [201, 701] 1 C (flc rfl (fl1 rfl)) (pl_of e4 rfl) dJ28_equals_3 fun a2 => ?_
  refine s_icmp_ne C 34 dJ28_equals_4 (by decide) ?_ ?_
  · refine s_iconst C (0 : Int32) dJ28_equals_34 (by decide) ?_
    exact s_zret 2 C (by decide) (by decide) rfl dJ28_equals_35
  · refine s_iconst C (0 : Int32) dJ28_equals_7 (by decide) ?_
    have hL9 : ∀ (x0 : Nat) (x1 : Nat) (v9 : Int32) (h3 : Hp), Sim id E (QM id E finI) h3 9 [(0, vr x0), (1, vr x1), (2, .int v9)] [] (g_StringLatin1_equals_L9 x0 x1 v9 h3) := by
      intro x0 x1 v9 h3
      refine Sim.loop (fun v9 => [(0, vr x0), (1, vr x1), (2, .int v9)]) (fun _ => []) (fun rec9 hr9 v9 h3 => ?_) FU v9 h3
      refine s_iload_n C dJ28_equals_9 2 rfl rfl ?_
      refine s_aload_n C dJ28_equals_10 0 rfl rfl ?_
      refine s_alen [201, 701] 1 C (flc rfl (fl1 rfl)) (pl_of e4 rfl) dJ28_equals_11 fun a4 => ?_
      refine s_icmp_ge C 32 dJ28_equals_12 (by decide) ?_ ?_
      · refine s_iconst C (1 : Int32) dJ28_equals_32 (by decide) ?_
        exact s_zret 2 C (by decide) (by decide) rfl dJ28_equals_33
      · refine s_aload_n C dJ28_equals_15 0 rfl rfl ?_
        refine s_iload_n C dJ28_equals_16 2 rfl rfl ?_
        refine s_bald [201, 701] C (flc rfl (fl1 rfl)) (pl_of e4 rfl) dJ28_equals_17 fun a5 => ?_
        refine s_aload_n C dJ28_equals_18 1 rfl rfl ?_
        refine s_iload_n C dJ28_equals_19 2 rfl rfl ?_
        refine s_bald [201, 701] C (flc rfl (fl1 rfl)) (pl_of e4 rfl) dJ28_equals_20 fun a6 => ?_
        refine s_icmp_eq C 26 dJ28_equals_21 (by decide) ?_ ?_
        · refine s_iinc (la' := [(2, .int (v9 + (1 : Int32))), (0, vr x0), (1, vr x1)]) C 2 dJ28_equals_26 rfl rfl (lt_nl e5 rfl) rfl ?_
          refine s_goto C 9 dJ28_equals_29 (by decide) ?_
          refine Sim.keep [1, 2, 0] rfl ?_
          exact hr9 _ _
        · refine s_iconst C (0 : Int32) dJ28_equals_24 (by decide) ?_
          exact s_zret 2 C (by decide) (by decide) rfl dJ28_equals_25
    refine s_istore_n (la' := [(2, .int (0 : Int32)), (0, vr x0), (1, vr x1)]) C 2 dJ28_equals_8 rfl (lt_nl e5 rfl) rfl ?_
    refine Sim.keep [1, 2, 0] rfl ?_
    exact hL9 _ _ _ _

def g_String_equals_j55 (y0 : Int32) (h2 : Hp) : Option (Int32 × Hp) :=
  if nrw 2 y0 = y0 then some (y0, h2) else none
def g_String_equals_j54  (h3 : Hp) : Option (Int32 × Hp) :=
  g_String_equals_j55 (0 : Int32) h3
def g_String_equals_j36 (x0 : Nat) (x2 : Nat) (h4 : Hp) : Option (Int32 × Hp) :=
  (getR [28, 528] 0 x0 h4).bind fun a5 =>
  (getR [28, 528] 0 x2 h4).bind fun a6 =>
  bn (g_StringLatin1_equals a5 a6 h4) fun r7 h8 =>
  if r7 = 0 then
    g_String_equals_j54 h8
  else
    g_String_equals_j55 (1 : Int32) h8
def g_String_equals (x0 : Nat) (x1 : Nat) (h : Hp) : Option (Int32 × Hp) :=
  if x0 = x1 then
    if nrw 2 (1 : Int32) = (1 : Int32) then some ((1 : Int32), h) else none
  else
    (ins [28] [] x1 h).bind fun a1 =>
    if a1 = 0 then
      g_String_equals_j54 h
    else
      (cst [28] x1 h).bind fun _ =>
      if (1 : Int32) = 0 then
        g_String_equals_j36 x0 x1 h
      else
        (getI [28, 528] 1 x0 h).bind fun a9 =>
        (getI [28, 528] 1 x1 h).bind fun a10 =>
        if a9 = a10 then
          g_String_equals_j36 x0 x1 h
        else
          g_String_equals_j54 h
theorem ct_g_String_equals {G : Gx} {RL : Lv} {l : Launch} (hL : LvA G RL plR) (x0 : Nat) (x1 : Nat) (h : Hp) : Ct id G RL l yJ27_equals (ws_ yJ27_equals cJ27_equals 3 (some .boolean)) 1 22 finI [vr x0, vr x1] h (g_String_equals x0 x1 h) := by
  refine Ct.of (Pl := plR) [(0, vr x0), (1, vr x1)] (by decide) hL rfl (Nat.le_of_ble_eq_true rfl) ?_
  intro E C e6 hf hlo e1 e2 e3 e4 e5
  subst e1; subst e2; subst e3
  replace C : Cx E cJ27_equals (some .boolean) RJ27 := C
  replace e6 : (eMe E).name = "equals" := e6
  unfold g_String_equals
  refine s_aload_n C dJ27_equals_0 0 rfl rfl ?_
  refine s_aload_n C dJ27_equals_1 1 rfl rfl ?_
  refine s_acmp_ne 7 C dJ27_equals_2 (by decide) ?_ ?_
  · refine s_aload_n C dJ27_equals_7 1 rfl rfl ?_
    refine s_ins [28] [] "java/lang/String" C q1059 (fl1 ao_java_lang_String_28) (fun _ h => by cases h) dJ27_equals_8 fun a1 => ?_
    have hj55 : ∀ (y0 : Int32) (h2 : Hp), Sim id E (QM id E finI) h2 55 [] [.int y0] (g_String_equals_j55 y0 h2) := by
      intro y0 h2
      exact s_zret 2 C (by decide) (by decide) rfl dJ27_equals_55
    have hj54 : ∀  (h3 : Hp), Sim id E (QM id E finI) h3 54 [] [] (g_String_equals_j54 h3) := by
      intro h3
      refine s_iconst C (0 : Int32) dJ27_equals_54 (by decide) ?_
      exact hj55 _ _
    refine s_if_eq C 54 dJ27_equals_11 (by decide) ?_ ?_
    · refine Sim.keep [] rfl ?_
      exact hj54 _
    · refine s_aload_n C dJ27_equals_14 1 rfl rfl ?_
      refine s_cast [28] "java/lang/String" C q1059 (fl1 ao_java_lang_String_28) dJ27_equals_15 ?_
      refine s_astore_n (la' := [(2, vr x1), (0, vr x0), (1, vr x1)]) C 2 dJ27_equals_18 rfl (lt_nl e5 rfl) rfl ?_
      refine s_gets (.int (1 : Int32)) C so_J27_38 st_int dJ27_equals_19 ?_
      have hj36 : ∀ (x0 : Nat) (x2 : Nat) (h4 : Hp), Sim id E (QM id E finI) h4 36 [(0, vr x0), (2, vr x2)] [] (g_String_equals_j36 x0 x2 h4) := by
        intro x0 x2 h4
        refine s_aload_n C dJ27_equals_36 0 rfl rfl ?_
        refine s_getR [28, 528] C (flc ⟨fo_J27_9_28, rfl⟩ (fl1 ⟨fo_J27_9_28, rfl⟩)) (pl_of e4 rfl) dJ27_equals_37 fun a5 => ?_
        refine s_aload_n C dJ27_equals_40 1 rfl rfl ?_
        refine s_getR [28, 528] C (flc ⟨fo_J27_9_28, rfl⟩ (fl1 ⟨fo_J27_9_28, rfl⟩)) (pl_of e4 rfl) dJ27_equals_41 fun a6 => ?_
        refine c_S C 2 [] (ct_g_StringLatin1_equals hL a5 a6 h4) (lw_S q1060 q1061 q140 q1062) nd_J28_equals.2 rfl (le_fr hf rfl) (le_fr hlo rfl) rfl (Nat.le_of_ble_eq_true rfl) dJ27_equals_44 fun r7 h8 => ?_
        refine s_if_eq C 54 dJ27_equals_47 (by decide) ?_ ?_
        · refine Sim.keep [] rfl ?_
          exact hj54 _
        · refine s_iconst C (1 : Int32) dJ27_equals_50 (by decide) ?_
          refine s_goto C 55 dJ27_equals_51 (by decide) ?_
          refine Sim.keep [] rfl ?_
          exact hj55 _ _
      refine s_if_eq C 36 dJ27_equals_22 (by decide) ?_ ?_
      · refine Sim.keep [1, 0] rfl ?_
        exact hj36 _ _ _
      · refine s_aload_n C dJ27_equals_25 1 rfl rfl ?_
        refine s_getI [28, 528] C (flc ⟨fo_J27_15_28, rfl⟩ (fl1 ⟨fo_J27_15_28, rfl⟩)) (pl_of e4 rfl) dJ27_equals_26 fun a9 => ?_
        refine s_aload_n C dJ27_equals_29 0 rfl rfl ?_
        refine s_getI [28, 528] C (flc ⟨fo_J27_15_28, rfl⟩ (fl1 ⟨fo_J27_15_28, rfl⟩)) (pl_of e4 rfl) dJ27_equals_30 fun a10 => ?_
        refine s_icmp_ne C 54 dJ27_equals_33 (by decide) ?_ ?_
        · refine Sim.keep [] rfl ?_
          exact hj54 _
        · refine Sim.keep [1, 0] rfl ?_
          exact hj36 _ _ _
  · refine s_iconst C (1 : Int32) dJ27_equals_5 (by decide) ?_
    exact s_zret 2 C (by decide) (by decide) rfl dJ27_equals_6

def g_ArraysSupport_hashCode_L8 (x1 : Nat) (x4 : Int32) : (Int32 × Int32) → Hp → Option (Int32 × Hp) :=
  lp FU fun rec8 v8 h2 =>
    if x4 ≤ v8.2 then
      some (v8.1, h2)
    else
      (aldI [201, 701] x1 v8.2 h2).bind fun a3 =>
      bd ((((31 : Int32) * v8.1) + a3)) fun a4 =>
      rec8 (a4, (v8.2 + (1 : Int32))) h2
def g_ArraysSupport_hashCode (x0 : Int32) (x1 : Nat) (x2 : Int32) (x3 : Int32) (h : Hp) : Option (Int32 × Hp) :=
  bd ((x2 + x3)) fun a1 =>
  g_ArraysSupport_hashCode_L8 x1 a1 (x0, x2) h
theorem ct_g_ArraysSupport_hashCode {G : Gx} {RL : Lv} {l : Launch} (hL : LvA G RL plR) (x0 : Int32) (x1 : Nat) (x2 : Int32) (x3 : Int32) (h : Hp) : Ct id G RL l yJ16_hashCode_2 (ws_ yJ16_hashCode_2 cJ16_hashCode_2 6 (some .int)) 0 0 finI [.int x0, vr x1, .int x2, .int x3] h (g_ArraysSupport_hashCode x0 x1 x2 x3 h) := by
  refine Ct.of (Pl := plR) [(0, .int x0), (1, vr x1), (2, .int x2), (3, .int x3)] (by decide) hL rfl (Nat.le_of_ble_eq_true rfl) ?_
  intro E C e6 hf hlo e1 e2 e3 e4 e5
  subst e1; subst e2; subst e3
  replace C : Cx E cJ16_hashCode_2 (some .int) RJ16 := C
  replace e6 : (eMe E).name = "hashCode" := e6
  unfold g_ArraysSupport_hashCode
  refine s_iload_n C dJ16_hashCode_2_0 2 rfl rfl ?_
  refine s_iload_n C dJ16_hashCode_2_1 3 rfl rfl ?_
  refine s_iadd C dJ16_hashCode_2_2 ?_
  refine s_bdi fun a1 => ?_
  refine s_istore (la' := [(4, .int a1), (0, .int x0), (1, vr x1), (2, .int x2), (3, .int x3)]) C dJ16_hashCode_2_3 (lt_nl e5 rfl) rfl ?_
  refine s_iload_n C dJ16_hashCode_2_5 3 rfl rfl ?_
  have hL8 : ∀ (x1 : Nat) (x4 : Int32) (v8 : (Int32 × Int32)) (h2 : Hp), Sim id E (QM id E finI) h2 8 [(0, .int v8.1), (1, vr x1), (4, .int x4), (5, .int v8.2)] [] (g_ArraysSupport_hashCode_L8 x1 x4 v8 h2) := by
    intro x1 x4 v8 h2
    refine Sim.loop (fun v8 => [(0, .int v8.1), (1, vr x1), (4, .int x4), (5, .int v8.2)]) (fun _ => []) (fun rec8 hr8 v8 h2 => ?_) FU v8 h2
    refine s_iload C dJ16_hashCode_2_8 3 rfl ?_
    refine s_iload C dJ16_hashCode_2_10 2 rfl ?_
    refine s_icmp_ge C 31 dJ16_hashCode_2_12 (by decide) ?_ ?_
    · refine s_iload_n C dJ16_hashCode_2_31 0 rfl rfl ?_
      exact s_iret C rfl dJ16_hashCode_2_32
    · refine s_bipush C (31 : Int32) dJ16_hashCode_2_15 (by decide) ?_
      refine s_iload_n C dJ16_hashCode_2_17 0 rfl rfl ?_
      refine s_imul C dJ16_hashCode_2_18 ?_
      refine s_aload_n C dJ16_hashCode_2_19 1 rfl rfl ?_
      refine s_iload C dJ16_hashCode_2_20 3 rfl ?_
      refine s_bald [201, 701] C (flc rfl (fl1 rfl)) (pl_of e4 rfl) dJ16_hashCode_2_22 fun a3 => ?_
      refine s_iadd C dJ16_hashCode_2_23 ?_
      refine s_bdi fun a4 => ?_
      refine s_istore_n (la' := [(0, .int a4), (1, vr x1), (4, .int x4), (5, .int v8.2)]) C 0 dJ16_hashCode_2_24 rfl (lt_nl e5 rfl) rfl ?_
      refine s_iinc (la' := [(5, .int (v8.2 + (1 : Int32))), (0, .int a4), (1, vr x1), (4, .int x4)]) C 3 dJ16_hashCode_2_25 rfl rfl (lt_nl e5 rfl) rfl ?_
      refine s_goto C 8 dJ16_hashCode_2_28 (by decide) ?_
      refine Sim.keep [1, 2, 3, 0] rfl ?_
      exact hr8 _ _
  refine s_istore (la' := [(5, .int x2), (4, .int a1), (0, .int x0), (1, vr x1), (2, .int x2), (3, .int x3)]) C dJ16_hashCode_2_6 (lt_nl e5 rfl) rfl ?_
  refine Sim.keep [2, 3, 1, 0] rfl ?_
  exact hL8 _ _ _ _

def g_ArraysSupport_hashCode2_L8 (x1 : Nat) (x4 : Int32) : (Int32 × Int32) → Hp → Option (Int32 × Hp) :=
  lp FU fun rec8 v8 h2 =>
    if x4 ≤ v8.2 then
      some (v8.1, h2)
    else
      (aldI [204] x1 v8.2 h2).bind fun a3 =>
      bd ((((31 : Int32) * v8.1) + a3)) fun a4 =>
      rec8 (a4, (v8.2 + (1 : Int32))) h2
def g_ArraysSupport_hashCode2 (x0 : Int32) (x1 : Nat) (x2 : Int32) (x3 : Int32) (h : Hp) : Option (Int32 × Hp) :=
  bd ((x2 + x3)) fun a1 =>
  g_ArraysSupport_hashCode2_L8 x1 a1 (x0, x2) h
theorem ct_g_ArraysSupport_hashCode2 {G : Gx} {RL : Lv} {l : Launch} (hL : LvA G RL plR) (x0 : Int32) (x1 : Nat) (x2 : Int32) (x3 : Int32) (h : Hp) : Ct id G RL l yJ16_hashCode (ws_ yJ16_hashCode cJ16_hashCode 6 (some .int)) 0 0 finI [.int x0, vr x1, .int x2, .int x3] h (g_ArraysSupport_hashCode2 x0 x1 x2 x3 h) := by
  refine Ct.of (Pl := plR) [(0, .int x0), (1, vr x1), (2, .int x2), (3, .int x3)] (by decide) hL rfl (Nat.le_of_ble_eq_true rfl) ?_
  intro E C e6 hf hlo e1 e2 e3 e4 e5
  subst e1; subst e2; subst e3
  replace C : Cx E cJ16_hashCode (some .int) RJ16 := C
  replace e6 : (eMe E).name = "hashCode" := e6
  unfold g_ArraysSupport_hashCode2
  refine s_iload_n C dJ16_hashCode_0 2 rfl rfl ?_
  refine s_iload_n C dJ16_hashCode_1 3 rfl rfl ?_
  refine s_iadd C dJ16_hashCode_2 ?_
  refine s_bdi fun a1 => ?_
  refine s_istore (la' := [(4, .int a1), (0, .int x0), (1, vr x1), (2, .int x2), (3, .int x3)]) C dJ16_hashCode_3 (lt_nl e5 rfl) rfl ?_
  refine s_iload_n C dJ16_hashCode_5 3 rfl rfl ?_
  have hL8 : ∀ (x1 : Nat) (x4 : Int32) (v8 : (Int32 × Int32)) (h2 : Hp), Sim id E (QM id E finI) h2 8 [(0, .int v8.1), (1, vr x1), (4, .int x4), (5, .int v8.2)] [] (g_ArraysSupport_hashCode2_L8 x1 x4 v8 h2) := by
    intro x1 x4 v8 h2
    refine Sim.loop (fun v8 => [(0, .int v8.1), (1, vr x1), (4, .int x4), (5, .int v8.2)]) (fun _ => []) (fun rec8 hr8 v8 h2 => ?_) FU v8 h2
    refine s_iload C dJ16_hashCode_8 3 rfl ?_
    refine s_iload C dJ16_hashCode_10 2 rfl ?_
    refine s_icmp_ge C 31 dJ16_hashCode_12 (by decide) ?_ ?_
    · refine s_iload_n C dJ16_hashCode_31 0 rfl rfl ?_
      exact s_iret C rfl dJ16_hashCode_32
    · refine s_bipush C (31 : Int32) dJ16_hashCode_15 (by decide) ?_
      refine s_iload_n C dJ16_hashCode_17 0 rfl rfl ?_
      refine s_imul C dJ16_hashCode_18 ?_
      refine s_aload_n C dJ16_hashCode_19 1 rfl rfl ?_
      refine s_iload C dJ16_hashCode_20 3 rfl ?_
      refine s_cald [204] C (fl1 rfl) (pl_of e4 rfl) dJ16_hashCode_22 fun a3 => ?_
      refine s_iadd C dJ16_hashCode_23 ?_
      refine s_bdi fun a4 => ?_
      refine s_istore_n (la' := [(0, .int a4), (1, vr x1), (4, .int x4), (5, .int v8.2)]) C 0 dJ16_hashCode_24 rfl (lt_nl e5 rfl) rfl ?_
      refine s_iinc (la' := [(5, .int (v8.2 + (1 : Int32))), (0, .int a4), (1, vr x1), (4, .int x4)]) C 3 dJ16_hashCode_25 rfl rfl (lt_nl e5 rfl) rfl ?_
      refine s_goto C 8 dJ16_hashCode_28 (by decide) ?_
      refine Sim.keep [1, 2, 3, 0] rfl ?_
      exact hr8 _ _
  refine s_istore (la' := [(5, .int x2), (4, .int a1), (0, .int x0), (1, vr x1), (2, .int x2), (3, .int x3)]) C dJ16_hashCode_6 (lt_nl e5 rfl) rfl ?_
  refine Sim.keep [2, 3, 1, 0] rfl ?_
  exact hL8 _ _ _ _

def g_ArraysSupport_hashCode3_L8 (x1 : Nat) (x4 : Int32) : (Int32 × Int32) → Hp → Option (Int32 × Hp) :=
  lp FU fun rec8 v8 h2 =>
    if x4 ≤ v8.2 then
      some (v8.1, h2)
    else
      (aldI [200, 700] x1 v8.2 h2).bind fun a3 =>
      bd ((((31 : Int32) * v8.1) + a3)) fun a4 =>
      rec8 (a4, (v8.2 + (1 : Int32))) h2
def g_ArraysSupport_hashCode3 (x0 : Int32) (x1 : Nat) (x2 : Int32) (x3 : Int32) (h : Hp) : Option (Int32 × Hp) :=
  bd ((x2 + x3)) fun a1 =>
  g_ArraysSupport_hashCode3_L8 x1 a1 (x0, x2) h
theorem ct_g_ArraysSupport_hashCode3 {G : Gx} {RL : Lv} {l : Launch} (hL : LvA G RL plR) (x0 : Int32) (x1 : Nat) (x2 : Int32) (x3 : Int32) (h : Hp) : Ct id G RL l yJ16_hashCode_4 (ws_ yJ16_hashCode_4 cJ16_hashCode_4 6 (some .int)) 0 0 finI [.int x0, vr x1, .int x2, .int x3] h (g_ArraysSupport_hashCode3 x0 x1 x2 x3 h) := by
  refine Ct.of (Pl := plR) [(0, .int x0), (1, vr x1), (2, .int x2), (3, .int x3)] (by decide) hL rfl (Nat.le_of_ble_eq_true rfl) ?_
  intro E C e6 hf hlo e1 e2 e3 e4 e5
  subst e1; subst e2; subst e3
  replace C : Cx E cJ16_hashCode_4 (some .int) RJ16 := C
  replace e6 : (eMe E).name = "hashCode" := e6
  unfold g_ArraysSupport_hashCode3
  refine s_iload_n C dJ16_hashCode_4_0 2 rfl rfl ?_
  refine s_iload_n C dJ16_hashCode_4_1 3 rfl rfl ?_
  refine s_iadd C dJ16_hashCode_4_2 ?_
  refine s_bdi fun a1 => ?_
  refine s_istore (la' := [(4, .int a1), (0, .int x0), (1, vr x1), (2, .int x2), (3, .int x3)]) C dJ16_hashCode_4_3 (lt_nl e5 rfl) rfl ?_
  refine s_iload_n C dJ16_hashCode_4_5 3 rfl rfl ?_
  have hL8 : ∀ (x1 : Nat) (x4 : Int32) (v8 : (Int32 × Int32)) (h2 : Hp), Sim id E (QM id E finI) h2 8 [(0, .int v8.1), (1, vr x1), (4, .int x4), (5, .int v8.2)] [] (g_ArraysSupport_hashCode3_L8 x1 x4 v8 h2) := by
    intro x1 x4 v8 h2
    refine Sim.loop (fun v8 => [(0, .int v8.1), (1, vr x1), (4, .int x4), (5, .int v8.2)]) (fun _ => []) (fun rec8 hr8 v8 h2 => ?_) FU v8 h2
    refine s_iload C dJ16_hashCode_4_8 3 rfl ?_
    refine s_iload C dJ16_hashCode_4_10 2 rfl ?_
    refine s_icmp_ge C 31 dJ16_hashCode_4_12 (by decide) ?_ ?_
    · refine s_iload_n C dJ16_hashCode_4_31 0 rfl rfl ?_
      exact s_iret C rfl dJ16_hashCode_4_32
    · refine s_bipush C (31 : Int32) dJ16_hashCode_4_15 (by decide) ?_
      refine s_iload_n C dJ16_hashCode_4_17 0 rfl rfl ?_
      refine s_imul C dJ16_hashCode_4_18 ?_
      refine s_aload_n C dJ16_hashCode_4_19 1 rfl rfl ?_
      refine s_iload C dJ16_hashCode_4_20 3 rfl ?_
      refine s_iald [200, 700] C (flc rfl (fl1 rfl)) (pl_of e4 rfl) dJ16_hashCode_4_22 fun a3 => ?_
      refine s_iadd C dJ16_hashCode_4_23 ?_
      refine s_bdi fun a4 => ?_
      refine s_istore_n (la' := [(0, .int a4), (1, vr x1), (4, .int x4), (5, .int v8.2)]) C 0 dJ16_hashCode_4_24 rfl (lt_nl e5 rfl) rfl ?_
      refine s_iinc (la' := [(5, .int (v8.2 + (1 : Int32))), (0, .int a4), (1, vr x1), (4, .int x4)]) C 3 dJ16_hashCode_4_25 rfl rfl (lt_nl e5 rfl) rfl ?_
      refine s_goto C 8 dJ16_hashCode_4_28 (by decide) ?_
      refine Sim.keep [1, 2, 3, 0] rfl ?_
      exact hr8 _ _
  refine s_istore (la' := [(5, .int x2), (4, .int a1), (0, .int x0), (1, vr x1), (2, .int x2), (3, .int x3)]) C dJ16_hashCode_4_6 (lt_nl e5 rfl) rfl ?_
  refine Sim.keep [2, 3, 1, 0] rfl ?_
  exact hL8 _ _ _ _

def g_ArraysSupport_hashCode4_L8 (x1 : Nat) (x4 : Int32) : (Int32 × Int32) → Hp → Option (Int32 × Hp) :=
  lp FU fun rec8 v8 h2 =>
    if x4 ≤ v8.2 then
      some (v8.1, h2)
    else
      none
def g_ArraysSupport_hashCode4 (x0 : Int32) (x1 : Nat) (x2 : Int32) (x3 : Int32) (h : Hp) : Option (Int32 × Hp) :=
  bd ((x2 + x3)) fun a1 =>
  g_ArraysSupport_hashCode4_L8 x1 a1 (x0, x2) h
theorem ct_g_ArraysSupport_hashCode4 {G : Gx} {RL : Lv} {l : Launch} (hL : LvA G RL plR) (x0 : Int32) (x1 : Nat) (x2 : Int32) (x3 : Int32) (h : Hp) : Ct id G RL l yJ16_hashCode_3 (ws_ yJ16_hashCode_3 cJ16_hashCode_3 6 (some .int)) 0 0 finI [.int x0, vr x1, .int x2, .int x3] h (g_ArraysSupport_hashCode4 x0 x1 x2 x3 h) := by
  refine Ct.of (Pl := plR) [(0, .int x0), (1, vr x1), (2, .int x2), (3, .int x3)] (by decide) hL rfl (Nat.le_of_ble_eq_true rfl) ?_
  intro E C e6 hf hlo e1 e2 e3 e4 e5
  subst e1; subst e2; subst e3
  replace C : Cx E cJ16_hashCode_3 (some .int) RJ16 := C
  replace e6 : (eMe E).name = "hashCode" := e6
  unfold g_ArraysSupport_hashCode4
  refine s_iload_n C dJ16_hashCode_3_0 2 rfl rfl ?_
  refine s_iload_n C dJ16_hashCode_3_1 3 rfl rfl ?_
  refine s_iadd C dJ16_hashCode_3_2 ?_
  refine s_bdi fun a1 => ?_
  refine s_istore (la' := [(4, .int a1), (0, .int x0), (1, vr x1), (2, .int x2), (3, .int x3)]) C dJ16_hashCode_3_3 (lt_nl e5 rfl) rfl ?_
  refine s_iload_n C dJ16_hashCode_3_5 3 rfl rfl ?_
  have hL8 : ∀ (x1 : Nat) (x4 : Int32) (v8 : (Int32 × Int32)) (h2 : Hp), Sim id E (QM id E finI) h2 8 [(0, .int v8.1), (1, vr x1), (4, .int x4), (5, .int v8.2)] [] (g_ArraysSupport_hashCode4_L8 x1 x4 v8 h2) := by
    intro x1 x4 v8 h2
    refine Sim.loop (fun v8 => [(0, .int v8.1), (1, vr x1), (4, .int x4), (5, .int v8.2)]) (fun _ => []) (fun rec8 hr8 v8 h2 => ?_) FU v8 h2
    refine s_iload C dJ16_hashCode_3_8 3 rfl ?_
    refine s_iload C dJ16_hashCode_3_10 2 rfl ?_
    refine s_icmp_ge C 31 dJ16_hashCode_3_12 (by decide) ?_ ?_
    · refine s_iload_n C dJ16_hashCode_3_31 0 rfl rfl ?_
      exact s_iret C rfl dJ16_hashCode_3_32
    · refine s_bipush C (31 : Int32) dJ16_hashCode_3_15 (by decide) ?_
      refine s_iload_n C dJ16_hashCode_3_17 0 rfl rfl ?_
      refine s_imul C dJ16_hashCode_3_18 ?_
      refine s_aload_n C dJ16_hashCode_3_19 1 rfl rfl ?_
      refine s_iload C dJ16_hashCode_3_20 3 rfl ?_
      exact sim_none
  refine s_istore (la' := [(5, .int x2), (4, .int a1), (0, .int x0), (1, vr x1), (2, .int x2), (3, .int x3)]) C dJ16_hashCode_3_6 (lt_nl e5 rfl) rfl ?_
  refine Sim.keep [2, 3, 1, 0] rfl ?_
  exact hL8 _ _ _ _

def g_ArraysSupport_signedHashCode_L8 (x1 : Nat) (x4 : Int32) : (Int32 × Int32) → Hp → Option (Int32 × Hp) :=
  lp FU fun rec8 v8 h2 =>
    if x4 ≤ v8.2 then
      some (v8.1, h2)
    else
      (aldI [201, 701] x1 v8.2 h2).bind fun a3 =>
      bd ((((31 : Int32) * v8.1) + (a3 &&& (255 : Int32)))) fun a4 =>
      rec8 (a4, (v8.2 + (1 : Int32))) h2
def g_ArraysSupport_signedHashCode (x0 : Int32) (x1 : Nat) (x2 : Int32) (x3 : Int32) (h : Hp) : Option (Int32 × Hp) :=
  bd ((x2 + x3)) fun a1 =>
  g_ArraysSupport_signedHashCode_L8 x1 a1 (x0, x2) h
theorem ct_g_ArraysSupport_signedHashCode {G : Gx} {RL : Lv} {l : Launch} (hL : LvA G RL plR) (x0 : Int32) (x1 : Nat) (x2 : Int32) (x3 : Int32) (h : Hp) : Ct id G RL l yJ16_signedHashCode (ws_ yJ16_signedHashCode cJ16_signedHashCode 6 (some .int)) 0 0 finI [.int x0, vr x1, .int x2, .int x3] h (g_ArraysSupport_signedHashCode x0 x1 x2 x3 h) := by
  refine Ct.of (Pl := plR) [(0, .int x0), (1, vr x1), (2, .int x2), (3, .int x3)] (by decide) hL rfl (Nat.le_of_ble_eq_true rfl) ?_
  intro E C e6 hf hlo e1 e2 e3 e4 e5
  subst e1; subst e2; subst e3
  replace C : Cx E cJ16_signedHashCode (some .int) RJ16 := C
  replace e6 : (eMe E).name = "signedHashCode" := e6
  unfold g_ArraysSupport_signedHashCode
  refine s_iload_n C dJ16_signedHashCode_0 2 rfl rfl ?_
  refine s_iload_n C dJ16_signedHashCode_1 3 rfl rfl ?_
  refine s_iadd C dJ16_signedHashCode_2 ?_
  refine s_bdi fun a1 => ?_
  refine s_istore (la' := [(4, .int a1), (0, .int x0), (1, vr x1), (2, .int x2), (3, .int x3)]) C dJ16_signedHashCode_3 (lt_nl e5 rfl) rfl ?_
  refine s_iload_n C dJ16_signedHashCode_5 3 rfl rfl ?_
  have hL8 : ∀ (x1 : Nat) (x4 : Int32) (v8 : (Int32 × Int32)) (h2 : Hp), Sim id E (QM id E finI) h2 8 [(0, .int v8.1), (1, vr x1), (4, .int x4), (5, .int v8.2)] [] (g_ArraysSupport_signedHashCode_L8 x1 x4 v8 h2) := by
    intro x1 x4 v8 h2
    refine Sim.loop (fun v8 => [(0, .int v8.1), (1, vr x1), (4, .int x4), (5, .int v8.2)]) (fun _ => []) (fun rec8 hr8 v8 h2 => ?_) FU v8 h2
    refine s_iload C dJ16_signedHashCode_8 3 rfl ?_
    refine s_iload C dJ16_signedHashCode_10 2 rfl ?_
    refine s_icmp_ge C 35 dJ16_signedHashCode_12 (by decide) ?_ ?_
    · refine s_iload_n C dJ16_signedHashCode_35 0 rfl rfl ?_
      exact s_iret C rfl dJ16_signedHashCode_36
    · refine s_bipush C (31 : Int32) dJ16_signedHashCode_15 (by decide) ?_
      refine s_iload_n C dJ16_signedHashCode_17 0 rfl rfl ?_
      refine s_imul C dJ16_signedHashCode_18 ?_
      refine s_aload_n C dJ16_signedHashCode_19 1 rfl rfl ?_
      refine s_iload C dJ16_signedHashCode_20 3 rfl ?_
      refine s_bald [201, 701] C (flc rfl (fl1 rfl)) (pl_of e4 rfl) dJ16_signedHashCode_22 fun a3 => ?_
      refine s_sipush C (255 : Int32) dJ16_signedHashCode_23 (by decide) ?_
      refine s_iand C dJ16_signedHashCode_26 ?_
      refine s_iadd C dJ16_signedHashCode_27 ?_
      refine s_bdi fun a4 => ?_
      refine s_istore_n (la' := [(0, .int a4), (1, vr x1), (4, .int x4), (5, .int v8.2)]) C 0 dJ16_signedHashCode_28 rfl (lt_nl e5 rfl) rfl ?_
      refine s_iinc (la' := [(5, .int (v8.2 + (1 : Int32))), (0, .int a4), (1, vr x1), (4, .int x4)]) C 3 dJ16_signedHashCode_29 rfl rfl (lt_nl e5 rfl) rfl ?_
      refine s_goto C 8 dJ16_signedHashCode_32 (by decide) ?_
      refine Sim.keep [1, 2, 3, 0] rfl ?_
      exact hr8 _ _
  refine s_istore (la' := [(5, .int x2), (4, .int a1), (0, .int x0), (1, vr x1), (2, .int x2), (3, .int x3)]) C dJ16_signedHashCode_6 (lt_nl e5 rfl) rfl ?_
  refine Sim.keep [2, 3, 1, 0] rfl ?_
  exact hL8 _ _ _ _

def g_ArraysSupport_utf16hashCode (x0 : Int32) (x1 : Nat) (x2 : Int32) (x3 : Int32) (h : Hp) : Option (Int32 × Hp) :=
  bd ((x2 + x3)) fun a1 =>
  if a1 ≤ x2 then
    some (x0, h)
  else
    none
theorem ct_g_ArraysSupport_utf16hashCode {G : Gx} {RL : Lv} {l : Launch} (hL : LvA G RL plR) (x0 : Int32) (x1 : Nat) (x2 : Int32) (x3 : Int32) (h : Hp) : Ct id G RL l yJ16_utf16hashCode (ws_ yJ16_utf16hashCode cJ16_utf16hashCode 6 (some .int)) 0 0 finI [.int x0, vr x1, .int x2, .int x3] h (g_ArraysSupport_utf16hashCode x0 x1 x2 x3 h) := by
  refine Ct.of (Pl := plR) [(0, .int x0), (1, vr x1), (2, .int x2), (3, .int x3)] (by decide) hL rfl (Nat.le_of_ble_eq_true rfl) ?_
  intro E C e6 hf hlo e1 e2 e3 e4 e5
  subst e1; subst e2; subst e3
  replace C : Cx E cJ16_utf16hashCode (some .int) RJ16 := C
  replace e6 : (eMe E).name = "utf16hashCode" := e6
  unfold g_ArraysSupport_utf16hashCode
  refine s_iload_n C dJ16_utf16hashCode_0 2 rfl rfl ?_
  refine s_iload_n C dJ16_utf16hashCode_1 3 rfl rfl ?_
  refine s_iadd C dJ16_utf16hashCode_2 ?_
  refine s_bdi fun a1 => ?_
  refine s_istore (la' := [(4, .int a1), (0, .int x0), (1, vr x1), (2, .int x2), (3, .int x3)]) C dJ16_utf16hashCode_3 (lt_nl e5 rfl) rfl ?_
  refine s_iload_n C dJ16_utf16hashCode_5 3 rfl rfl ?_
  refine s_istore (la' := [(5, .int x2), (4, .int a1), (0, .int x0), (1, vr x1), (2, .int x2), (3, .int x3)]) C dJ16_utf16hashCode_6 (lt_nl e5 rfl) rfl ?_
  refine s_iload C dJ16_utf16hashCode_8 0 rfl ?_
  refine s_iload C dJ16_utf16hashCode_10 1 rfl ?_
  refine s_icmp_ge C 38 dJ16_utf16hashCode_12 (by decide) ?_ ?_
  · refine s_iload_n C dJ16_utf16hashCode_38 2 rfl rfl ?_
    exact s_iret C rfl dJ16_utf16hashCode_39
  · refine s_bipush C (31 : Int32) dJ16_utf16hashCode_15 (by decide) ?_
    refine s_iload_n C dJ16_utf16hashCode_17 2 rfl rfl ?_
    refine s_imul C dJ16_utf16hashCode_18 ?_
    exact sim_none

def g_ArraysSupport_vectorizedHashCode_j157 (y0 : Int32) (h1 : Hp) : Option (Int32 × Hp) :=
  some (y0, h1)
def g_ArraysSupport_vectorizedHashCode (x0 : Nat) (x1 : Int32) (x2 : Int32) (x3 : Int32) (x4 : Int32) (h : Hp) : Option (Int32 × Hp) :=
  swi x4 (none) [
    ((4 : Int32), none),
    ((5 : Int32), none),
    ((6 : Int32), none),
    ((7 : Int32), none),
    ((8 : Int32), none),
    ((9 : Int32), none),
    ((10 : Int32), none)]
theorem ct_g_ArraysSupport_vectorizedHashCode {G : Gx} {RL : Lv} {l : Launch} (hL : LvA G RL plR) (x0 : Nat) (x1 : Int32) (x2 : Int32) (x3 : Int32) (x4 : Int32) (h : Hp) : Ct id G RL l yJ16_vectorizedHashCode (ws_ yJ16_vectorizedHashCode cJ16_vectorizedHashCode 5 (some .int)) 0 0 finI [vr x0, .int x1, .int x2, .int x3, .int x4] h (g_ArraysSupport_vectorizedHashCode x0 x1 x2 x3 x4 h) := by
  refine Ct.of (Pl := plR) [(0, vr x0), (1, .int x1), (2, .int x2), (3, .int x3), (4, .int x4)] (by decide) hL rfl (Nat.le_of_ble_eq_true rfl) ?_
  intro E C e6 hf hlo e1 e2 e3 e4 e5
  subst e1; subst e2; subst e3
  replace C : Cx E cJ16_vectorizedHashCode (some .int) RJ16 := C
  replace e6 : (eMe E).name = "vectorizedHashCode" := e6
  unfold g_ArraysSupport_vectorizedHashCode
  refine s_iload C dJ16_vectorizedHashCode_0 4 rfl ?_
  have hj157 : ∀ (y0 : Int32) (h1 : Hp), Sim id E (QM id E finI) h1 157 [] [.int y0] (g_ArraysSupport_vectorizedHashCode_j157 y0 h1) := by
    intro y0 h1
    exact s_iret C rfl dJ16_vectorizedHashCode_157
  refine s_tsw C 129 dJ16_vectorizedHashCode_2 [(4 : Int32), (5 : Int32), (6 : Int32), (7 : Int32), (8 : Int32), (9 : Int32), (10 : Int32)] rfl (by decide +kernel) (by decide) (by decide) ⟨⟨44, by decide, ?_⟩, ⟨⟨57, by decide, ?_⟩, ⟨⟨129, by decide, ?_⟩, ⟨⟨129, by decide, ?_⟩, ⟨⟨90, by decide, ?_⟩, ⟨⟨103, by decide, ?_⟩, ⟨⟨116, by decide, ?_⟩, trivial⟩⟩⟩⟩⟩⟩⟩ ?_
  · refine s_iload_n C dJ16_vectorizedHashCode_44 3 rfl rfl ?_
    refine s_aload_n C dJ16_vectorizedHashCode_45 0 rfl rfl ?_
    exact sim_none
  · refine s_aload_n C dJ16_vectorizedHashCode_57 0 rfl rfl ?_
    exact sim_none
  · exact sim_none
  · exact sim_none
  · refine s_iload_n C dJ16_vectorizedHashCode_90 3 rfl rfl ?_
    refine s_aload_n C dJ16_vectorizedHashCode_91 0 rfl rfl ?_
    exact sim_none
  · refine s_iload_n C dJ16_vectorizedHashCode_103 3 rfl rfl ?_
    refine s_aload_n C dJ16_vectorizedHashCode_104 0 rfl rfl ?_
    exact sim_none
  · refine s_iload_n C dJ16_vectorizedHashCode_116 3 rfl rfl ?_
    refine s_aload_n C dJ16_vectorizedHashCode_117 0 rfl rfl ?_
    exact sim_none
  · exact sim_none

def g_StringLatin1_hashCode_j51 (y0 : Int32) (h2 : Hp) : Option (Int32 × Hp) :=
  some (y0, h2)
def g_StringLatin1_hashCode (x0 : Nat) (h : Hp) : Option (Int32 × Hp) :=
  (alen [201, 701] x0 h).bind fun a1 =>
  if a1 = (0 : Int32) then
    g_StringLatin1_hashCode_j51 (0 : Int32) h
  else if a1 = (1 : Int32) then
    (aldI [201, 701] x0 (0 : Int32) h).bind fun a3 =>
    g_StringLatin1_hashCode_j51 (a3 &&& (255 : Int32)) h
  else 
    (alen [201, 701] x0 h).bind fun a4 =>
    bn (g_ArraysSupport_vectorizedHashCode x0 (0 : Int32) a4 (0 : Int32) (4 : Int32) h) fun r5 h6 =>
    g_StringLatin1_hashCode_j51 r5 h6
theorem ct_g_StringLatin1_hashCode {G : Gx} {RL : Lv} {l : Launch} (hL : LvA G RL plR) (x0 : Nat) (h : Hp) : Ct id G RL l yJ28_hashCode (ws_ yJ28_hashCode cJ28_hashCode 1 (some .int)) 1 24 finI [vr x0] h (g_StringLatin1_hashCode x0 h) := by
  refine Ct.of (Pl := plR) [(0, vr x0)] (by decide) hL rfl (Nat.le_of_ble_eq_true rfl) ?_
  intro E C e6 hf hlo e1 e2 e3 e4 e5
  subst e1; subst e2; subst e3
  replace C : Cx E cJ28_hashCode (some .int) RJ28 := C
  replace e6 : (eMe E).name = "hashCode" := e6
  unfold g_StringLatin1_hashCode
  refine s_aload_n C dJ28_hashCode_0 0 rfl rfl ?_
  refine s_alen [201, 701] 1 C (flc rfl (fl1 rfl)) (pl_of e4 rfl) dJ28_hashCode_1 fun a1 => ?_
  have hj51 : ∀ (y0 : Int32) (h2 : Hp), Sim id E (QM id E finI) h2 51 [] [.int y0] (g_StringLatin1_hashCode_j51 y0 h2) := by
    intro y0 h2
    exact s_iret C rfl dJ28_hashCode_51
  refine s_lsw2 28 32 42 C (k1 := (0 : Int32)) (k2 := (1 : Int32)) dJ28_hashCode_2 (by decide) (by decide) (by decide) (by decide) ?_ ?_ ?_
  · refine s_iconst C (0 : Int32) dJ28_hashCode_28 (by decide) ?_
    refine s_goto C 51 dJ28_hashCode_29 (by decide) ?_
    refine Sim.keep [] rfl ?_
    exact hj51 _ _
  · refine s_aload_n C dJ28_hashCode_32 0 rfl rfl ?_
    refine s_iconst C (0 : Int32) dJ28_hashCode_33 (by decide) ?_
    refine s_bald [201, 701] C (flc rfl (fl1 rfl)) (pl_of e4 rfl) dJ28_hashCode_34 fun a3 => ?_
    refine s_sipush C (255 : Int32) dJ28_hashCode_35 (by decide) ?_
    refine s_iand C dJ28_hashCode_38 ?_
    refine s_goto C 51 dJ28_hashCode_39 (by decide) ?_
    refine Sim.keep [] rfl ?_
    exact hj51 _ _
  · refine s_aload_n C dJ28_hashCode_42 0 rfl rfl ?_
    refine s_iconst C (0 : Int32) dJ28_hashCode_43 (by decide) ?_
    refine s_aload_n C dJ28_hashCode_44 0 rfl rfl ?_
    refine s_alen [201, 701] 1 C (flc rfl (fl1 rfl)) (pl_of e4 rfl) dJ28_hashCode_45 fun a4 => ?_
    refine s_iconst C (0 : Int32) dJ28_hashCode_46 (by decide) ?_
    refine s_iconst C (4 : Int32) dJ28_hashCode_47 (by decide) ?_
    refine c_S C 5 [] (ct_g_ArraysSupport_vectorizedHashCode hL x0 (0 : Int32) a4 (0 : Int32) (4 : Int32) h) (lw_S q953 q954 q126 q955) nd_J16_vectorizedHashCode.2 rfl (le_fr hf rfl) (le_fr hlo rfl) rfl (Nat.le_of_ble_eq_true rfl) dJ28_hashCode_48 fun r5 h6 => ?_
    refine Sim.keep [] rfl ?_
    exact hj51 _ _

def g_String_hashCode_j58 (x1 : Int32) (h2 : Hp) : Option (Int32 × Hp) :=
  some (x1, h2)
def g_String_hashCode (x0 : Nat) (h : Hp) : Option (Int32 × Hp) :=
  (getI [28, 528] 2 x0 h).bind fun a1 =>
  if a1 = 0 then
    (getI [28, 528] 3 x0 h).bind fun a3 =>
    if a3 = 0 then
      bn (dsp (tg h x0 % 500) none [(28, g_String_isLatin1 x0 h)]) fun r4 h5 =>
      if r4 = 0 then
        (getR [28, 528] 0 x0 h5).bind fun a6 =>
        none
      else
        (getR [28, 528] 0 x0 h5).bind fun a7 =>
        bn (g_StringLatin1_hashCode a7 h5) fun r8 h9 =>
        if r8 = 0 then
          (putI [28] 2 3 x0 (1 : Int32) h9).bind fun h11 =>
          g_String_hashCode_j58 r8 h11
        else
          (putI [28] 0 2 x0 r8 h9).bind fun h10 =>
          g_String_hashCode_j58 r8 h10
    else
      g_String_hashCode_j58 a1 h
  else
    g_String_hashCode_j58 a1 h
theorem ct_g_String_hashCode {G : Gx} {RL : Lv} {l : Launch} (hL : LvA G RL plR) (x0 : Nat) (h : Hp) : Ct id G RL l yJ27_hashCode (ws_ yJ27_hashCode cJ27_hashCode 2 (some .int)) 2 44 finI [vr x0] h (g_String_hashCode x0 h) := by
  refine Ct.of (Pl := plR) [(0, vr x0)] (by decide) hL rfl (Nat.le_of_ble_eq_true rfl) ?_
  intro E C e6 hf hlo e1 e2 e3 e4 e5
  subst e1; subst e2; subst e3
  replace C : Cx E cJ27_hashCode (some .int) RJ27 := C
  replace e6 : (eMe E).name = "hashCode" := e6
  unfold g_String_hashCode
  refine s_aload_n C dJ27_hashCode_0 0 rfl rfl ?_
  refine s_getI [28, 528] C (flc ⟨fo_J27_19_28, rfl⟩ (fl1 ⟨fo_J27_19_28, rfl⟩)) (pl_of e4 rfl) dJ27_hashCode_1 fun a1 => ?_
  refine s_istore_n (la' := [(1, .int a1), (0, vr x0)]) C 1 dJ27_hashCode_4 rfl (lt_nl e5 rfl) rfl ?_
  refine s_iload_n C dJ27_hashCode_5 0 rfl rfl ?_
  have hj58 : ∀ (x1 : Int32) (h2 : Hp), Sim id E (QM id E finI) h2 58 [(1, .int x1)] [] (g_String_hashCode_j58 x1 h2) := by
    intro x1 h2
    refine s_iload_n C dJ27_hashCode_58 0 rfl rfl ?_
    exact s_iret C rfl dJ27_hashCode_59
  refine s_if_ne C 58 dJ27_hashCode_6 (by decide) ?_ ?_
  · refine Sim.keep [0] rfl ?_
    exact hj58 _ _
  · refine s_aload_n C dJ27_hashCode_9 1 rfl rfl ?_
    refine s_getI [28, 528] C (flc ⟨fo_J27_23_28, rfl⟩ (fl1 ⟨fo_J27_23_28, rfl⟩)) (pl_of e4 rfl) dJ27_hashCode_10 fun a3 => ?_
    refine s_if_ne C 58 dJ27_hashCode_13 (by decide) ?_ ?_
    · refine Sim.keep [0] rfl ?_
      exact hj58 _ _
    · refine s_aload_n C dJ27_hashCode_16 1 rfl rfl ?_
      refine s_dk 20 finI [] (fun r4 h5 => ?_) (fun hk => s_dsp 28 (fun ht => c_V C 0 [] 28 RJ27 ro_28 (ct_g_String_isLatin1 hL x0 h) (lw_V q944 q945 q946 q139 q947) nd_J27_isLatin1 rfl (le_fr hf rfl) (le_fr hlo rfl) rfl (Nat.le_of_ble_eq_true rfl) dJ27_hashCode_17 hk ht) s_dsp0)
      refine s_if_eq C 33 dJ27_hashCode_20 (by decide) ?_ ?_
      · refine s_aload_n C dJ27_hashCode_33 1 rfl rfl ?_
        refine s_getR [28, 528] C (flc ⟨fo_J27_9_28, rfl⟩ (fl1 ⟨fo_J27_9_28, rfl⟩)) (pl_of e4 rfl) dJ27_hashCode_34 fun a6 => ?_
        exact sim_none
      · refine s_aload_n C dJ27_hashCode_23 1 rfl rfl ?_
        refine s_getR [28, 528] C (flc ⟨fo_J27_9_28, rfl⟩ (fl1 ⟨fo_J27_9_28, rfl⟩)) (pl_of e4 rfl) dJ27_hashCode_24 fun a7 => ?_
        refine c_S C 1 [] (ct_g_StringLatin1_hashCode hL a7 h5) (lw_S q950 q951 q140 q952) nd_J28_hashCode.2 rfl (le_fr hf rfl) (le_fr hlo rfl) rfl (Nat.le_of_ble_eq_true rfl) dJ27_hashCode_27 fun r8 h9 => ?_
        refine s_goto C 40 dJ27_hashCode_30 (by decide) ?_
        refine s_istore_n (la' := [(1, .int r8), (0, vr x0)]) C 1 dJ27_hashCode_40 rfl (lt_nl e5 rfl) rfl ?_
        refine s_iload_n C dJ27_hashCode_41 0 rfl rfl ?_
        refine s_if_ne C 53 dJ27_hashCode_42 (by decide) ?_ ?_
        · refine s_aload_n C dJ27_hashCode_53 1 rfl rfl ?_
          refine s_iload_n C dJ27_hashCode_54 0 rfl rfl ?_
          refine s_putI [28] 0 C (by decide) (by decide) (fl1 ⟨⟨by decide, fo_J27_19_28, rfl⟩, rfl⟩) (pl_of e4 rfl) (fl1 (Or.inl rfl)) dJ27_hashCode_55 fun h10 => ?_
          refine Sim.keep [0] rfl ?_
          exact hj58 _ _
        · refine s_aload_n C dJ27_hashCode_45 1 rfl rfl ?_
          refine s_iconst C (1 : Int32) dJ27_hashCode_46 (by decide) ?_
          refine s_putI [28] 2 C (by decide) (by decide) (fl1 ⟨⟨by decide, fo_J27_23_28, rfl⟩, rfl⟩) (pl_of e4 rfl) (fl1 (Or.inl rfl)) dJ27_hashCode_47 fun h11 => ?_
          refine s_goto C 58 dJ27_hashCode_50 (by decide) ?_
          refine Sim.keep [0] rfl ?_
          exact hj58 _ _

def g_StringLatin1_indexOf_j113 (rec14 : Int32 → Hp → Option (Int32 × Hp)) (x0 : Nat) (x2 : Nat) (x3 : Int32) (x5 : Int32) (x6 : Int32) (x7 : Int32) (h6 : Hp) : Option (Int32 × Hp) :=
  rec14 (x7 + (1 : Int32)) h6
def g_StringLatin1_indexOf_j103 (rec14 : Int32 → Hp → Option (Int32 × Hp)) (x0 : Nat) (x2 : Nat) (x3 : Int32) (x5 : Int32) (x6 : Int32) (x7 : Int32) (x8 : Int32) (x9 : Int32) (h10 : Hp) : Option (Int32 × Hp) :=
  if x8 = x9 then
    some (x7, h10)
  else
    g_StringLatin1_indexOf_j113 rec14 x0 x2 x3 x5 x6 x7 h10
def g_StringLatin1_indexOf_L76 (rec14 : Int32 → Hp → Option (Int32 × Hp)) (x0 : Nat) (x2 : Nat) (x3 : Int32) (x5 : Int32) (x6 : Int32) (x7 : Int32) (x9 : Int32) : (Int32 × Int32) → Hp → Option (Int32 × Hp) :=
  lp FU fun rec76 v76 h9 =>
    if x9 ≤ v76.1 then
      g_StringLatin1_indexOf_j103 rec14 x0 x2 x3 x5 x6 x7 v76.1 x9 h9
    else
      (aldI [201, 701] x0 v76.1 h9).bind fun a11 =>
      (aldI [201, 701] x2 v76.2 h9).bind fun a12 =>
      if a11 = a12 then
        rec76 ((v76.1 + (1 : Int32)), (v76.2 + (1 : Int32))) h9
      else
        g_StringLatin1_indexOf_j103 rec14 x0 x2 x3 x5 x6 x7 v76.1 x9 h9
def g_StringLatin1_indexOf_j52 (rec14 : Int32 → Hp → Option (Int32 × Hp)) (x0 : Nat) (x2 : Nat) (x3 : Int32) (x5 : Int32) (x6 : Int32) (x7 : Int32) (h5 : Hp) : Option (Int32 × Hp) :=
  if x6 < x7 then
    g_StringLatin1_indexOf_j113 rec14 x0 x2 x3 x5 x6 x7 h5
  else
    bd ((x7 + (1 : Int32))) fun a7 =>
    bd (((a7 + x3) - (1 : Int32))) fun a8 =>
    g_StringLatin1_indexOf_L76 rec14 x0 x2 x3 x5 x6 x7 a8 (a7, (1 : Int32)) h5
def g_StringLatin1_indexOf_L30 (rec14 : Int32 → Hp → Option (Int32 × Hp)) (x0 : Nat) (x2 : Nat) (x3 : Int32) (x5 : Int32) (x6 : Int32) : Int32 → Hp → Option (Int32 × Hp) :=
  lp FU fun rec30 v30 h13 =>
    if x6 < (v30 + (1 : Int32)) then
      g_StringLatin1_indexOf_j52 rec14 x0 x2 x3 x5 x6 (v30 + (1 : Int32)) h13
    else
      (aldI [201, 701] x0 (v30 + (1 : Int32)) h13).bind fun a14 =>
      if a14 = x5 then
        g_StringLatin1_indexOf_j52 rec14 x0 x2 x3 x5 x6 (v30 + (1 : Int32)) h13
      else
        rec30 (v30 + (1 : Int32)) h13
def g_StringLatin1_indexOf_L14 (x0 : Nat) (x2 : Nat) (x3 : Int32) (x5 : Int32) (x6 : Int32) : Int32 → Hp → Option (Int32 × Hp) :=
  lp FU fun rec14 v14 h3 =>
    if x6 < v14 then
      some ((-1 : Int32), h3)
    else
      (aldI [201, 701] x0 v14 h3).bind fun a4 =>
      if a4 = x5 then
        g_StringLatin1_indexOf_j52 rec14 x0 x2 x3 x5 x6 v14 h3
      else
        g_StringLatin1_indexOf_L30 rec14 x0 x2 x3 x5 x6 v14 h3
def g_StringLatin1_indexOf (x0 : Nat) (x1 : Int32) (x2 : Nat) (x3 : Int32) (x4 : Int32) (h : Hp) : Option (Int32 × Hp) :=
  (aldI [201, 701] x2 (0 : Int32) h).bind fun a1 =>
  bd ((x1 - x3)) fun a2 =>
  g_StringLatin1_indexOf_L14 x0 x2 x3 a1 a2 x4 h
theorem ct_g_StringLatin1_indexOf {G : Gx} {RL : Lv} {l : Launch} (hL : LvA G RL plR) (x0 : Nat) (x1 : Int32) (x2 : Nat) (x3 : Int32) (x4 : Int32) (h : Hp) : Ct id G RL l yJ28_indexOf_2 (ws_ yJ28_indexOf_2 cJ28_indexOf_2 11 (some .int)) 0 0 finI [vr x0, .int x1, vr x2, .int x3, .int x4] h (g_StringLatin1_indexOf x0 x1 x2 x3 x4 h) := by
  refine Ct.of (Pl := plR) [(0, vr x0), (1, .int x1), (2, vr x2), (3, .int x3), (4, .int x4)] (by decide) hL rfl (Nat.le_of_ble_eq_true rfl) ?_
  intro E C e6 hf hlo e1 e2 e3 e4 e5
  subst e1; subst e2; subst e3
  replace C : Cx E cJ28_indexOf_2 (some .int) RJ28 := C
  replace e6 : (eMe E).name = "indexOf" := e6
  unfold g_StringLatin1_indexOf
  refine s_aload_n C dJ28_indexOf_2_0 2 rfl rfl ?_
  refine s_iconst C (0 : Int32) dJ28_indexOf_2_1 (by decide) ?_
  refine s_bald [201, 701] C (flc rfl (fl1 rfl)) (pl_of e4 rfl) dJ28_indexOf_2_2 fun a1 => ?_
  refine s_istore (la' := [(5, .int a1), (0, vr x0), (1, .int x1), (2, vr x2), (3, .int x3), (4, .int x4)]) C dJ28_indexOf_2_3 (lt_nl e5 rfl) rfl ?_
  refine s_iload_n C dJ28_indexOf_2_5 2 rfl rfl ?_
  refine s_iload_n C dJ28_indexOf_2_6 4 rfl rfl ?_
  refine s_isub C dJ28_indexOf_2_7 ?_
  refine s_bdi fun a2 => ?_
  refine s_istore (la' := [(6, .int a2), (5, .int a1), (0, vr x0), (1, .int x1), (2, vr x2), (3, .int x3), (4, .int x4)]) C dJ28_indexOf_2_8 (lt_nl e5 rfl) rfl ?_
  refine s_iload C dJ28_indexOf_2_10 6 rfl ?_
  have hL14 : ∀ (x0 : Nat) (x2 : Nat) (x3 : Int32) (x5 : Int32) (x6 : Int32) (v14 : Int32) (h3 : Hp), Sim id E (QM id E finI) h3 14 [(0, vr x0), (2, vr x2), (3, .int x3), (5, .int x5), (6, .int x6), (7, .int v14)] [] (g_StringLatin1_indexOf_L14 x0 x2 x3 x5 x6 v14 h3) := by
    intro x0 x2 x3 x5 x6 v14 h3
    refine Sim.loop (fun v14 => [(0, vr x0), (2, vr x2), (3, .int x3), (5, .int x5), (6, .int x6), (7, .int v14)]) (fun _ => []) (fun rec14 hr14 v14 h3 => ?_) FU v14 h3
    refine s_iload C dJ28_indexOf_2_14 5 rfl ?_
    refine s_iload C dJ28_indexOf_2_16 4 rfl ?_
    refine s_icmp_gt C 119 dJ28_indexOf_2_18 (by decide) ?_ ?_
    · refine s_iconst C (-1 : Int32) dJ28_indexOf_2_119 (by decide) ?_
      exact s_iret C rfl dJ28_indexOf_2_120
    · refine s_aload_n C dJ28_indexOf_2_21 0 rfl rfl ?_
      refine s_iload C dJ28_indexOf_2_22 5 rfl ?_
      refine s_bald [201, 701] C (flc rfl (fl1 rfl)) (pl_of e4 rfl) dJ28_indexOf_2_24 fun a4 => ?_
      refine s_iload C dJ28_indexOf_2_25 3 rfl ?_
      have hj52 : ∀ (x7 : Int32) (h5 : Hp), Sim id E (QM id E finI) h5 52 [(0, vr x0), (2, vr x2), (3, .int x3), (5, .int x5), (6, .int x6), (7, .int x7)] [] (g_StringLatin1_indexOf_j52 rec14 x0 x2 x3 x5 x6 x7 h5) := by
        intro x7 h5
        refine s_iload C dJ28_indexOf_2_52 5 rfl ?_
        refine s_iload C dJ28_indexOf_2_54 4 rfl ?_
        have hj113 : ∀ (x7 : Int32) (h6 : Hp), Sim id E (QM id E finI) h6 113 [(0, vr x0), (2, vr x2), (3, .int x3), (5, .int x5), (6, .int x6), (7, .int x7)] [] (g_StringLatin1_indexOf_j113 rec14 x0 x2 x3 x5 x6 x7 h6) := by
          intro x7 h6
          refine s_iinc (la' := [(7, .int (x7 + (1 : Int32))), (0, vr x0), (2, vr x2), (3, .int x3), (5, .int x5), (6, .int x6)]) C 5 dJ28_indexOf_2_113 rfl rfl (lt_nl e5 rfl) rfl ?_
          refine s_goto C 14 dJ28_indexOf_2_116 (by decide) ?_
          refine Sim.keep [1, 2, 3, 4, 5, 0] rfl ?_
          exact hr14 _ _
        refine s_icmp_gt C 113 dJ28_indexOf_2_56 (by decide) ?_ ?_
        · exact hj113 _ _
        · refine s_iload C dJ28_indexOf_2_59 5 rfl ?_
          refine s_iconst C (1 : Int32) dJ28_indexOf_2_61 (by decide) ?_
          refine s_iadd C dJ28_indexOf_2_62 ?_
          refine s_bdi fun a7 => ?_
          refine s_istore (la' := [(8, .int a7), (0, vr x0), (2, vr x2), (3, .int x3), (5, .int x5), (6, .int x6), (7, .int x7)]) C dJ28_indexOf_2_63 (lt_nl e5 rfl) rfl ?_
          refine s_iload C dJ28_indexOf_2_65 0 rfl ?_
          refine s_iload_n C dJ28_indexOf_2_67 3 rfl rfl ?_
          refine s_iadd C dJ28_indexOf_2_68 ?_
          refine s_iconst C (1 : Int32) dJ28_indexOf_2_69 (by decide) ?_
          refine s_isub C dJ28_indexOf_2_70 ?_
          refine s_bdi fun a8 => ?_
          refine s_istore (la' := [(9, .int a8), (8, .int a7), (0, vr x0), (2, vr x2), (3, .int x3), (5, .int x5), (6, .int x6), (7, .int x7)]) C dJ28_indexOf_2_71 (lt_nl e5 rfl) rfl ?_
          refine s_iconst C (1 : Int32) dJ28_indexOf_2_73 (by decide) ?_
          have hL76 : ∀ (x7 : Int32) (x9 : Int32) (v76 : (Int32 × Int32)) (h9 : Hp), Sim id E (QM id E finI) h9 76 [(0, vr x0), (2, vr x2), (3, .int x3), (5, .int x5), (6, .int x6), (7, .int x7), (8, .int v76.1), (9, .int x9), (10, .int v76.2)] [] (g_StringLatin1_indexOf_L76 rec14 x0 x2 x3 x5 x6 x7 x9 v76 h9) := by
            intro x7 x9 v76 h9
            refine Sim.loop (fun v76 => [(0, vr x0), (2, vr x2), (3, .int x3), (5, .int x5), (6, .int x6), (7, .int x7), (8, .int v76.1), (9, .int x9), (10, .int v76.2)]) (fun _ => []) (fun rec76 hr76 v76 h9 => ?_) FU v76 h9
            refine s_iload C dJ28_indexOf_2_76 6 rfl ?_
            refine s_iload C dJ28_indexOf_2_78 7 rfl ?_
            have hj103 : ∀ (x7 : Int32) (x8 : Int32) (x9 : Int32) (h10 : Hp), Sim id E (QM id E finI) h10 103 [(0, vr x0), (2, vr x2), (3, .int x3), (5, .int x5), (6, .int x6), (7, .int x7), (8, .int x8), (9, .int x9)] [] (g_StringLatin1_indexOf_j103 rec14 x0 x2 x3 x5 x6 x7 x8 x9 h10) := by
              intro x7 x8 x9 h10
              refine s_iload C dJ28_indexOf_2_103 6 rfl ?_
              refine s_iload C dJ28_indexOf_2_105 7 rfl ?_
              refine s_icmp_ne C 113 dJ28_indexOf_2_107 (by decide) ?_ ?_
              · refine Sim.keep [0, 1, 2, 3, 4, 5] rfl ?_
                exact hj113 _ _
              · refine s_iload C dJ28_indexOf_2_110 5 rfl ?_
                exact s_iret C rfl dJ28_indexOf_2_112
            refine s_icmp_ge C 103 dJ28_indexOf_2_80 (by decide) ?_ ?_
            · refine Sim.keep [0, 1, 2, 3, 4, 5, 6, 7] rfl ?_
              exact hj103 _ _ _ _
            · refine s_aload_n C dJ28_indexOf_2_83 0 rfl rfl ?_
              refine s_iload C dJ28_indexOf_2_84 6 rfl ?_
              refine s_bald [201, 701] C (flc rfl (fl1 rfl)) (pl_of e4 rfl) dJ28_indexOf_2_86 fun a11 => ?_
              refine s_aload_n C dJ28_indexOf_2_87 1 rfl rfl ?_
              refine s_iload C dJ28_indexOf_2_88 8 rfl ?_
              refine s_bald [201, 701] C (flc rfl (fl1 rfl)) (pl_of e4 rfl) dJ28_indexOf_2_90 fun a12 => ?_
              refine s_icmp_ne C 103 dJ28_indexOf_2_91 (by decide) ?_ ?_
              · refine Sim.keep [0, 1, 2, 3, 4, 5, 6, 7] rfl ?_
                exact hj103 _ _ _ _
              · refine s_iinc (la' := [(8, .int (v76.1 + (1 : Int32))), (0, vr x0), (2, vr x2), (3, .int x3), (5, .int x5), (6, .int x6), (7, .int x7), (9, .int x9), (10, .int v76.2)]) C 6 dJ28_indexOf_2_94 rfl rfl (lt_nl e5 rfl) rfl ?_
                refine s_iinc (la' := [(10, .int (v76.2 + (1 : Int32))), (8, .int (v76.1 + (1 : Int32))), (0, vr x0), (2, vr x2), (3, .int x3), (5, .int x5), (6, .int x6), (7, .int x7), (9, .int x9)]) C 8 dJ28_indexOf_2_97 rfl rfl (lt_nl e5 rfl) rfl ?_
                refine s_goto C 76 dJ28_indexOf_2_100 (by decide) ?_
                refine Sim.keep [2, 3, 4, 5, 6, 7, 1, 8, 0] rfl ?_
                exact hr76 _ _
          refine s_istore (la' := [(10, .int (1 : Int32)), (9, .int a8), (8, .int a7), (0, vr x0), (2, vr x2), (3, .int x3), (5, .int x5), (6, .int x6), (7, .int x7)]) C dJ28_indexOf_2_74 (lt_nl e5 rfl) rfl ?_
          refine Sim.keep [3, 4, 5, 6, 7, 8, 2, 1, 0] rfl ?_
          exact hL76 _ _ _ _
      have hL30 : ∀  (v30 : Int32) (h13 : Hp), Sim id E (QM id E finI) h13 30 [(0, vr x0), (2, vr x2), (3, .int x3), (5, .int x5), (6, .int x6), (7, .int v30)] [] (g_StringLatin1_indexOf_L30 rec14 x0 x2 x3 x5 x6 v30 h13) := by
        intro v30 h13
        refine Sim.loop (fun v30 => [(0, vr x0), (2, vr x2), (3, .int x3), (5, .int x5), (6, .int x6), (7, .int v30)]) (fun _ => []) (fun rec30 hr30 v30 h13 => ?_) FU v30 h13
        refine s_iinc (la' := [(7, .int (v30 + (1 : Int32))), (0, vr x0), (2, vr x2), (3, .int x3), (5, .int x5), (6, .int x6)]) C 5 dJ28_indexOf_2_30 rfl rfl (lt_nl e5 rfl) rfl ?_
        refine s_iload C dJ28_indexOf_2_33 0 rfl ?_
        refine s_iload C dJ28_indexOf_2_35 5 rfl ?_
        refine s_icmp_gt C 52 dJ28_indexOf_2_37 (by decide) ?_ ?_
        · refine Sim.keep [1, 2, 3, 4, 5, 0] rfl ?_
          exact hj52 _ _
        · refine s_aload_n C dJ28_indexOf_2_40 1 rfl rfl ?_
          refine s_iload C dJ28_indexOf_2_41 0 rfl ?_
          refine s_bald [201, 701] C (flc rfl (fl1 rfl)) (pl_of e4 rfl) dJ28_indexOf_2_43 fun a14 => ?_
          refine s_iload C dJ28_indexOf_2_44 4 rfl ?_
          refine s_icmp_eq C 52 dJ28_indexOf_2_46 (by decide) ?_ ?_
          · refine Sim.keep [1, 2, 3, 4, 5, 0] rfl ?_
            exact hj52 _ _
          · refine s_goto C 30 dJ28_indexOf_2_49 (by decide) ?_
            refine Sim.keep [1, 2, 3, 4, 5, 0] rfl ?_
            exact hr30 _ _
      refine s_icmp_eq C 52 dJ28_indexOf_2_27 (by decide) ?_ ?_
      · exact hj52 _ _
      · exact hL30  _ _
  refine s_istore (la' := [(7, .int x4), (6, .int a2), (5, .int a1), (0, vr x0), (1, .int x1), (2, vr x2), (3, .int x3), (4, .int x4)]) C dJ28_indexOf_2_12 (lt_nl e5 rfl) rfl ?_
  refine Sim.keep [3, 5, 6, 2, 1, 0] rfl ?_
  exact hL14 _ _ _ _ _ _ _

def g_StringLatin1_indexOf2 (x0 : Nat) (x1 : Nat) (h : Hp) : Option (Int32 × Hp) :=
  (alen [201, 701] x1 h).bind fun a1 =>
  if a1 = 0 then
    some ((0 : Int32), h)
  else
    (alen [201, 701] x0 h).bind fun a2 =>
    if a2 = 0 then
      some ((-1 : Int32), h)
    else
      (alen [201, 701] x0 h).bind fun a3 =>
      (alen [201, 701] x1 h).bind fun a4 =>
      bn (g_StringLatin1_indexOf x0 a3 x1 a4 (0 : Int32) h) fun r5 h6 =>
      some (r5, h6)
theorem ct_g_StringLatin1_indexOf2 {G : Gx} {RL : Lv} {l : Launch} (hL : LvA G RL plR) (x0 : Nat) (x1 : Nat) (h : Hp) : Ct id G RL l yJ28_indexOf (ws_ yJ28_indexOf cJ28_indexOf 2 (some .int)) 1 30 finI [vr x0, vr x1] h (g_StringLatin1_indexOf2 x0 x1 h) := by
  refine Ct.of (Pl := plR) [(0, vr x0), (1, vr x1)] (by decide) hL rfl (Nat.le_of_ble_eq_true rfl) ?_
  intro E C e6 hf hlo e1 e2 e3 e4 e5
  subst e1; subst e2; subst e3
  replace C : Cx E cJ28_indexOf (some .int) RJ28 := C
  replace e6 : (eMe E).name = "indexOf" := e6
  unfold g_StringLatin1_indexOf2
  refine s_aload_n C dJ28_indexOf_0 1 rfl rfl ?_
  refine s_alen [201, 701] 1 C (flc rfl (fl1 rfl)) (pl_of e4 rfl) dJ28_indexOf_1 fun a1 => ?_
  refine s_if_ne C 7 dJ28_indexOf_2 (by decide) ?_ ?_
  · refine s_aload_n C dJ28_indexOf_7 0 rfl rfl ?_
    refine s_alen [201, 701] 1 C (flc rfl (fl1 rfl)) (pl_of e4 rfl) dJ28_indexOf_8 fun a2 => ?_
    refine s_if_ne C 14 dJ28_indexOf_9 (by decide) ?_ ?_
    · refine s_aload_n C dJ28_indexOf_14 0 rfl rfl ?_
      refine s_aload_n C dJ28_indexOf_15 0 rfl rfl ?_
      refine s_alen [201, 701] 1 C (flc rfl (fl1 rfl)) (pl_of e4 rfl) dJ28_indexOf_16 fun a3 => ?_
      refine s_aload_n C dJ28_indexOf_17 1 rfl rfl ?_
      refine s_aload_n C dJ28_indexOf_18 1 rfl rfl ?_
      refine s_alen [201, 701] 1 C (flc rfl (fl1 rfl)) (pl_of e4 rfl) dJ28_indexOf_19 fun a4 => ?_
      refine s_iconst C (0 : Int32) dJ28_indexOf_20 (by decide) ?_
      refine c_S C 5 [] (ct_g_StringLatin1_indexOf hL x0 a3 x1 a4 (0 : Int32) h) (lw_S q1838 q1839 q140 q1840) nd_J28_indexOf_2.2 rfl (le_fr hf rfl) (le_fr hlo rfl) rfl (Nat.le_of_ble_eq_true rfl) dJ28_indexOf_21 fun r5 h6 => ?_
      exact s_iret C rfl dJ28_indexOf_24
    · refine s_iconst C (-1 : Int32) dJ28_indexOf_12 (by decide) ?_
      exact s_iret C rfl dJ28_indexOf_13
  · refine s_iconst C (0 : Int32) dJ28_indexOf_5 (by decide) ?_
    exact s_iret C rfl dJ28_indexOf_6

def g_String_indexOf (x0 : Nat) (x1 : Nat) (h : Hp) : Option (Int32 × Hp) :=
  bn (dsp (tg h x0 % 500) none [(28, g_String_coder x0 h)]) fun r1 h2 =>
  bn (dsp (tg h2 x1 % 500) none [(28, g_String_coder x1 h2)]) fun r3 h4 =>
  if r1 = r3 then
    bn (dsp (tg h4 x0 % 500) none [(28, g_String_isLatin1 x0 h4)]) fun r7 h8 =>
    if r7 = 0 then
      (getR [28, 528] 0 x0 h8).bind fun a9 =>
      (getR [28, 528] 0 x1 h8).bind fun a10 =>
      none
    else
      (getR [28, 528] 0 x0 h8).bind fun a11 =>
      (getR [28, 528] 0 x1 h8).bind fun a12 =>
      bn (g_StringLatin1_indexOf2 a11 a12 h8) fun r13 h14 =>
      some (r13, h14)
  else
    if r1 = 0 then
      some ((-1 : Int32), h4)
    else
      (getR [28, 528] 0 x0 h4).bind fun a5 =>
      (getR [28, 528] 0 x1 h4).bind fun a6 =>
      none
theorem ct_g_String_indexOf {G : Gx} {RL : Lv} {l : Launch} (hL : LvA G RL plR) (x0 : Nat) (x1 : Nat) (h : Hp) : Ct id G RL l yJ27_indexOf (ws_ yJ27_indexOf cJ27_indexOf 3 (some .int)) 2 51 finI [vr x0, vr x1] h (g_String_indexOf x0 x1 h) := by
  refine Ct.of (Pl := plR) [(0, vr x0), (1, vr x1)] (by decide) hL rfl (Nat.le_of_ble_eq_true rfl) ?_
  intro E C e6 hf hlo e1 e2 e3 e4 e5
  subst e1; subst e2; subst e3
  replace C : Cx E cJ27_indexOf (some .int) RJ27 := C
  replace e6 : (eMe E).name = "indexOf" := e6
  unfold g_String_indexOf
  refine s_aload_n C dJ27_indexOf_0 0 rfl rfl ?_
  refine s_dk 4 finI [] (fun r1 h2 => ?_) (fun hk => s_dsp 28 (fun ht => c_V C 0 [] 28 RJ27 ro_28 (ct_g_String_coder hL x0 h) (lw_V q1117 q1118 q1119 q139 q1120) nd_J27_coder rfl (le_fr hf rfl) (le_fr hlo rfl) rfl (Nat.le_of_ble_eq_true rfl) dJ27_indexOf_1 hk ht) s_dsp0)
  refine s_istore_n (la' := [(2, .int r1), (0, vr x0), (1, vr x1)]) C 2 dJ27_indexOf_4 rfl (lt_nl e5 rfl) rfl ?_
  refine s_iload_n C dJ27_indexOf_5 0 rfl rfl ?_
  refine s_aload_n C dJ27_indexOf_6 2 rfl rfl ?_
  refine s_dk 10 finI [.int r1] (fun r3 h4 => ?_) (fun hk => s_dsp 28 (fun ht => c_V C 0 [.int r1] 28 RJ27 ro_28 (ct_g_String_coder hL x1 h2) (lw_V q1117 q1118 q1119 q139 q1120) nd_J27_coder rfl (le_fr hf rfl) (le_fr hlo rfl) rfl (Nat.le_of_ble_eq_true rfl) dJ27_indexOf_7 hk ht) s_dsp0)
  refine s_icmp_ne C 46 dJ27_indexOf_10 (by decide) ?_ ?_
  · refine s_iload_n C dJ27_indexOf_46 0 rfl rfl ?_
    refine s_if_ne C 52 dJ27_indexOf_47 (by decide) ?_ ?_
    · refine s_aload_n C dJ27_indexOf_52 1 rfl rfl ?_
      refine s_getR [28, 528] C (flc ⟨fo_J27_9_28, rfl⟩ (fl1 ⟨fo_J27_9_28, rfl⟩)) (pl_of e4 rfl) dJ27_indexOf_53 fun a5 => ?_
      refine s_aload_n C dJ27_indexOf_56 2 rfl rfl ?_
      refine s_getR [28, 528] C (flc ⟨fo_J27_9_28, rfl⟩ (fl1 ⟨fo_J27_9_28, rfl⟩)) (pl_of e4 rfl) dJ27_indexOf_57 fun a6 => ?_
      exact sim_none
    · refine s_iconst C (-1 : Int32) dJ27_indexOf_50 (by decide) ?_
      exact s_iret C rfl dJ27_indexOf_51
  · refine s_aload_n C dJ27_indexOf_13 1 rfl rfl ?_
    refine s_dk 17 finI [] (fun r7 h8 => ?_) (fun hk => s_dsp 28 (fun ht => c_V C 0 [] 28 RJ27 ro_28 (ct_g_String_isLatin1 hL x0 h4) (lw_V q944 q945 q946 q139 q947) nd_J27_isLatin1 rfl (le_fr hf rfl) (le_fr hlo rfl) rfl (Nat.le_of_ble_eq_true rfl) dJ27_indexOf_14 hk ht) s_dsp0)
    refine s_if_eq C 34 dJ27_indexOf_17 (by decide) ?_ ?_
    · refine s_aload_n C dJ27_indexOf_34 1 rfl rfl ?_
      refine s_getR [28, 528] C (flc ⟨fo_J27_9_28, rfl⟩ (fl1 ⟨fo_J27_9_28, rfl⟩)) (pl_of e4 rfl) dJ27_indexOf_35 fun a9 => ?_
      refine s_aload_n C dJ27_indexOf_38 2 rfl rfl ?_
      refine s_getR [28, 528] C (flc ⟨fo_J27_9_28, rfl⟩ (fl1 ⟨fo_J27_9_28, rfl⟩)) (pl_of e4 rfl) dJ27_indexOf_39 fun a10 => ?_
      exact sim_none
    · refine s_aload_n C dJ27_indexOf_20 1 rfl rfl ?_
      refine s_getR [28, 528] C (flc ⟨fo_J27_9_28, rfl⟩ (fl1 ⟨fo_J27_9_28, rfl⟩)) (pl_of e4 rfl) dJ27_indexOf_21 fun a11 => ?_
      refine s_aload_n C dJ27_indexOf_24 2 rfl rfl ?_
      refine s_getR [28, 528] C (flc ⟨fo_J27_9_28, rfl⟩ (fl1 ⟨fo_J27_9_28, rfl⟩)) (pl_of e4 rfl) dJ27_indexOf_25 fun a12 => ?_
      refine c_S C 2 [] (ct_g_StringLatin1_indexOf2 hL a11 a12 h8) (lw_S q1835 q1836 q140 q1837) nd_J28_indexOf.2 rfl (le_fr hf rfl) (le_fr hlo rfl) rfl (Nat.le_of_ble_eq_true rfl) dJ27_indexOf_28 fun r13 h14 => ?_
      refine s_goto C 45 dJ27_indexOf_31 (by decide) ?_
      exact s_iret C rfl dJ27_indexOf_45

def g_StringBuilder_init (x0 : Nat) (h : Hp) : Option (Unit × Hp) :=
  if x0 = 0 then none else
  bn (g_AbstractStringBuilder_init x0 (16 : Int32) h) fun _ h1 =>
  some ((), h1)
theorem ct_g_StringBuilder_init {G : Gx} {RL : Lv} {l : Launch} (hL : LvA G RL plR) (x0 : Nat) (h : Hp) : Ct id G RL l yJ33_init (ws_ yJ33_init cJ33_init 1 none) 2 41 finV [vr x0] h (g_StringBuilder_init x0 h) := by
  refine Ct.of (Pl := plR) [(0, vr x0)] (by decide) hL rfl (Nat.le_of_ble_eq_true rfl) ?_
  intro E C e6 hf hlo e1 e2 e3 e4 e5
  subst e1; subst e2; subst e3
  replace C : Cx E cJ33_init none RJ33 := C
  replace e6 : (eMe E).name = "<init>" := e6
  unfold g_StringBuilder_init
  refine s_aload_n C dJ33_init_0 0 rfl rfl ?_
  refine s_bipush C (16 : Int32) dJ33_init_1 (by decide) ?_
  refine s_nz fun z2 => ?_
  refine c_I C 1 [] z2 (ct_g_AbstractStringBuilder_init hL x0 (16 : Int32) h) (lw_meth q1579) q150 q1577 q1578 rfl nd_J32_init.2 rfl (le_fr hf rfl) (le_fr hlo rfl) rfl (Nat.le_of_ble_eq_true rfl) dJ33_init_3 fun _ h1 => ?_
  exact s_vret C rfl dJ33_init_6

def g_StringBuilder_append (x0 : Nat) (x1 : Int32) (h : Hp) : Option (Nat × Hp) :=
  bn (dsp (tg h x0 % 500) none [(29, g_AbstractStringBuilder_append x0 x1 h)]) fun r1 h2 =>
  some (x0, h2)
theorem ct_g_StringBuilder_append {G : Gx} {RL : Lv} {l : Launch} (hL : LvA G RL plR) (x0 : Nat) (x1 : Int32) (h : Hp) : Ct id G RL l yJ33_append (ws_ yJ33_append cJ33_append 2 (some (.object "java/lang/StringBuilder"))) 5 120 finR [vr x0, .int x1] h (g_StringBuilder_append x0 x1 h) := by
  refine Ct.of (Pl := plR) [(0, vr x0), (1, .int x1)] (by decide) hL rfl (Nat.le_of_ble_eq_true rfl) ?_
  intro E C e6 hf hlo e1 e2 e3 e4 e5
  subst e1; subst e2; subst e3
  replace C : Cx E cJ33_append (some (.object "java/lang/StringBuilder")) RJ33 := C
  replace e6 : (eMe E).name = "append" := e6
  unfold g_StringBuilder_append
  refine s_aload_n C dJ33_append_0 0 rfl rfl ?_
  refine s_iload_n C dJ33_append_1 1 rfl rfl ?_
  refine s_dk 5 finR [] (fun r1 h2 => ?_) (fun hk => s_dsp 29 (fun ht => c_SU C 1 [] 29 RJ33 ro_29 (ct_g_AbstractStringBuilder_append hL x0 x1 h) (lw_SU q1604 q3549 q1266 q1605 q150 q1606) ⟨by decide +kernel, by decide +kernel⟩ rfl (le_fr hf rfl) (le_fr hlo rfl) rfl (Nat.le_of_ble_eq_true rfl) dJ33_append_2 rfl hk ht) s_dsp0)
  refine s_pop C dJ33_append_5 rfl ?_
  refine s_aload_n C dJ33_append_6 0 rfl rfl ?_
  exact s_aret C (Or.inl ⟨_, rfl⟩) rfl dJ33_append_7

def g_StringBuilder_append2 (x0 : Nat) (x1 : Int32) (h : Hp) : Option (Nat × Hp) :=
  bn (dsp (tg h x0 % 500) none [(29, g_AbstractStringBuilder_append2 x0 x1 h)]) fun r1 h2 =>
  some (x0, h2)
theorem ct_g_StringBuilder_append2 {G : Gx} {RL : Lv} {l : Launch} (hL : LvA G RL plR) (x0 : Nat) (x1 : Int32) (h : Hp) : Ct id G RL l yJ33_append_3 (ws_ yJ33_append_3 cJ33_append_3 2 (some (.object "java/lang/StringBuilder"))) 5 122 finR [vr x0, .int x1] h (g_StringBuilder_append2 x0 x1 h) := by
  refine Ct.of (Pl := plR) [(0, vr x0), (1, .int x1)] (by decide) hL rfl (Nat.le_of_ble_eq_true rfl) ?_
  intro E C e6 hf hlo e1 e2 e3 e4 e5
  subst e1; subst e2; subst e3
  replace C : Cx E cJ33_append_3 (some (.object "java/lang/StringBuilder")) RJ33 := C
  replace e6 : (eMe E).name = "append" := e6
  unfold g_StringBuilder_append2
  refine s_aload_n C dJ33_append_3_0 0 rfl rfl ?_
  refine s_iload_n C dJ33_append_3_1 1 rfl rfl ?_
  refine s_dk 5 finR [] (fun r1 h2 => ?_) (fun hk => s_dsp 29 (fun ht => c_SU C 1 [] 29 RJ33 ro_29 (ct_g_AbstractStringBuilder_append2 hL x0 x1 h) (lw_SU q2468 q3571 q1266 q2469 q150 q2470) ⟨by decide +kernel, by decide +kernel⟩ rfl (le_fr hf rfl) (le_fr hlo rfl) rfl (Nat.le_of_ble_eq_true rfl) dJ33_append_3_2 rfl hk ht) s_dsp0)
  refine s_pop C dJ33_append_3_5 rfl ?_
  refine s_aload_n C dJ33_append_3_6 0 rfl rfl ?_
  exact s_aret C (Or.inl ⟨_, rfl⟩) rfl dJ33_append_3_7

def g_StringBuilder_append3 (x0 : Nat) (x1 : Nat) (h : Hp) : Option (Nat × Hp) :=
  bn (dsp (tg h x0 % 500) none [(29, g_AbstractStringBuilder_append3 x0 x1 h)]) fun r1 h2 =>
  some (x0, h2)
theorem ct_g_StringBuilder_append3 {G : Gx} {RL : Lv} {l : Launch} (hL : LvA G RL plR) (x0 : Nat) (x1 : Nat) (h : Hp) : Ct id G RL l yJ33_append_2 (ws_ yJ33_append_2 cJ33_append_2 2 (some (.object "java/lang/StringBuilder"))) 5 121 finR [vr x0, vr x1] h (g_StringBuilder_append3 x0 x1 h) := by
  refine Ct.of (Pl := plR) [(0, vr x0), (1, vr x1)] (by decide) hL rfl (Nat.le_of_ble_eq_true rfl) ?_
  intro E C e6 hf hlo e1 e2 e3 e4 e5
  subst e1; subst e2; subst e3
  replace C : Cx E cJ33_append_2 (some (.object "java/lang/StringBuilder")) RJ33 := C
  replace e6 : (eMe E).name = "append" := e6
  unfold g_StringBuilder_append3
  refine s_aload_n C dJ33_append_2_0 0 rfl rfl ?_
  refine s_aload_n C dJ33_append_2_1 1 rfl rfl ?_
  refine s_dk 5 finR [] (fun r1 h2 => ?_) (fun hk => s_dsp 29 (fun ht => c_SU C 1 [] 29 RJ33 ro_29 (ct_g_AbstractStringBuilder_append3 hL x0 x1 h) (lw_SU q1796 q3562 q1266 q1797 q150 q1798) ⟨by decide +kernel, by decide +kernel⟩ rfl (le_fr hf rfl) (le_fr hlo rfl) rfl (Nat.le_of_ble_eq_true rfl) dJ33_append_2_2 rfl hk ht) s_dsp0)
  refine s_pop C dJ33_append_2_5 rfl ?_
  refine s_aload_n C dJ33_append_2_6 0 rfl rfl ?_
  exact s_aret C (Or.inl ⟨_, rfl⟩) rfl dJ33_append_2_7

def g_StringBuilder_toString (x0 : Nat) (h : Hp) : Option (Nat × Hp) :=
  bn (newO 28 4 h) fun o1 h2 =>
  bn (g_String_init2 o1 x0 h2) fun _ h3 =>
  some (o1, h3)
theorem ct_g_StringBuilder_toString {G : Gx} {RL : Lv} {l : Launch} (hL : LvA G RL plR) (x0 : Nat) (h : Hp) : Ct id G RL l yJ33_toString (ws_ yJ33_toString cJ33_toString 1 (some (.object "java/lang/String"))) 4 91 finR [vr x0] h (g_StringBuilder_toString x0 h) := by
  refine Ct.of (Pl := plR) [(0, vr x0)] (by decide) hL rfl (Nat.le_of_ble_eq_true rfl) ?_
  intro E C e6 hf hlo e1 e2 e3 e4 e5
  subst e1; subst e2; subst e3
  replace C : Cx E cJ33_toString (some (.object "java/lang/String")) RJ33 := C
  replace e6 : (eMe E).name = "toString" := e6
  unfold g_StringBuilder_toString
  refine s_newO 28 4 C no_J33_18 (pl_of1 e4 rfl) dJ33_toString_0 fun o1 h2 zo1 => ?_
  refine s_dup C dJ33_toString_3 rfl ?_
  refine s_aload_n C dJ33_toString_4 0 rfl rfl ?_
  refine c_I C 1 [vr o1] zo1 (ct_g_String_init2 hL o1 x0 h2) (lw_meth q1670) q139 q1668 q1669 rfl nd_J27_init.2 rfl (le_fr hf rfl) (le_fr hlo rfl) rfl (Nat.le_of_ble_eq_true rfl) dJ33_toString_5 fun _ h3 => ?_
  exact s_aret C (Or.inl ⟨_, rfl⟩) rfl dJ33_toString_8

def g_AbstractCollection_init (x0 : Nat) (h : Hp) : Option (Unit × Hp) :=
  if x0 = 0 then none else
  some ((), h)
theorem ct_g_AbstractCollection_init {G : Gx} {RL : Lv} {l : Launch} (hL : LvA G RL plR) (x0 : Nat) (h : Hp) : Ct id G RL l yJ0_init (ws_ yJ0_init cJ0_init 1 none) 1 20 finV [vr x0] h (g_AbstractCollection_init x0 h) := by
  refine Ct.of (Pl := plR) [(0, vr x0)] (by decide) hL rfl (Nat.le_of_ble_eq_true rfl) ?_
  intro E C e6 hf hlo e1 e2 e3 e4 e5
  subst e1; subst e2; subst e3
  replace C : Cx E cJ0_init none RJ0 := C
  replace e6 : (eMe E).name = "<init>" := e6
  unfold g_AbstractCollection_init
  refine s_aload_n C dJ0_init_0 0 rfl rfl ?_
  refine s_nz fun z1 => ?_
  refine s_objI C z1 q196 q177 q178 (le_fr hf rfl) (le_fr hlo rfl) (Nat.le_of_ble_eq_true rfl) dJ0_init_1 ?_
  exact s_vret C rfl dJ0_init_4

def g_AbstractList_init (x0 : Nat) (h : Hp) : Option (Unit × Hp) :=
  if x0 = 0 then none else
  bn (g_AbstractCollection_init x0 h) fun _ h1 =>
  (putI [25] 0 0 x0 (0 : Int32) h1).bind fun h3 =>
  some ((), h3)
theorem ct_g_AbstractList_init {G : Gx} {RL : Lv} {l : Launch} (hL : LvA G RL plR) (x0 : Nat) (h : Hp) : Ct id G RL l yJ1_init (ws_ yJ1_init cJ1_init 1 none) 2 40 finV [vr x0] h (g_AbstractList_init x0 h) := by
  refine Ct.of (Pl := plR) [(0, vr x0)] (by decide) hL rfl (Nat.le_of_ble_eq_true rfl) ?_
  intro E C e6 hf hlo e1 e2 e3 e4 e5
  subst e1; subst e2; subst e3
  replace C : Cx E cJ1_init none RJ1 := C
  replace e6 : (eMe E).name = "<init>" := e6
  unfold g_AbstractList_init
  refine s_aload_n C dJ1_init_0 0 rfl rfl ?_
  refine s_nz fun z2 => ?_
  refine c_I C 0 [] z2 (ct_g_AbstractCollection_init hL x0 h) (lw_meth q195) q109 q193 q194 rfl nd_J0_init.2 rfl (le_fr hf rfl) (le_fr hlo rfl) rfl (Nat.le_of_ble_eq_true rfl) dJ1_init_1 fun _ h1 => ?_
  refine s_aload_n C dJ1_init_4 0 rfl rfl ?_
  refine s_iconst C (0 : Int32) dJ1_init_5 (by decide) ?_
  refine s_putI [25] 0 C (by decide) (by decide) (fl1 ⟨⟨by decide, fo_J1_7_25, rfl⟩, rfl⟩) (pl_of e4 rfl) (fl1 (Or.inl rfl)) dJ1_init_6 fun h3 => ?_
  exact s_vret C rfl dJ1_init_9

def g_AbstractMap_init (x0 : Nat) (h : Hp) : Option (Unit × Hp) :=
  if x0 = 0 then none else
  some ((), h)
theorem ct_g_AbstractMap_init {G : Gx} {RL : Lv} {l : Launch} (hL : LvA G RL plR) (x0 : Nat) (h : Hp) : Ct id G RL l yJ3_init (ws_ yJ3_init cJ3_init 1 none) 1 20 finV [vr x0] h (g_AbstractMap_init x0 h) := by
  refine Ct.of (Pl := plR) [(0, vr x0)] (by decide) hL rfl (Nat.le_of_ble_eq_true rfl) ?_
  intro E C e6 hf hlo e1 e2 e3 e4 e5
  subst e1; subst e2; subst e3
  replace C : Cx E cJ3_init none RJ3 := C
  replace e6 : (eMe E).name = "<init>" := e6
  unfold g_AbstractMap_init
  refine s_aload_n C dJ3_init_0 0 rfl rfl ?_
  refine s_nz fun z1 => ?_
  refine s_objI C z1 q223 q177 q178 (le_fr hf rfl) (le_fr hlo rfl) (Nat.le_of_ble_eq_true rfl) dJ3_init_1 ?_
  exact s_vret C rfl dJ3_init_4

def g_AbstractSet_init (x0 : Nat) (h : Hp) : Option (Unit × Hp) :=
  if x0 = 0 then none else
  bn (g_AbstractCollection_init x0 h) fun _ h1 =>
  some ((), h1)
theorem ct_g_AbstractSet_init {G : Gx} {RL : Lv} {l : Launch} (hL : LvA G RL plR) (x0 : Nat) (h : Hp) : Ct id G RL l yJ5_init (ws_ yJ5_init cJ5_init 1 none) 2 40 finV [vr x0] h (g_AbstractSet_init x0 h) := by
  refine Ct.of (Pl := plR) [(0, vr x0)] (by decide) hL rfl (Nat.le_of_ble_eq_true rfl) ?_
  intro E C e6 hf hlo e1 e2 e3 e4 e5
  subst e1; subst e2; subst e3
  replace C : Cx E cJ5_init none RJ5 := C
  replace e6 : (eMe E).name = "<init>" := e6
  unfold g_AbstractSet_init
  refine s_aload_n C dJ5_init_0 0 rfl rfl ?_
  refine s_nz fun z2 => ?_
  refine c_I C 0 [] z2 (ct_g_AbstractCollection_init hL x0 h) (lw_meth q195) q109 q304 q194 rfl nd_J0_init.2 rfl (le_fr hf rfl) (le_fr hlo rfl) rfl (Nat.le_of_ble_eq_true rfl) dJ5_init_1 fun _ h1 => ?_
  exact s_vret C rfl dJ5_init_4

def g_ArrayList_init (x0 : Nat) (h : Hp) : Option (Unit × Hp) :=
  if x0 = 0 then none else
  bn (g_AbstractList_init x0 h) fun _ h1 =>
  (putR [25] 1 x0 1 h1).bind fun h3 =>
  some ((), h3)
theorem ct_g_ArrayList_init {G : Gx} {RL : Lv} {l : Launch} (hL : LvA G RL plR) (x0 : Nat) (h : Hp) : Ct id G RL l yJ2_init (ws_ yJ2_init cJ2_init 1 none) 3 60 finV [vr x0] h (g_ArrayList_init x0 h) := by
  refine Ct.of (Pl := plR) [(0, vr x0)] (by decide) hL rfl (Nat.le_of_ble_eq_true rfl) ?_
  intro E C e6 hf hlo e1 e2 e3 e4 e5
  subst e1; subst e2; subst e3
  replace C : Cx E cJ2_init none RJ2 := C
  replace e6 : (eMe E).name = "<init>" := e6
  unfold g_ArrayList_init
  refine s_aload_n C dJ2_init_0 0 rfl rfl ?_
  refine s_nz fun z2 => ?_
  refine c_I C 0 [] z2 (ct_g_AbstractList_init hL x0 h) (lw_meth q192) q110 q190 q191 rfl nd_J1_init.2 rfl (le_fr hf rfl) (le_fr hlo rfl) rfl (Nat.le_of_ble_eq_true rfl) dJ2_init_1 fun _ h1 => ?_
  refine s_aload_n C dJ2_init_4 0 rfl rfl ?_
  refine s_gets (vr 1) C so_J2_39 (st_ref C (by decide) (by decide)) dJ2_init_5 ?_
  refine s_putR [25] C (fl1 ⟨by decide, fo_J2_9_25, rfl⟩) (pl_of e4 rfl) (fl1 (Or.inl rfl)) dJ2_init_8 fun h3 => ?_
  exact s_vret C rfl dJ2_init_11

def g_Arrays_copyOf2 (x0 : Nat) (x1 : Int32) (x2 : Nat) (h : Hp) : Option (Nat × Hp) :=
  if x2 = 70 then
    bn (newA 205 x1 h) fun o1 h2 =>
    (alen [205, 705] x0 h2).bind fun a3 =>
    none
  else
    none
theorem ct_g_Arrays_copyOf2 {G : Gx} {RL : Lv} {l : Launch} (hL : LvA G RL plR) (x0 : Nat) (x1 : Int32) (x2 : Nat) (h : Hp) : Ct id G RL l yJ18_copyOf_2 (ws_ yJ18_copyOf_2 cJ18_copyOf_2 4 (some (.array (.object "java/lang/Object")))) 1 29 finR [vr x0, .int x1, vr x2] h (g_Arrays_copyOf2 x0 x1 x2 h) := by
  refine Ct.of (Pl := plR) [(0, vr x0), (1, .int x1), (2, vr x2)] (by decide) hL rfl (Nat.le_of_ble_eq_true rfl) ?_
  intro E C e6 hf hlo e1 e2 e3 e4 e5
  subst e1; subst e2; subst e3
  replace C : Cx E cJ18_copyOf_2 (some (.array (.object "java/lang/Object"))) RJ18 := C
  replace e6 : (eMe E).name = "copyOf" := e6
  unfold g_Arrays_copyOf2
  refine s_aload_n C dJ18_copyOf_2_0 2 rfl rfl ?_
  refine s_ldcM C q644 (Or.inl rfl) dJ18_copyOf_2_1 ?_
  refine s_acmp_ne 13 C dJ18_copyOf_2_3 (by decide) ?_ ?_
  · refine s_aload_n C dJ18_copyOf_2_13 2 rfl rfl ?_
    exact sim_none
  · refine s_iload_n C dJ18_copyOf_2_6 1 rfl rfl ?_
    refine s_anew 5 "java/lang/Object" C q646 q645 (by decide) rfl (pl_of1 e4 rfl) dJ18_copyOf_2_7 fun o1 h2 zo1 => ?_
    refine s_goto C 24 dJ18_copyOf_2_10 (by decide) ?_
    refine s_astore_n (la' := [(3, vr o1), (0, vr x0), (1, .int x1), (2, vr x2)]) C 3 dJ18_copyOf_2_24 rfl (lt_nl e5 rfl) rfl ?_
    refine s_aload_n C dJ18_copyOf_2_25 1 rfl rfl ?_
    refine s_iconst C (0 : Int32) dJ18_copyOf_2_26 (by decide) ?_
    refine s_aload_n C dJ18_copyOf_2_27 0 rfl rfl ?_
    refine s_iconst C (0 : Int32) dJ18_copyOf_2_28 (by decide) ?_
    refine s_aload_n C dJ18_copyOf_2_29 1 rfl rfl ?_
    refine s_alen [205, 705] 5 C (flc rfl (fl1 rfl)) (pl_of e4 rfl) dJ18_copyOf_2_30 fun a3 => ?_
    refine s_iload_n C dJ18_copyOf_2_31 2 rfl rfl ?_
    refine s_mmin C q647 q648 q127 q649 (le_fr hf rfl) (le_fr hlo rfl) (Nat.le_of_ble_eq_true rfl) dJ18_copyOf_2_32 ?_
    exact sim_none

def g_Arrays_copyOf3 (x0 : Nat) (x1 : Int32) (h : Hp) : Option (Nat × Hp) :=
  none
theorem ct_g_Arrays_copyOf3 {G : Gx} {RL : Lv} {l : Launch} (hL : LvA G RL plR) (x0 : Nat) (x1 : Int32) (h : Hp) : Ct id G RL l yJ18_copyOf (ws_ yJ18_copyOf cJ18_copyOf 2 (some (.array (.object "java/lang/Object")))) 0 0 finR [vr x0, .int x1] h (g_Arrays_copyOf3 x0 x1 h) := by
  refine Ct.of (Pl := plR) [(0, vr x0), (1, .int x1)] (by decide) hL rfl (Nat.le_of_ble_eq_true rfl) ?_
  intro E C e6 hf hlo e1 e2 e3 e4 e5
  subst e1; subst e2; subst e3
  replace C : Cx E cJ18_copyOf (some (.array (.object "java/lang/Object"))) RJ18 := C
  replace e6 : (eMe E).name = "copyOf" := e6
  unfold g_Arrays_copyOf3
  refine s_aload_n C dJ18_copyOf_0 0 rfl rfl ?_
  refine s_iload_n C dJ18_copyOf_1 1 rfl rfl ?_
  refine s_aload_n C dJ18_copyOf_2 0 rfl rfl ?_
  exact sim_none

def g_ArrayList_grow_j20 (x0 : Nat) (x1 : Int32) (x2 : Int32) (h3 : Hp) : Option (Nat × Hp) :=
  bn (g_ArraysSupport_newLength x2 (x1 - x2) (x2 >>> (1 : Int32)) h3) fun r4 h5 =>
  (getR [25] 1 x0 h5).bind fun a6 =>
  bn (g_Arrays_copyOf3 a6 r4 h5) fun r7 h8 =>
  (putR [25] 1 x0 r7 h8).bind fun h9 =>
  some (r7, h9)
def g_ArrayList_grow (x0 : Nat) (x1 : Int32) (h : Hp) : Option (Nat × Hp) :=
  (getR [25] 1 x0 h).bind fun a1 =>
  (alen [205, 705] a1 h).bind fun a2 =>
  if 0 < a2 then
    g_ArrayList_grow_j20 x0 x1 a2 h
  else
    (getR [25] 1 x0 h).bind fun a10 =>
    if a10 = 1 then
      bn (newA 205 (if (10 : Int32) < x1 then x1 else (10 : Int32)) h) fun o11 h12 =>
      (putR [25] 1 x0 o11 h12).bind fun h13 =>
      some (o11, h13)
    else
      g_ArrayList_grow_j20 x0 x1 a2 h
theorem ct_g_ArrayList_grow {G : Gx} {RL : Lv} {l : Launch} (hL : LvA G RL plR) (x0 : Nat) (x1 : Int32) (h : Hp) : Ct id G RL l yJ2_grow_2 (ws_ yJ2_grow_2 cJ2_grow_2 4 (some (.array (.object "java/lang/Object")))) 2 52 finR [vr x0, .int x1] h (g_ArrayList_grow x0 x1 h) := by
  refine Ct.of (Pl := plR) [(0, vr x0), (1, .int x1)] (by decide) hL rfl (Nat.le_of_ble_eq_true rfl) ?_
  intro E C e6 hf hlo e1 e2 e3 e4 e5
  subst e1; subst e2; subst e3
  replace C : Cx E cJ2_grow_2 (some (.array (.object "java/lang/Object"))) RJ2 := C
  replace e6 : (eMe E).name = "grow" := e6
  unfold g_ArrayList_grow
  refine s_aload_n C dJ2_grow_2_0 0 rfl rfl ?_
  refine s_getR [25] C (fl1 ⟨fo_J2_9_25, rfl⟩) (pl_of e4 rfl) dJ2_grow_2_1 fun a1 => ?_
  refine s_alen [205, 705] 5 C (flc rfl (fl1 rfl)) (pl_of e4 rfl) dJ2_grow_2_4 fun a2 => ?_
  refine s_istore_n (la' := [(2, .int a2), (0, vr x0), (1, .int x1)]) C 2 dJ2_grow_2_5 rfl (lt_nl e5 rfl) rfl ?_
  refine s_iload_n C dJ2_grow_2_6 0 rfl rfl ?_
  have hj20 : ∀ (x0 : Nat) (x1 : Int32) (x2 : Int32) (h3 : Hp), Sim id E (QM id E finR) h3 20 [(0, vr x0), (1, .int x1), (2, .int x2)] [] (g_ArrayList_grow_j20 x0 x1 x2 h3) := by
    intro x0 x1 x2 h3
    refine s_iload_n C dJ2_grow_2_20 2 rfl rfl ?_
    refine s_iload_n C dJ2_grow_2_21 1 rfl rfl ?_
    refine s_iload_n C dJ2_grow_2_22 2 rfl rfl ?_
    refine s_isub C dJ2_grow_2_23 ?_
    refine s_iload_n C dJ2_grow_2_24 2 rfl rfl ?_
    refine s_iconst C (1 : Int32) dJ2_grow_2_25 (by decide) ?_
    refine s_ishr C (1 : Int32) dJ2_grow_2_26 (by decide) ?_
    refine c_S C 3 [] (ct_g_ArraysSupport_newLength hL x2 (x1 - x2) (x2 >>> (1 : Int32)) h3) (lw_S q585 q586 q126 q587) nd_J16_newLength.2 rfl (le_fr hf rfl) (le_fr hlo rfl) rfl (Nat.le_of_ble_eq_true rfl) dJ2_grow_2_27 fun r4 h5 => ?_
    refine s_istore_n (la' := [(3, .int r4), (0, vr x0), (1, .int x1), (2, .int x2)]) C 3 dJ2_grow_2_30 rfl (lt_nl e5 rfl) rfl ?_
    refine s_aload_n C dJ2_grow_2_31 1 rfl rfl ?_
    refine s_aload_n C dJ2_grow_2_32 1 rfl rfl ?_
    refine s_getR [25] C (fl1 ⟨fo_J2_9_25, rfl⟩) (pl_of e4 rfl) dJ2_grow_2_33 fun a6 => ?_
    refine s_iload_n C dJ2_grow_2_36 0 rfl rfl ?_
    refine c_S C 2 [vr x0] (ct_g_Arrays_copyOf3 hL a6 r4 h5) (lw_S q595 q596 q128 q597) nd_J18_copyOf.2 rfl (le_fr hf rfl) (le_fr hlo rfl) rfl (Nat.le_of_ble_eq_true rfl) dJ2_grow_2_37 fun r7 h8 => ?_
    refine s_dup_x1 C dJ2_grow_2_40 rfl rfl ?_
    refine s_putR [25] C (fl1 ⟨by decide, fo_J2_9_25, rfl⟩) (pl_of e4 rfl) (fl1 (Or.inl rfl)) dJ2_grow_2_41 fun h9 => ?_
    exact s_aret C (Or.inr ⟨_, rfl⟩) rfl dJ2_grow_2_44
  refine s_if_gt C 20 dJ2_grow_2_7 (by decide) ?_ ?_
  · refine Sim.keep [1, 2, 0] rfl ?_
    exact hj20 _ _ _ _
  · refine s_aload_n C dJ2_grow_2_10 1 rfl rfl ?_
    refine s_getR [25] C (fl1 ⟨fo_J2_9_25, rfl⟩) (pl_of e4 rfl) dJ2_grow_2_11 fun a10 => ?_
    refine s_gets (vr 1) C so_J2_39 (st_ref C (by decide) (by decide)) dJ2_grow_2_14 ?_
    refine s_acmp_eq 45 C dJ2_grow_2_17 (by decide) ?_ ?_
    · refine s_aload_n C dJ2_grow_2_45 1 rfl rfl ?_
      refine s_bipush C (10 : Int32) dJ2_grow_2_46 (by decide) ?_
      refine s_iload_n C dJ2_grow_2_48 2 rfl rfl ?_
      refine s_mmax C q653 q589 q127 q590 (le_fr hf rfl) (le_fr hlo rfl) (Nat.le_of_ble_eq_true rfl) dJ2_grow_2_49 ?_
      refine s_anew 5 "java/lang/Object" C q654 q645 (by decide) rfl (pl_of1 e4 rfl) dJ2_grow_2_52 fun o11 h12 zo11 => ?_
      refine s_dup_x1 C dJ2_grow_2_55 rfl rfl ?_
      refine s_putR [25] C (fl1 ⟨by decide, fo_J2_9_25, rfl⟩) (pl_of e4 rfl) (fl1 (Or.inl rfl)) dJ2_grow_2_56 fun h13 => ?_
      exact s_aret C (Or.inr ⟨_, rfl⟩) rfl dJ2_grow_2_59
    · refine Sim.keep [1, 2, 0] rfl ?_
      exact hj20 _ _ _ _

def g_ArrayList_grow2 (x0 : Nat) (h : Hp) : Option (Nat × Hp) :=
  (getI [25] 2 x0 h).bind fun a1 =>
  bn (dsp (tg h x0 % 500) none [(25, g_ArrayList_grow x0 (a1 + (1 : Int32)) h)]) fun r2 h3 =>
  some (r2, h3)
theorem ct_g_ArrayList_grow2 {G : Gx} {RL : Lv} {l : Launch} (hL : LvA G RL plR) (x0 : Nat) (h : Hp) : Ct id G RL l yJ2_grow (ws_ yJ2_grow cJ2_grow 1 (some (.array (.object "java/lang/Object")))) 3 75 finR [vr x0] h (g_ArrayList_grow2 x0 h) := by
  refine Ct.of (Pl := plR) [(0, vr x0)] (by decide) hL rfl (Nat.le_of_ble_eq_true rfl) ?_
  intro E C e6 hf hlo e1 e2 e3 e4 e5
  subst e1; subst e2; subst e3
  replace C : Cx E cJ2_grow (some (.array (.object "java/lang/Object"))) RJ2 := C
  replace e6 : (eMe E).name = "grow" := e6
  unfold g_ArrayList_grow2
  refine s_aload_n C dJ2_grow_0 0 rfl rfl ?_
  refine s_aload_n C dJ2_grow_1 0 rfl rfl ?_
  refine s_getI [25] C (fl1 ⟨fo_J2_48_25, rfl⟩) (pl_of e4 rfl) dJ2_grow_2 fun a1 => ?_
  refine s_iconst C (1 : Int32) dJ2_grow_5 (by decide) ?_
  refine s_iadd C dJ2_grow_6 ?_
  refine s_dk 10 finR [] (fun r2 h3 => ?_) (fun hk => s_dsp 25 (fun ht => c_V C 1 [] 25 RJ2 ro_25 (ct_g_ArrayList_grow hL x0 (a1 + (1 : Int32)) h) (lw_V q581 q583 qs4 q111 q584) nd_J2_grow_2 rfl (le_fr hf rfl) (le_fr hlo rfl) rfl (Nat.le_of_ble_eq_true rfl) dJ2_grow_7 hk ht) s_dsp0)
  exact s_aret C (Or.inr ⟨_, rfl⟩) rfl dJ2_grow_10

def g_ArrayList_add_j11 (x0 : Nat) (x1 : Nat) (x2 : Nat) (x3 : Int32) (h2 : Hp) : Option (Unit × Hp) :=
  (astR [205] [1, 2, 3, 4, 5, 6, 7, 8, 9, 10, 11, 12, 13, 14, 15, 16, 17, 18, 19, 20, 21, 22, 23, 24, 25, 26, 27, 28, 29, 30, 31, 32, 33, 34, 35] x2 x3 x1 h2).bind fun h3 =>
  (putI [25] 0 2 x0 (x3 + (1 : Int32)) h3).bind fun h4 =>
  some ((), h4)
def g_ArrayList_add (x0 : Nat) (x1 : Nat) (x2 : Nat) (x3 : Int32) (h : Hp) : Option (Unit × Hp) :=
  (alen [205, 705] x2 h).bind fun a1 =>
  if x3 = a1 then
    bn (dsp (tg h x0 % 500) none [(25, g_ArrayList_grow2 x0 h)]) fun r5 h6 =>
    g_ArrayList_add_j11 x0 x1 r5 x3 h6
  else
    g_ArrayList_add_j11 x0 x1 x2 x3 h
theorem ct_g_ArrayList_add {G : Gx} {RL : Lv} {l : Launch} (hL : LvA G RL plR) (x0 : Nat) (x1 : Nat) (x2 : Nat) (x3 : Int32) (h : Hp) : Ct id G RL l yJ2_add_2 (ws_ yJ2_add_2 cJ2_add_2 4 none) 4 95 finV [vr x0, vr x1, vr x2, .int x3] h (g_ArrayList_add x0 x1 x2 x3 h) := by
  refine Ct.of (Pl := plR) [(0, vr x0), (1, vr x1), (2, vr x2), (3, .int x3)] (by decide) hL rfl (Nat.le_of_ble_eq_true rfl) ?_
  intro E C e6 hf hlo e1 e2 e3 e4 e5
  subst e1; subst e2; subst e3
  replace C : Cx E cJ2_add_2 none RJ2 := C
  replace e6 : (eMe E).name = "add" := e6
  unfold g_ArrayList_add
  refine s_iload_n C dJ2_add_2_0 3 rfl rfl ?_
  refine s_aload_n C dJ2_add_2_1 2 rfl rfl ?_
  refine s_alen [205, 705] 5 C (flc rfl (fl1 rfl)) (pl_of e4 rfl) dJ2_add_2_2 fun a1 => ?_
  have hj11 : ∀ (x0 : Nat) (x1 : Nat) (x2 : Nat) (x3 : Int32) (h2 : Hp), Sim id E (QM id E finV) h2 11 [(0, vr x0), (1, vr x1), (2, vr x2), (3, .int x3)] [] (g_ArrayList_add_j11 x0 x1 x2 x3 h2) := by
    intro x0 x1 x2 x3 h2
    refine s_aload_n C dJ2_add_2_11 2 rfl rfl ?_
    refine s_iload_n C dJ2_add_2_12 3 rfl rfl ?_
    refine s_aload_n C dJ2_add_2_13 1 rfl rfl ?_
    refine s_aast [205] [1, 2, 3, 4, 5, 6, 7, 8, 9, 10, 11, 12, 13, 14, 15, 16, 17, 18, 19, 20, 21, 22, 23, 24, 25, 26, 27, 28, 29, 30, 31, 32, 33, 34, 35] 5 "java/lang/Object" C (by decide) rfl (fl1 ⟨by decide, rfl⟩) (pl_of e4 rfl) (flc ao_java_lang_Object_1 (flc ao_java_lang_Object_2 (flc ao_java_lang_Object_3 (flc ao_java_lang_Object_4 (flc ao_java_lang_Object_5 (flc ao_java_lang_Object_6 (flc ao_java_lang_Object_7 (flc ao_java_lang_Object_8 (flc ao_java_lang_Object_9 (flc ao_java_lang_Object_10 (flc ao_java_lang_Object_11 (flc ao_java_lang_Object_12 (flc ao_java_lang_Object_13 (flc ao_java_lang_Object_14 (flc ao_java_lang_Object_15 (flc ao_java_lang_Object_16 (flc ao_java_lang_Object_17 (flc ao_java_lang_Object_18 (flc ao_java_lang_Object_19 (flc ao_java_lang_Object_20 (flc ao_java_lang_Object_21 (flc ao_java_lang_Object_22 (flc ao_java_lang_Object_23 (flc ao_java_lang_Object_24 (flc ao_java_lang_Object_25 (flc ao_java_lang_Object_26 (flc ao_java_lang_Object_27 (flc ao_java_lang_Object_28 (flc ao_java_lang_Object_29 (flc ao_java_lang_Object_30 (flc ao_java_lang_Object_31 (flc ao_java_lang_Object_32 (flc ao_java_lang_Object_33 (flc ao_java_lang_Object_34 (fl1 ao_java_lang_Object_35))))))))))))))))))))))))))))))))))) dJ2_add_2_14 fun h3 => ?_
    refine s_aload_n C dJ2_add_2_15 0 rfl rfl ?_
    refine s_iload_n C dJ2_add_2_16 3 rfl rfl ?_
    refine s_iconst C (1 : Int32) dJ2_add_2_17 (by decide) ?_
    refine s_iadd C dJ2_add_2_18 ?_
    refine s_putI [25] 0 C (by decide) (by decide) (fl1 ⟨⟨by decide, fo_J2_48_25, rfl⟩, rfl⟩) (pl_of e4 rfl) (fl1 (Or.inl rfl)) dJ2_add_2_19 fun h4 => ?_
    exact s_vret C rfl dJ2_add_2_22
  refine s_icmp_ne C 11 dJ2_add_2_3 (by decide) ?_ ?_
  · exact hj11 _ _ _ _ _
  · refine s_aload_n C dJ2_add_2_6 0 rfl rfl ?_
    refine s_dk 10 finR [] (fun r5 h6 => ?_) (fun hk => s_dsp 25 (fun ht => c_V C 0 [] 25 RJ2 ro_25 (ct_g_ArrayList_grow2 hL x0 h) (lw_V q577 q579 qs3 q111 q580) nd_J2_grow rfl (le_fr hf rfl) (le_fr hlo rfl) rfl (Nat.le_of_ble_eq_true rfl) dJ2_add_2_7 hk ht) s_dsp0)
    refine s_astore_n (la' := [(2, vr r5), (0, vr x0), (1, vr x1), (3, .int x3)]) C 2 dJ2_add_2_10 rfl (lt_nl e5 rfl) rfl ?_
    refine Sim.keep [1, 2, 0, 3] rfl ?_
    exact hj11 _ _ _ _ _

def g_ArrayList_add2 (x0 : Nat) (x1 : Nat) (h : Hp) : Option (Int32 × Hp) :=
  (getI [25] 0 x0 h).bind fun a1 =>
  (putI [25] 0 0 x0 (a1 + (1 : Int32)) h).bind fun h2 =>
  (getR [25] 1 x0 h2).bind fun a3 =>
  (getI [25] 2 x0 h2).bind fun a4 =>
  bn (dsp (tg h2 x0 % 500) none [(25, g_ArrayList_add x0 x1 a3 a4 h2)]) fun _ h5 =>
  if nrw 2 (1 : Int32) = (1 : Int32) then some ((1 : Int32), h5) else none
theorem ct_g_ArrayList_add2 {G : Gx} {RL : Lv} {l : Launch} (hL : LvA G RL plR) (x0 : Nat) (x1 : Nat) (h : Hp) : Ct id G RL l yJ2_add (ws_ yJ2_add cJ2_add 2 (some .boolean)) 5 118 finI [vr x0, vr x1] h (g_ArrayList_add2 x0 x1 h) := by
  refine Ct.of (Pl := plR) [(0, vr x0), (1, vr x1)] (by decide) hL rfl (Nat.le_of_ble_eq_true rfl) ?_
  intro E C e6 hf hlo e1 e2 e3 e4 e5
  subst e1; subst e2; subst e3
  replace C : Cx E cJ2_add (some .boolean) RJ2 := C
  replace e6 : (eMe E).name = "add" := e6
  unfold g_ArrayList_add2
  refine s_aload_n C dJ2_add_0 0 rfl rfl ?_
  refine s_dup C dJ2_add_1 rfl ?_
  refine s_getI [25] C (fl1 ⟨fo_J2_63_25, rfl⟩) (pl_of e4 rfl) dJ2_add_2 fun a1 => ?_
  refine s_iconst C (1 : Int32) dJ2_add_5 (by decide) ?_
  refine s_iadd C dJ2_add_6 ?_
  refine s_putI [25] 0 C (by decide) (by decide) (fl1 ⟨⟨by decide, fo_J2_63_25, rfl⟩, rfl⟩) (pl_of e4 rfl) (fl1 (Or.inl rfl)) dJ2_add_7 fun h2 => ?_
  refine s_aload_n C dJ2_add_10 0 rfl rfl ?_
  refine s_aload_n C dJ2_add_11 1 rfl rfl ?_
  refine s_aload_n C dJ2_add_12 0 rfl rfl ?_
  refine s_getR [25] C (fl1 ⟨fo_J2_9_25, rfl⟩) (pl_of e4 rfl) dJ2_add_13 fun a3 => ?_
  refine s_aload_n C dJ2_add_16 0 rfl rfl ?_
  refine s_getI [25] C (fl1 ⟨fo_J2_48_25, rfl⟩) (pl_of e4 rfl) dJ2_add_17 fun a4 => ?_
  refine s_dk 23 finV [] (fun _ h5 => ?_) (fun hk => s_dsp 25 (fun ht => c_V C 3 [] 25 RJ2 ro_25 (ct_g_ArrayList_add hL x0 x1 a3 a4 h2) (lw_V q573 q575 qs2 q111 q576) nd_J2_add_2 rfl (le_fr hf rfl) (le_fr hlo rfl) rfl (Nat.le_of_ble_eq_true rfl) dJ2_add_20 hk ht) s_dsp0)
  refine s_iconst C (1 : Int32) dJ2_add_23 (by decide) ?_
  exact s_zret 2 C (by decide) (by decide) rfl dJ2_add_24

def g_ArrayList_clear_L27 (x1 : Nat) (x2 : Int32) : Int32 → Hp → Option (Unit × Hp) :=
  lp FU fun rec27 v27 h6 =>
    if x2 ≤ v27 then
      some ((), h6)
    else
      (astR [205] [1, 2, 3, 4, 5, 6, 7, 8, 9, 10, 11, 12, 13, 14, 15, 16, 17, 18, 19, 20, 21, 22, 23, 24, 25, 26, 27, 28, 29, 30, 31, 32, 33, 34, 35] x1 v27 0 h6).bind fun h7 =>
      rec27 (v27 + (1 : Int32)) h7
def g_ArrayList_clear (x0 : Nat) (h : Hp) : Option (Unit × Hp) :=
  (getI [25] 0 x0 h).bind fun a1 =>
  (putI [25] 0 0 x0 (a1 + (1 : Int32)) h).bind fun h2 =>
  (getR [25] 1 x0 h2).bind fun a3 =>
  (getI [25] 2 x0 h2).bind fun a4 =>
  (putI [25] 0 2 x0 (0 : Int32) h2).bind fun h5 =>
  g_ArrayList_clear_L27 a3 a4 (0 : Int32) h5
theorem ct_g_ArrayList_clear {G : Gx} {RL : Lv} {l : Launch} (hL : LvA G RL plR) (x0 : Nat) (h : Hp) : Ct id G RL l yJ2_clear (ws_ yJ2_clear cJ2_clear 4 none) 0 0 finV [vr x0] h (g_ArrayList_clear x0 h) := by
  refine Ct.of (Pl := plR) [(0, vr x0)] (by decide) hL rfl (Nat.le_of_ble_eq_true rfl) ?_
  intro E C e6 hf hlo e1 e2 e3 e4 e5
  subst e1; subst e2; subst e3
  replace C : Cx E cJ2_clear none RJ2 := C
  replace e6 : (eMe E).name = "clear" := e6
  unfold g_ArrayList_clear
  refine s_aload_n C dJ2_clear_0 0 rfl rfl ?_
  refine s_dup C dJ2_clear_1 rfl ?_
  refine s_getI [25] C (fl1 ⟨fo_J2_63_25, rfl⟩) (pl_of e4 rfl) dJ2_clear_2 fun a1 => ?_
  refine s_iconst C (1 : Int32) dJ2_clear_5 (by decide) ?_
  refine s_iadd C dJ2_clear_6 ?_
  refine s_putI [25] 0 C (by decide) (by decide) (fl1 ⟨⟨by decide, fo_J2_63_25, rfl⟩, rfl⟩) (pl_of e4 rfl) (fl1 (Or.inl rfl)) dJ2_clear_7 fun h2 => ?_
  refine s_aload_n C dJ2_clear_10 0 rfl rfl ?_
  refine s_getR [25] C (fl1 ⟨fo_J2_9_25, rfl⟩) (pl_of e4 rfl) dJ2_clear_11 fun a3 => ?_
  refine s_astore_n (la' := [(1, vr a3), (0, vr x0)]) C 1 dJ2_clear_14 rfl (lt_nl e5 rfl) rfl ?_
  refine s_aload_n C dJ2_clear_15 1 rfl rfl ?_
  refine s_getI [25] C (fl1 ⟨fo_J2_48_25, rfl⟩) (pl_of e4 rfl) dJ2_clear_16 fun a4 => ?_
  refine s_istore_n (la' := [(2, .int a4), (1, vr a3), (0, vr x0)]) C 2 dJ2_clear_19 rfl (lt_nl e5 rfl) rfl ?_
  refine s_aload_n C dJ2_clear_20 2 rfl rfl ?_
  refine s_iconst C (0 : Int32) dJ2_clear_21 (by decide) ?_
  refine s_dup_x1 C dJ2_clear_22 rfl rfl ?_
  refine s_putI [25] 0 C (by decide) (by decide) (fl1 ⟨⟨by decide, fo_J2_48_25, rfl⟩, rfl⟩) (pl_of e4 rfl) (fl1 (Or.inl rfl)) dJ2_clear_23 fun h5 => ?_
  have hL27 : ∀ (x1 : Nat) (x2 : Int32) (v27 : Int32) (h6 : Hp), Sim id E (QM id E finV) h6 27 [(1, vr x1), (2, .int x2), (3, .int v27)] [] (g_ArrayList_clear_L27 x1 x2 v27 h6) := by
    intro x1 x2 v27 h6
    refine Sim.loop (fun v27 => [(1, vr x1), (2, .int x2), (3, .int v27)]) (fun _ => []) (fun rec27 hr27 v27 h6 => ?_) FU v27 h6
    refine s_iload_n C dJ2_clear_27 2 rfl rfl ?_
    refine s_iload_n C dJ2_clear_28 1 rfl rfl ?_
    refine s_icmp_ge C 42 dJ2_clear_29 (by decide) ?_ ?_
    · exact s_vret C rfl dJ2_clear_42
    · refine s_aload_n C dJ2_clear_32 0 rfl rfl ?_
      refine s_iload_n C dJ2_clear_33 2 rfl rfl ?_
      refine s_null C dJ2_clear_34 ?_
      refine s_aast [205] [1, 2, 3, 4, 5, 6, 7, 8, 9, 10, 11, 12, 13, 14, 15, 16, 17, 18, 19, 20, 21, 22, 23, 24, 25, 26, 27, 28, 29, 30, 31, 32, 33, 34, 35] 5 "java/lang/Object" C (by decide) rfl (fl1 ⟨by decide, rfl⟩) (pl_of e4 rfl) (flc ao_java_lang_Object_1 (flc ao_java_lang_Object_2 (flc ao_java_lang_Object_3 (flc ao_java_lang_Object_4 (flc ao_java_lang_Object_5 (flc ao_java_lang_Object_6 (flc ao_java_lang_Object_7 (flc ao_java_lang_Object_8 (flc ao_java_lang_Object_9 (flc ao_java_lang_Object_10 (flc ao_java_lang_Object_11 (flc ao_java_lang_Object_12 (flc ao_java_lang_Object_13 (flc ao_java_lang_Object_14 (flc ao_java_lang_Object_15 (flc ao_java_lang_Object_16 (flc ao_java_lang_Object_17 (flc ao_java_lang_Object_18 (flc ao_java_lang_Object_19 (flc ao_java_lang_Object_20 (flc ao_java_lang_Object_21 (flc ao_java_lang_Object_22 (flc ao_java_lang_Object_23 (flc ao_java_lang_Object_24 (flc ao_java_lang_Object_25 (flc ao_java_lang_Object_26 (flc ao_java_lang_Object_27 (flc ao_java_lang_Object_28 (flc ao_java_lang_Object_29 (flc ao_java_lang_Object_30 (flc ao_java_lang_Object_31 (flc ao_java_lang_Object_32 (flc ao_java_lang_Object_33 (flc ao_java_lang_Object_34 (fl1 ao_java_lang_Object_35))))))))))))))))))))))))))))))))))) dJ2_clear_35 fun h7 => ?_
      refine s_iinc (la' := [(3, .int (v27 + (1 : Int32))), (1, vr x1), (2, .int x2)]) C 2 dJ2_clear_36 rfl rfl (lt_nl e5 rfl) rfl ?_
      refine s_goto C 27 dJ2_clear_39 (by decide) ?_
      refine Sim.keep [1, 2, 0] rfl ?_
      exact hr27 _ _
  refine s_istore_n (la' := [(3, .int (0 : Int32)), (2, .int a4), (1, vr a3), (0, vr x0)]) C 3 dJ2_clear_26 rfl (lt_nl e5 rfl) rfl ?_
  refine Sim.keep [2, 1, 0] rfl ?_
  exact hL27 _ _ _ _

def g_ArrayList_elementData (x0 : Nat) (x1 : Int32) (h : Hp) : Option (Nat × Hp) :=
  (getR [25] 1 x0 h).bind fun a1 =>
  (aldR [205, 705] a1 x1 h).bind fun a2 =>
  some (a2, h)
theorem ct_g_ArrayList_elementData {G : Gx} {RL : Lv} {l : Launch} (hL : LvA G RL plR) (x0 : Nat) (x1 : Int32) (h : Hp) : Ct id G RL l yJ2_elementData (ws_ yJ2_elementData cJ2_elementData 2 (some (.object "java/lang/Object"))) 0 0 finR [vr x0, .int x1] h (g_ArrayList_elementData x0 x1 h) := by
  refine Ct.of (Pl := plR) [(0, vr x0), (1, .int x1)] (by decide) hL rfl (Nat.le_of_ble_eq_true rfl) ?_
  intro E C e6 hf hlo e1 e2 e3 e4 e5
  subst e1; subst e2; subst e3
  replace C : Cx E cJ2_elementData (some (.object "java/lang/Object")) RJ2 := C
  replace e6 : (eMe E).name = "elementData" := e6
  unfold g_ArrayList_elementData
  refine s_aload_n C dJ2_elementData_0 0 rfl rfl ?_
  refine s_getR [25] C (fl1 ⟨fo_J2_9_25, rfl⟩) (pl_of e4 rfl) dJ2_elementData_1 fun a1 => ?_
  refine s_iload_n C dJ2_elementData_4 1 rfl rfl ?_
  refine s_aald [205, 705] 5 C (by decide) (flc rfl (fl1 rfl)) (pl_of e4 rfl) dJ2_elementData_5 fun a2 => ?_
  exact s_aret C (Or.inl ⟨_, rfl⟩) rfl dJ2_elementData_6

def g_Objects_checkIndex (x0 : Int32) (x1 : Int32) (h : Hp) : Option (Int32 × Hp) :=
  none
theorem ct_g_Objects_checkIndex {G : Gx} {RL : Lv} {l : Launch} (hL : LvA G RL plR) (x0 : Int32) (x1 : Int32) (h : Hp) : Ct id G RL l yJ19_checkIndex (ws_ yJ19_checkIndex cJ19_checkIndex 2 (some .int)) 0 0 finI [.int x0, .int x1] h (g_Objects_checkIndex x0 x1 h) := by
  refine Ct.of (Pl := plR) [(0, .int x0), (1, .int x1)] (by decide) hL rfl (Nat.le_of_ble_eq_true rfl) ?_
  intro E C e6 hf hlo e1 e2 e3 e4 e5
  subst e1; subst e2; subst e3
  replace C : Cx E cJ19_checkIndex (some .int) RJ19 := C
  replace e6 : (eMe E).name = "checkIndex" := e6
  unfold g_Objects_checkIndex
  refine s_iload_n C dJ19_checkIndex_0 0 rfl rfl ?_
  refine s_iload_n C dJ19_checkIndex_1 1 rfl rfl ?_
  refine s_null C dJ19_checkIndex_2 ?_
  exact sim_none

def g_ArrayList_get (x0 : Nat) (x1 : Int32) (h : Hp) : Option (Nat × Hp) :=
  (getI [25] 2 x0 h).bind fun a1 =>
  bn (g_Objects_checkIndex x1 a1 h) fun r2 h3 =>
  bn (dsp (tg h3 x0 % 500) none [(25, g_ArrayList_elementData x0 x1 h3)]) fun r4 h5 =>
  some (r4, h5)
theorem ct_g_ArrayList_get {G : Gx} {RL : Lv} {l : Launch} (hL : LvA G RL plR) (x0 : Nat) (x1 : Int32) (h : Hp) : Ct id G RL l yJ2_get (ws_ yJ2_get cJ2_get 2 (some (.object "java/lang/Object"))) 1 21 finR [vr x0, .int x1] h (g_ArrayList_get x0 x1 h) := by
  refine Ct.of (Pl := plR) [(0, vr x0), (1, .int x1)] (by decide) hL rfl (Nat.le_of_ble_eq_true rfl) ?_
  intro E C e6 hf hlo e1 e2 e3 e4 e5
  subst e1; subst e2; subst e3
  replace C : Cx E cJ2_get (some (.object "java/lang/Object")) RJ2 := C
  replace e6 : (eMe E).name = "get" := e6
  unfold g_ArrayList_get
  refine s_iload_n C dJ2_get_0 1 rfl rfl ?_
  refine s_aload_n C dJ2_get_1 0 rfl rfl ?_
  refine s_getI [25] C (fl1 ⟨fo_J2_48_25, rfl⟩) (pl_of e4 rfl) dJ2_get_2 fun a1 => ?_
  refine c_S C 2 [] (ct_g_Objects_checkIndex hL x1 a1 h) (lw_S q738 q739 q131 q740) nd_J19_checkIndex.2 rfl (le_fr hf rfl) (le_fr hlo rfl) rfl (Nat.le_of_ble_eq_true rfl) dJ2_get_5 fun r2 h3 => ?_
  refine s_pop C dJ2_get_8 rfl ?_
  refine s_aload_n C dJ2_get_9 0 rfl rfl ?_
  refine s_iload_n C dJ2_get_10 1 rfl rfl ?_
  refine s_dk 14 finR [] (fun r4 h5 => ?_) (fun hk => s_dsp 25 (fun ht => c_V C 1 [] 25 RJ2 ro_25 (ct_g_ArrayList_elementData hL x0 x1 h3) (lw_V q744 q745 q746 q111 q747) nd_J2_elementData rfl (le_fr hf rfl) (le_fr hlo rfl) rfl (Nat.le_of_ble_eq_true rfl) dJ2_get_11 hk ht) s_dsp0)
  exact s_aret C (Or.inl ⟨_, rfl⟩) rfl dJ2_get_14

def g_ArrayListItr_init (x0 : Nat) (x1 : Nat) (h : Hp) : Option (Unit × Hp) :=
  (putR [23] 3 x0 x1 h).bind fun h1 =>
  if x0 = 0 then none else
  (putI [23] 0 1 x0 (-1 : Int32) h1).bind fun h3 =>
  (getR [23] 3 x0 h3).bind fun a4 =>
  (getI [25] 0 a4 h3).bind fun a5 =>
  (putI [23] 0 2 x0 a5 h3).bind fun h6 =>
  some ((), h6)
theorem ct_g_ArrayListItr_init {G : Gx} {RL : Lv} {l : Launch} (hL : LvA G RL plR) (x0 : Nat) (x1 : Nat) (h : Hp) : Ct id G RL l yJ11_init (ws_ yJ11_init cJ11_init 2 none) 1 20 finV [vr x0, vr x1] h (g_ArrayListItr_init x0 x1 h) := by
  refine Ct.of (Pl := plR) [(0, vr x0), (1, vr x1)] (by decide) hL rfl (Nat.le_of_ble_eq_true rfl) ?_
  intro E C e6 hf hlo e1 e2 e3 e4 e5
  subst e1; subst e2; subst e3
  replace C : Cx E cJ11_init none RJ11 := C
  replace e6 : (eMe E).name = "<init>" := e6
  unfold g_ArrayListItr_init
  refine s_aload_n C dJ11_init_0 0 rfl rfl ?_
  refine s_aload_n C dJ11_init_1 1 rfl rfl ?_
  refine s_putR [23] C (fl1 ⟨by decide, fo_J11_1_23, rfl⟩) (pl_of e4 rfl) (fl1 (Or.inr ⟨e6, fx_J11_1_23⟩)) dJ11_init_2 fun h1 => ?_
  refine s_aload_n C dJ11_init_5 0 rfl rfl ?_
  refine s_nz fun z2 => ?_
  refine s_objI C z2 q423 q177 q178 (le_fr hf rfl) (le_fr hlo rfl) (Nat.le_of_ble_eq_true rfl) dJ11_init_6 ?_
  refine s_aload_n C dJ11_init_9 0 rfl rfl ?_
  refine s_iconst C (-1 : Int32) dJ11_init_10 (by decide) ?_
  refine s_putI [23] 0 C (by decide) (by decide) (fl1 ⟨⟨by decide, fo_J11_13_23, rfl⟩, rfl⟩) (pl_of e4 rfl) (fl1 (Or.inl rfl)) dJ11_init_11 fun h3 => ?_
  refine s_aload_n C dJ11_init_14 0 rfl rfl ?_
  refine s_aload_n C dJ11_init_15 0 rfl rfl ?_
  refine s_getR [23] C (fl1 ⟨fo_J11_1_23, rfl⟩) (pl_of e4 rfl) dJ11_init_16 fun a4 => ?_
  refine s_getI [25] C (fl1 ⟨fo_J11_17_25, rfl⟩) (pl_of e4 rfl) dJ11_init_19 fun a5 => ?_
  refine s_putI [23] 0 C (by decide) (by decide) (fl1 ⟨⟨by decide, fo_J11_22_23, rfl⟩, rfl⟩) (pl_of e4 rfl) (fl1 (Or.inl rfl)) dJ11_init_22 fun h6 => ?_
  exact s_vret C rfl dJ11_init_25

def g_ArrayList_iterator (x0 : Nat) (h : Hp) : Option (Nat × Hp) :=
  bn (newO 23 4 h) fun o1 h2 =>
  bn (g_ArrayListItr_init o1 x0 h2) fun _ h3 =>
  some (o1, h3)
theorem ct_g_ArrayList_iterator {G : Gx} {RL : Lv} {l : Launch} (hL : LvA G RL plR) (x0 : Nat) (h : Hp) : Ct id G RL l yJ2_iterator (ws_ yJ2_iterator cJ2_iterator 1 (some (.object "java/util/Iterator"))) 2 41 finR [vr x0] h (g_ArrayList_iterator x0 h) := by
  refine Ct.of (Pl := plR) [(0, vr x0)] (by decide) hL rfl (Nat.le_of_ble_eq_true rfl) ?_
  intro E C e6 hf hlo e1 e2 e3 e4 e5
  subst e1; subst e2; subst e3
  replace C : Cx E cJ2_iterator (some (.object "java/util/Iterator")) RJ2 := C
  replace e6 : (eMe E).name = "iterator" := e6
  unfold g_ArrayList_iterator
  refine s_newO 23 4 C no_J2_267 (pl_of1 e4 rfl) dJ2_iterator_0 fun o1 h2 zo1 => ?_
  refine s_dup C dJ2_iterator_3 rfl ?_
  refine s_aload_n C dJ2_iterator_4 0 rfl rfl ?_
  refine c_I C 1 [vr o1] zo1 (ct_g_ArrayListItr_init hL o1 x0 h2) (lw_meth q422) q121 q420 q421 rfl nd_J11_init.2 rfl (le_fr hf rfl) (le_fr hlo rfl) rfl (Nat.le_of_ble_eq_true rfl) dJ2_iterator_5 fun _ h3 => ?_
  exact s_aret C (Or.inl ⟨_, rfl⟩) rfl dJ2_iterator_8

def g_ArrayList_size (x0 : Nat) (h : Hp) : Option (Int32 × Hp) :=
  (getI [25] 2 x0 h).bind fun a1 =>
  some (a1, h)
theorem ct_g_ArrayList_size {G : Gx} {RL : Lv} {l : Launch} (hL : LvA G RL plR) (x0 : Nat) (h : Hp) : Ct id G RL l yJ2_size (ws_ yJ2_size cJ2_size 1 (some .int)) 0 0 finI [vr x0] h (g_ArrayList_size x0 h) := by
  refine Ct.of (Pl := plR) [(0, vr x0)] (by decide) hL rfl (Nat.le_of_ble_eq_true rfl) ?_
  intro E C e6 hf hlo e1 e2 e3 e4 e5
  subst e1; subst e2; subst e3
  replace C : Cx E cJ2_size (some .int) RJ2 := C
  replace e6 : (eMe E).name = "size" := e6
  unfold g_ArrayList_size
  refine s_aload_n C dJ2_size_0 0 rfl rfl ?_
  refine s_getI [25] C (fl1 ⟨fo_J2_48_25, rfl⟩) (pl_of e4 rfl) dJ2_size_1 fun a1 => ?_
  exact s_iret C rfl dJ2_size_4

def g_ArrayListItr_checkForComodification (x0 : Nat) (h : Hp) : Option (Unit × Hp) :=
  (getR [23] 3 x0 h).bind fun a1 =>
  (getI [25] 0 a1 h).bind fun a2 =>
  (getI [23] 2 x0 h).bind fun a3 =>
  if a2 = a3 then
    some ((), h)
  else
    none
theorem ct_g_ArrayListItr_checkForComodification {G : Gx} {RL : Lv} {l : Launch} (hL : LvA G RL plR) (x0 : Nat) (h : Hp) : Ct id G RL l yJ11_checkForComodification (ws_ yJ11_checkForComodification cJ11_checkForComodification 1 none) 0 0 finV [vr x0] h (g_ArrayListItr_checkForComodification x0 h) := by
  refine Ct.of (Pl := plR) [(0, vr x0)] (by decide) hL rfl (Nat.le_of_ble_eq_true rfl) ?_
  intro E C e6 hf hlo e1 e2 e3 e4 e5
  subst e1; subst e2; subst e3
  replace C : Cx E cJ11_checkForComodification none RJ11 := C
  replace e6 : (eMe E).name = "checkForComodification" := e6
  unfold g_ArrayListItr_checkForComodification
  refine s_aload_n C dJ11_checkForComodification_0 0 rfl rfl ?_
  refine s_getR [23] C (fl1 ⟨fo_J11_1_23, rfl⟩) (pl_of e4 rfl) dJ11_checkForComodification_1 fun a1 => ?_
  refine s_getI [25] C (fl1 ⟨fo_J11_17_25, rfl⟩) (pl_of e4 rfl) dJ11_checkForComodification_4 fun a2 => ?_
  refine s_aload_n C dJ11_checkForComodification_7 0 rfl rfl ?_
  refine s_getI [23] C (fl1 ⟨fo_J11_22_23, rfl⟩) (pl_of e4 rfl) dJ11_checkForComodification_8 fun a3 => ?_
  refine s_icmp_eq C 22 dJ11_checkForComodification_11 (by decide) ?_ ?_
  · exact s_vret C rfl dJ11_checkForComodification_22
  · exact sim_none

def g_ArrayListItr_hasNext_j19 (y0 : Int32) (h4 : Hp) : Option (Int32 × Hp) :=
  if nrw 2 y0 = y0 then some (y0, h4) else none
def g_ArrayListItr_hasNext (x0 : Nat) (h : Hp) : Option (Int32 × Hp) :=
  (getI [23] 0 x0 h).bind fun a1 =>
  (getR [23] 3 x0 h).bind fun a2 =>
  (getI [25] 2 a2 h).bind fun a3 =>
  if a1 = a3 then
    g_ArrayListItr_hasNext_j19 (0 : Int32) h
  else
    g_ArrayListItr_hasNext_j19 (1 : Int32) h
theorem ct_g_ArrayListItr_hasNext {G : Gx} {RL : Lv} {l : Launch} (hL : LvA G RL plR) (x0 : Nat) (h : Hp) : Ct id G RL l yJ11_hasNext (ws_ yJ11_hasNext cJ11_hasNext 1 (some .boolean)) 0 0 finI [vr x0] h (g_ArrayListItr_hasNext x0 h) := by
  refine Ct.of (Pl := plR) [(0, vr x0)] (by decide) hL rfl (Nat.le_of_ble_eq_true rfl) ?_
  intro E C e6 hf hlo e1 e2 e3 e4 e5
  subst e1; subst e2; subst e3
  replace C : Cx E cJ11_hasNext (some .boolean) RJ11 := C
  replace e6 : (eMe E).name = "hasNext" := e6
  unfold g_ArrayListItr_hasNext
  refine s_aload_n C dJ11_hasNext_0 0 rfl rfl ?_
  refine s_getI [23] C (fl1 ⟨fo_J11_25_23, rfl⟩) (pl_of e4 rfl) dJ11_hasNext_1 fun a1 => ?_
  refine s_aload_n C dJ11_hasNext_4 0 rfl rfl ?_
  refine s_getR [23] C (fl1 ⟨fo_J11_1_23, rfl⟩) (pl_of e4 rfl) dJ11_hasNext_5 fun a2 => ?_
  refine s_getI [25] C (fl1 ⟨fo_J11_28_25, rfl⟩) (pl_of e4 rfl) dJ11_hasNext_8 fun a3 => ?_
  have hj19 : ∀ (y0 : Int32) (h4 : Hp), Sim id E (QM id E finI) h4 19 [] [.int y0] (g_ArrayListItr_hasNext_j19 y0 h4) := by
    intro y0 h4
    exact s_zret 2 C (by decide) (by decide) rfl dJ11_hasNext_19
  refine s_icmp_eq C 18 dJ11_hasNext_11 (by decide) ?_ ?_
  · refine s_iconst C (0 : Int32) dJ11_hasNext_18 (by decide) ?_
    refine Sim.keep [] rfl ?_
    exact hj19 _ _
  · refine s_iconst C (1 : Int32) dJ11_hasNext_14 (by decide) ?_
    refine s_goto C 19 dJ11_hasNext_15 (by decide) ?_
    refine Sim.keep [] rfl ?_
    exact hj19 _ _

def g_NoSuchElementException_init (x0 : Nat) (h : Hp) : Option (Unit × Hp) :=
  if x0 = 0 then none else
  bn (g_RuntimeException_init x0 h) fun _ h1 =>
  some ((), h1)
theorem ct_g_NoSuchElementException_init {G : Gx} {RL : Lv} {l : Launch} (hL : LvA G RL plR) (x0 : Nat) (h : Hp) : Ct id G RL l yJ15_init (ws_ yJ15_init cJ15_init 1 none) 2 40 finV [vr x0] h (g_NoSuchElementException_init x0 h) := by
  refine Ct.of (Pl := plR) [(0, vr x0)] (by decide) hL rfl (Nat.le_of_ble_eq_true rfl) ?_
  intro E C e6 hf hlo e1 e2 e3 e4 e5
  subst e1; subst e2; subst e3
  replace C : Cx E cJ15_init none RJ15 := C
  replace e6 : (eMe E).name = "<init>" := e6
  unfold g_NoSuchElementException_init
  refine s_aload_n C dJ15_init_0 0 rfl rfl ?_
  refine s_nz fun z2 => ?_
  refine c_I C 0 [] z2 (ct_g_RuntimeException_init hL x0 h) (lw_meth q517) q124 q515 q516 rfl nd_J14_init.2 rfl (le_fr hf rfl) (le_fr hlo rfl) rfl (Nat.le_of_ble_eq_true rfl) dJ15_init_1 fun _ h1 => ?_
  exact s_vret C rfl dJ15_init_4

def g_ArrayListItr_next (x0 : Nat) (h : Hp) : Option (Nat × Hp) :=
  bn (dsp (tg h x0 % 500) none [(23, g_ArrayListItr_checkForComodification x0 h)]) fun _ h1 =>
  (getI [23] 0 x0 h1).bind fun a2 =>
  (getR [23] 3 x0 h1).bind fun a3 =>
  (getI [25] 2 a3 h1).bind fun a4 =>
  if a2 < a4 then
    (getR [23] 3 x0 h1).bind fun a5 =>
    (getR [25] 1 a5 h1).bind fun a6 =>
    (alen [205, 705] a6 h1).bind fun a7 =>
    if a2 < a7 then
      (putI [23] 0 0 x0 (a2 + (1 : Int32)) h1).bind fun h8 =>
      (putI [23] 0 1 x0 a2 h8).bind fun h9 =>
      (aldR [205, 705] a6 a2 h9).bind fun a10 =>
      some (a10, h9)
    else
      none
  else
    none
theorem ct_g_ArrayListItr_next {G : Gx} {RL : Lv} {l : Launch} (hL : LvA G RL plR) (x0 : Nat) (h : Hp) : Ct id G RL l yJ11_next (ws_ yJ11_next cJ11_next 3 (some (.object "java/lang/Object"))) 1 20 finR [vr x0] h (g_ArrayListItr_next x0 h) := by
  refine Ct.of (Pl := plR) [(0, vr x0)] (by decide) hL rfl (Nat.le_of_ble_eq_true rfl) ?_
  intro E C e6 hf hlo e1 e2 e3 e4 e5
  subst e1; subst e2; subst e3
  replace C : Cx E cJ11_next (some (.object "java/lang/Object")) RJ11 := C
  replace e6 : (eMe E).name = "next" := e6
  unfold g_ArrayListItr_next
  refine s_aload_n C dJ11_next_0 0 rfl rfl ?_
  refine s_dk 4 finV [] (fun _ h1 => ?_) (fun hk => s_dsp 23 (fun ht => c_V C 0 [] 23 RJ11 ro_23 (ct_g_ArrayListItr_checkForComodification hL x0 h) (lw_V q468 q469 q470 q121 q471) nd_J11_checkForComodification rfl (le_fr hf rfl) (le_fr hlo rfl) rfl (Nat.le_of_ble_eq_true rfl) dJ11_next_1 hk ht) s_dsp0)
  refine s_aload_n C dJ11_next_4 0 rfl rfl ?_
  refine s_getI [23] C (fl1 ⟨fo_J11_25_23, rfl⟩) (pl_of e4 rfl) dJ11_next_5 fun a2 => ?_
  refine s_istore_n (la' := [(1, .int a2), (0, vr x0)]) C 1 dJ11_next_8 rfl (lt_nl e5 rfl) rfl ?_
  refine s_iload_n C dJ11_next_9 0 rfl rfl ?_
  refine s_aload_n C dJ11_next_10 1 rfl rfl ?_
  refine s_getR [23] C (fl1 ⟨fo_J11_1_23, rfl⟩) (pl_of e4 rfl) dJ11_next_11 fun a3 => ?_
  refine s_getI [25] C (fl1 ⟨fo_J11_28_25, rfl⟩) (pl_of e4 rfl) dJ11_next_14 fun a4 => ?_
  refine s_icmp_lt C 28 dJ11_next_17 (by decide) ?_ ?_
  · refine s_aload_n C dJ11_next_28 1 rfl rfl ?_
    refine s_getR [23] C (fl1 ⟨fo_J11_1_23, rfl⟩) (pl_of e4 rfl) dJ11_next_29 fun a5 => ?_
    refine s_getR [25] C (fl1 ⟨fo_J11_37_25, rfl⟩) (pl_of e4 rfl) dJ11_next_32 fun a6 => ?_
    refine s_astore_n (la' := [(2, vr a6), (1, .int a2), (0, vr x0)]) C 2 dJ11_next_35 rfl (lt_nl e5 rfl) rfl ?_
    refine s_iload_n C dJ11_next_36 1 rfl rfl ?_
    refine s_aload_n C dJ11_next_37 0 rfl rfl ?_
    refine s_alen [205, 705] 5 C (flc rfl (fl1 rfl)) (pl_of e4 rfl) dJ11_next_38 fun a7 => ?_
    refine s_icmp_lt C 50 dJ11_next_39 (by decide) ?_ ?_
    · refine s_aload_n C dJ11_next_50 2 rfl rfl ?_
      refine s_iload_n C dJ11_next_51 1 rfl rfl ?_
      refine s_iconst C (1 : Int32) dJ11_next_52 (by decide) ?_
      refine s_iadd C dJ11_next_53 ?_
      refine s_putI [23] 0 C (by decide) (by decide) (fl1 ⟨⟨by decide, fo_J11_25_23, rfl⟩, rfl⟩) (pl_of e4 rfl) (fl1 (Or.inl rfl)) dJ11_next_54 fun h8 => ?_
      refine s_aload_n C dJ11_next_57 0 rfl rfl ?_
      refine s_aload_n C dJ11_next_58 2 rfl rfl ?_
      refine s_iload_n C dJ11_next_59 1 rfl rfl ?_
      refine s_dup_x1 C dJ11_next_60 rfl rfl ?_
      refine s_putI [23] 0 C (by decide) (by decide) (fl1 ⟨⟨by decide, fo_J11_13_23, rfl⟩, rfl⟩) (pl_of e4 rfl) (fl1 (Or.inl rfl)) dJ11_next_61 fun h9 => ?_
      refine s_aald [205, 705] 5 C (by decide) (flc rfl (fl1 rfl)) (pl_of e4 rfl) dJ11_next_64 fun a10 => ?_
      exact s_aret C (Or.inl ⟨_, rfl⟩) rfl dJ11_next_65
    · exact sim_none
  · exact sim_none

def g_HashMap_init (x0 : Nat) (h : Hp) : Option (Unit × Hp) :=
  if x0 = 0 then none else
  bn (g_AbstractMap_init x0 h) fun _ h1 =>
  (putI [22, 33] 0 7 x0 ((1061158912 : UInt32).toInt32) h1).bind fun h3 =>
  some ((), h3)
theorem ct_g_HashMap_init {G : Gx} {RL : Lv} {l : Launch} (hL : LvA G RL plR) (x0 : Nat) (h : Hp) : Ct id G RL l yJ4_init (ws_ yJ4_init cJ4_init 1 none) 2 40 finV [vr x0] h (g_HashMap_init x0 h) := by
  refine Ct.of (Pl := plR) [(0, vr x0)] (by decide) hL rfl (Nat.le_of_ble_eq_true rfl) ?_
  intro E C e6 hf hlo e1 e2 e3 e4 e5
  subst e1; subst e2; subst e3
  replace C : Cx E cJ4_init none RJ4 := C
  replace e6 : (eMe E).name = "<init>" := e6
  unfold g_HashMap_init
  refine s_aload_n C dJ4_init_0 0 rfl rfl ?_
  refine s_nz fun z2 => ?_
  refine c_I C 0 [] z2 (ct_g_AbstractMap_init hL x0 h) (lw_meth q222) q112 q220 q221 rfl nd_J3_init.2 rfl (le_fr hf rfl) (le_fr hlo rfl) rfl (Nat.le_of_ble_eq_true rfl) dJ4_init_1 fun _ h1 => ?_
  refine s_aload_n C dJ4_init_4 0 rfl rfl ?_
  refine s_ldcf C q224 dJ4_init_5 ?_
  refine s_putF [22, 33] C (flc ⟨⟨by decide, fo_J4_81_22, rfl⟩, rfl⟩ (fl1 ⟨⟨by decide, fo_J4_81_33, rfl⟩, rfl⟩)) (pl_of e4 rfl) (flc (Or.inr ⟨e6, fx_J4_81_22⟩) (fl1 (Or.inr ⟨e6, fx_J4_81_33⟩))) dJ4_init_7 fun h3 => ?_
  exact s_vret C rfl dJ4_init_10
