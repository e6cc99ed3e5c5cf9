/-! THE CLASSES' METHODS (printed by hgenapp.py): functions on a heap where the library's things are single cells; contracts -/
set_option maxRecDepth 100000
def g_Chain_init (x0 : Nat) (h : Hp) : Option (Unit × Hp) :=
  if x0 = 0 then none else
  (putI [2] 0 1 x0 (1 : Int32) h).bind fun h2 =>
  bn (newO 25 3 h2) fun o3 h4 =>
  bn (oAlInit o3 h4) fun _ h5 =>
  (putR [2] 2 x0 o3 h5).bind fun h6 =>
  bn (newO 25 3 h6) fun o7 h8 =>
  bn (oAlInit o7 h8) fun _ h9 =>
  (putR [2] 3 x0 o7 h9).bind fun h10 =>
  bn (newO 25 3 h10) fun o11 h12 =>
  bn (oAlInit o11 h12) fun _ h13 =>
  (putR [2] 4 x0 o11 h13).bind fun h14 =>
  bn (newO 33 8 h14) fun o15 h16 =>
  bn (oMpInit 1033 115 o15 h16) fun _ h17 =>
  (putR [2] 5 x0 o15 h17).bind fun h18 =>
  some ((), h18)
theorem ct_g_Chain_init {G : Gx} {RL : Lv} {l : Launch} (hL : LvA G RL plA) (hJ : JK G RL l) (x0 : Nat) (h : Hp) : Ct id G RL l yX2_init (ws_ yX2_init cX2_init 1 none) 41 4020 finV [vr x0] h (g_Chain_init x0 h) := by
  refine Ct.of (Pl := plA) [(0, vr x0)] (by decide) hL rfl (Nat.le_of_ble_eq_true rfl) ?_
  intro E C e6 hf hlo e1 e2 e3 e4 e5
  subst e1; subst e2; subst e3
  replace C : Cx E cX2_init none RX2 := C
  replace e6 : (eMe E).name = "<init>" := e6
  unfold g_Chain_init
  refine s_aload_n C dX2_init_0 0 rfl rfl ?_
  refine s_nz fun z1 => ?_
  refine s_objI C z1 q184 q177 q178 (le_fr hf rfl) (le_fr hlo rfl) (Nat.le_of_ble_eq_true rfl) dX2_init_1 ?_
  refine s_aload_n C dX2_init_4 0 rfl rfl ?_
  refine s_iconst C (1 : Int32) dX2_init_5 (by decide) ?_
  refine s_putI [2] 0 C (by decide) (by decide) (fl1 ⟨⟨by decide, fo_X2_9_2, rfl⟩, rfl⟩) (pl_of e4 rfl) (fl1 (Or.inl rfl)) dX2_init_6 fun h2 => ?_
  refine s_aload_n C dX2_init_9 0 rfl rfl ?_
  refine s_newO 25 3 C no_X2_15 (pl_of1 e4 rfl) dX2_init_10 fun o3 h4 zo3 => ?_
  refine s_dup C dX2_init_13 rfl ?_
  refine c_I C 0 [vr o3, vr x0] zo3 (jk_11 hJ o3 h4) (lw_meth q189) q111 q187 q188 rfl nd_J2_init.2 rfl (le_fr hf rfl) (le_fr hlo rfl) rfl (Nat.le_of_ble_eq_true rfl) dX2_init_14 fun _ h5 => ?_
  refine s_putR [2] C (fl1 ⟨by decide, fo_X2_18_2, rfl⟩) (pl_of e4 rfl) (fl1 (Or.inr ⟨e6, fx_X2_18_2⟩)) dX2_init_17 fun h6 => ?_
  refine s_aload_n C dX2_init_20 0 rfl rfl ?_
  refine s_newO 25 3 C no_X2_15 (pl_of1 e4 rfl) dX2_init_21 fun o7 h8 zo7 => ?_
  refine s_dup C dX2_init_24 rfl ?_
  refine c_I C 0 [vr o7, vr x0] zo7 (jk_11 hJ o7 h8) (lw_meth q189) q111 q187 q188 rfl nd_J2_init.2 rfl (le_fr hf rfl) (le_fr hlo rfl) rfl (Nat.le_of_ble_eq_true rfl) dX2_init_25 fun _ h9 => ?_
  refine s_putR [2] C (fl1 ⟨by decide, fo_X2_22_2, rfl⟩) (pl_of e4 rfl) (fl1 (Or.inr ⟨e6, fx_X2_22_2⟩)) dX2_init_28 fun h10 => ?_
  refine s_aload_n C dX2_init_31 0 rfl rfl ?_
  refine s_newO 25 3 C no_X2_15 (pl_of1 e4 rfl) dX2_init_32 fun o11 h12 zo11 => ?_
  refine s_dup C dX2_init_35 rfl ?_
  refine c_I C 0 [vr o11, vr x0] zo11 (jk_11 hJ o11 h12) (lw_meth q189) q111 q187 q188 rfl nd_J2_init.2 rfl (le_fr hf rfl) (le_fr hlo rfl) rfl (Nat.le_of_ble_eq_true rfl) dX2_init_36 fun _ h13 => ?_
  refine s_putR [2] C (fl1 ⟨by decide, fo_X2_25_2, rfl⟩) (pl_of e4 rfl) (fl1 (Or.inr ⟨e6, fx_X2_25_2⟩)) dX2_init_39 fun h14 => ?_
  refine s_aload_n C dX2_init_42 0 rfl rfl ?_
  refine s_newO 33 8 C no_X2_28 (pl_of1 e4 rfl) dX2_init_43 fun o15 h16 zo15 => ?_
  refine s_dup C dX2_init_46 rfl ?_
  refine c_I C 0 [vr o15, vr x0] zo15 (jk_21 hJ o15 h16) (lw_meth q219) q113 q217 q218 rfl nd_J4_init.2 rfl (le_fr hf rfl) (le_fr hlo rfl) rfl (Nat.le_of_ble_eq_true rfl) dX2_init_47 fun _ h17 => ?_
  refine s_putR [2] C (fl1 ⟨by decide, fo_X2_31_2, rfl⟩) (pl_of e4 rfl) (fl1 (Or.inr ⟨e6, fx_X2_31_2⟩)) dX2_init_50 fun h18 => ?_
  exact s_vret C rfl dX2_init_53

def g_Judged_init (x0 : Nat) (h : Hp) : Option (Unit × Hp) :=
  if x0 = 0 then none else
  bn (newA 200 (20 : Int32) h) fun o2 h3 =>
  (putR [4] 8 x0 o2 h3).bind fun h4 =>
  bn (newA 200 (20 : Int32) h4) fun o5 h6 =>
  (putR [4] 9 x0 o5 h6).bind fun h7 =>
  bn (newA 200 (2304 : Int32) h7) fun o8 h9 =>
  (putR [4] 10 x0 o8 h9).bind fun h10 =>
  bn (newA 200 (2304 : Int32) h10) fun o11 h12 =>
  (putR [4] 11 x0 o11 h12).bind fun h13 =>
  some ((), h13)
theorem ct_g_Judged_init {G : Gx} {RL : Lv} {l : Launch} (hL : LvA G RL plA) (hJ : JK G RL l) (x0 : Nat) (h : Hp) : Ct id G RL l yX4_init (ws_ yX4_init cX4_init 1 none) 1 20 finV [vr x0] h (g_Judged_init x0 h) := by
  refine Ct.of (Pl := plA) [(0, vr x0)] (by decide) hL rfl (Nat.le_of_ble_eq_true rfl) ?_
  intro E C e6 hf hlo e1 e2 e3 e4 e5
  subst e1; subst e2; subst e3
  replace C : Cx E cX4_init none RX4 := C
  replace e6 : (eMe E).name = "<init>" := e6
  unfold g_Judged_init
  refine s_aload_n C dX4_init_0 0 rfl rfl ?_
  refine s_nz fun z1 => ?_
  refine s_objI C z1 q660 q177 q178 (le_fr hf rfl) (le_fr hlo rfl) (Nat.le_of_ble_eq_true rfl) dX4_init_1 ?_
  refine s_aload_n C dX4_init_4 0 rfl rfl ?_
  refine s_bipush C (20 : Int32) dX4_init_5 (by decide) ?_
  refine s_newa 0 .int C q721 rfl (by decide) (pl_of1 e4 rfl) dX4_init_7 fun o2 h3 zo2 => ?_
  refine s_putR [4] C (fl1 ⟨by decide, fo_X4_9_4, rfl⟩) (pl_of e4 rfl) (fl1 (Or.inr ⟨e6, fx_X4_9_4⟩)) dX4_init_9 fun h4 => ?_
  refine s_aload_n C dX4_init_12 0 rfl rfl ?_
  refine s_bipush C (20 : Int32) dX4_init_13 (by decide) ?_
  refine s_newa 0 .int C q721 rfl (by decide) (pl_of1 e4 rfl) dX4_init_15 fun o5 h6 zo5 => ?_
  refine s_putR [4] C (fl1 ⟨by decide, fo_X4_15_4, rfl⟩) (pl_of e4 rfl) (fl1 (Or.inr ⟨e6, fx_X4_15_4⟩)) dX4_init_17 fun h7 => ?_
  refine s_aload_n C dX4_init_20 0 rfl rfl ?_
  refine s_sipush C (2304 : Int32) dX4_init_21 (by decide) ?_
  refine s_newa 0 .int C q721 rfl (by decide) (pl_of1 e4 rfl) dX4_init_24 fun o8 h9 zo8 => ?_
  refine s_putR [4] C (fl1 ⟨by decide, fo_X4_18_4, rfl⟩) (pl_of e4 rfl) (fl1 (Or.inr ⟨e6, fx_X4_18_4⟩)) dX4_init_26 fun h10 => ?_
  refine s_aload_n C dX4_init_29 0 rfl rfl ?_
  refine s_sipush C (2304 : Int32) dX4_init_30 (by decide) ?_
  refine s_newa 0 .int C q721 rfl (by decide) (pl_of1 e4 rfl) dX4_init_33 fun o11 h12 zo11 => ?_
  refine s_putR [4] C (fl1 ⟨by decide, fo_X4_21_4, rfl⟩) (pl_of e4 rfl) (fl1 (Or.inr ⟨e6, fx_X4_21_4⟩)) dX4_init_35 fun h13 => ?_
  exact s_vret C rfl dX4_init_38

def g_FinalLinks_isOf_j14 (y0 : Int32) (h1 : Hp) : Option (Int32 × Hp) :=
  if nrw 2 y0 = y0 then some (y0, h1) else none
def g_FinalLinks_isOf (x0 : Int32) (x1 : Int32) (h : Hp) : Option (Int32 × Hp) :=
  if ((x0 >>> (x1 &&& 31)) &&& (1 : Int32)) = (1 : Int32) then
    g_FinalLinks_isOf_j14 (1 : Int32) h
  else
    g_FinalLinks_isOf_j14 (0 : Int32) h
theorem ct_g_FinalLinks_isOf {G : Gx} {RL : Lv} {l : Launch} (hL : LvA G RL plA) (hJ : JK G RL l) (x0 : Int32) (x1 : Int32) (h : Hp) : Ct id G RL l yX1_isOf (ws_ yX1_isOf cX1_isOf 2 (some .boolean)) 0 0 finI [.int x0, .int x1] h (g_FinalLinks_isOf x0 x1 h) := by
  refine Ct.of (Pl := plA) [(0, .int x0), (1, .int x1)] (by decide) hL rfl (Nat.le_of_ble_eq_true rfl) ?_
  intro E C e6 hf hlo e1 e2 e3 e4 e5
  subst e1; subst e2; subst e3
  replace C : Cx E cX1_isOf (some .boolean) RX1 := C
  replace e6 : (eMe E).name = "isOf" := e6
  unfold g_FinalLinks_isOf
  refine s_iload_n C dX1_isOf_0 0 rfl rfl ?_
  refine s_iload_n C dX1_isOf_1 1 rfl rfl ?_
  refine s_ishr C (x1 &&& 31) dX1_isOf_2 rfl ?_
  refine s_iconst C (1 : Int32) dX1_isOf_3 (by decide) ?_
  refine s_iand C dX1_isOf_4 ?_
  refine s_iconst C (1 : Int32) dX1_isOf_5 (by decide) ?_
  have hj14 : ∀ (y0 : Int32) (h1 : Hp), Sim id E (QM id E finI) h1 14 [] [.int y0] (g_FinalLinks_isOf_j14 y0 h1) := by
    intro y0 h1
    exact s_zret 2 C (by decide) (by decide) rfl dX1_isOf_14
  refine s_icmp_ne C 13 dX1_isOf_6 (by decide) ?_ ?_
  · refine s_iconst C (0 : Int32) dX1_isOf_13 (by decide) ?_
    refine Sim.keep [] rfl ?_
    exact hj14 _ _
  · refine s_iconst C (1 : Int32) dX1_isOf_9 (by decide) ?_
    refine s_goto C 14 dX1_isOf_10 (by decide) ?_
    refine Sim.keep [] rfl ?_
    exact hj14 _ _

def g_Judged_isJust (x0 : Nat) (x1 : Int32) (h : Hp) : Option (Int32 × Hp) :=
  (getI [4] 1 x0 h).bind fun a1 =>
  bn (g_FinalLinks_isOf a1 x1 h) fun r2 h3 =>
  if nrw 2 r2 = r2 then some (r2, h3) else none
theorem ct_g_Judged_isJust {G : Gx} {RL : Lv} {l : Launch} (hL : LvA G RL plA) (hJ : JK G RL l) (x0 : Nat) (x1 : Int32) (h : Hp) : Ct id G RL l yX4_isJust (ws_ yX4_isJust cX4_isJust 2 (some .boolean)) 1 21 finI [vr x0, .int x1] h (g_Judged_isJust x0 x1 h) := by
  refine Ct.of (Pl := plA) [(0, vr x0), (1, .int x1)] (by decide) hL rfl (Nat.le_of_ble_eq_true rfl) ?_
  intro E C e6 hf hlo e1 e2 e3 e4 e5
  subst e1; subst e2; subst e3
  replace C : Cx E cX4_isJust (some .boolean) RX4 := C
  replace e6 : (eMe E).name = "isJust" := e6
  unfold g_Judged_isJust
  refine s_aload_n C dX4_isJust_0 0 rfl rfl ?_
  refine s_getI [4] C (fl1 ⟨fo_X4_28_4, rfl⟩) (pl_of e4 rfl) dX4_isJust_1 fun a1 => ?_
  refine s_iload_n C dX4_isJust_4 1 rfl rfl ?_
  refine c_SN C 2 [] _ (ct_g_FinalLinks_isOf hL hJ a1 x1 h) (lw_meth q1340) q107 q1351 q1339 nd_X1_isOf.2 rfl (le_fr hf rfl) (le_fr hlo rfl) rfl (Nat.le_of_ble_eq_true rfl) dX4_isJust_5 fun r2 h3 => ?_
  exact s_zret 2 C (by decide) (by decide) rfl dX4_isJust_8

def g_Tree_height (x0 : Nat) (x1 : Int32) (h : Hp) : Option (Int32 × Hp) :=
  (getR [3] 1 x0 h).bind fun a1 =>
  bn (dsp (tg h a1 % 500) none [(25, oAlGet a1 x1 h)]) fun r2 h3 =>
  (cst [9] r2 h3).bind fun _ =>
  (getI [9] 1 r2 h3).bind fun a4 =>
  some (a4, h3)
theorem ct_g_Tree_height {G : Gx} {RL : Lv} {l : Launch} (hL : LvA G RL plA) (hJ : JK G RL l) (x0 : Nat) (x1 : Int32) (h : Hp) : Ct id G RL l yX3_height (ws_ yX3_height cX3_height 2 (some .int)) 41 4021 finI [vr x0, .int x1] h (g_Tree_height x0 x1 h) := by
  refine Ct.of (Pl := plA) [(0, vr x0), (1, .int x1)] (by decide) hL rfl (Nat.le_of_ble_eq_true rfl) ?_
  intro E C e6 hf hlo e1 e2 e3 e4 e5
  subst e1; subst e2; subst e3
  replace C : Cx E cX3_height (some .int) RX3 := C
  replace e6 : (eMe E).name = "height" := e6
  unfold g_Tree_height
  refine s_aload_n C dX3_height_0 0 rfl rfl ?_
  refine s_getR [3] C (fl1 ⟨fo_X3_12_3, rfl⟩) (pl_of e4 rfl) dX3_height_1 fun a1 => ?_
  refine s_iload_n C dX3_height_4 1 rfl rfl ?_
  refine s_dk 8 finR [] (fun r2 h3 => ?_) (fun hk => s_dsp 25 (fun ht => c_V C 1 [] 25 RJ2 ro_25 (jk_14 hJ a1 x1 h) (lw_V q761 q735 q736 q111 q737) nd_J2_get rfl (le_fr hf rfl) (le_fr hlo rfl) rfl (Nat.le_of_ble_eq_true rfl) dX3_height_5 hk ht) s_dsp0)
  refine s_cast [9] "FinalLinks$Block" C q568 (fl1 ao_FinalLinks_Block_9) dX3_height_8 ?_
  refine s_getI [9] C (fl1 ⟨fo_X3_116_9, rfl⟩) (pl_of e4 rfl) dX3_height_11 fun a4 => ?_
  exact s_iret C rfl dX3_height_14

def g_Tree_on (x0 : Nat) (x1 : Int32) (h : Hp) : Option (Int32 × Hp) :=
  (getR [3] 1 x0 h).bind fun a1 =>
  bn (dsp (tg h a1 % 500) none [(25, oAlGet a1 x1 h)]) fun r2 h3 =>
  (cst [9] r2 h3).bind fun _ =>
  (getI [9] 0 r2 h3).bind fun a4 =>
  some (a4, h3)
theorem ct_g_Tree_on {G : Gx} {RL : Lv} {l : Launch} (hL : LvA G RL plA) (hJ : JK G RL l) (x0 : Nat) (x1 : Int32) (h : Hp) : Ct id G RL l yX3_on (ws_ yX3_on cX3_on 2 (some .int)) 41 4021 finI [vr x0, .int x1] h (g_Tree_on x0 x1 h) := by
  refine Ct.of (Pl := plA) [(0, vr x0), (1, .int x1)] (by decide) hL rfl (Nat.le_of_ble_eq_true rfl) ?_
  intro E C e6 hf hlo e1 e2 e3 e4 e5
  subst e1; subst e2; subst e3
  replace C : Cx E cX3_on (some .int) RX3 := C
  replace e6 : (eMe E).name = "on" := e6
  unfold g_Tree_on
  refine s_aload_n C dX3_on_0 0 rfl rfl ?_
  refine s_getR [3] C (fl1 ⟨fo_X3_12_3, rfl⟩) (pl_of e4 rfl) dX3_on_1 fun a1 => ?_
  refine s_iload_n C dX3_on_4 1 rfl rfl ?_
  refine s_dk 8 finR [] (fun r2 h3 => ?_) (fun hk => s_dsp 25 (fun ht => c_V C 1 [] 25 RJ2 ro_25 (jk_14 hJ a1 x1 h) (lw_V q761 q735 q736 q111 q737) nd_J2_get rfl (le_fr hf rfl) (le_fr hlo rfl) rfl (Nat.le_of_ble_eq_true rfl) dX3_on_5 hk ht) s_dsp0)
  refine s_cast [9] "FinalLinks$Block" C q568 (fl1 ao_FinalLinks_Block_9) dX3_on_8 ?_
  refine s_getI [9] C (fl1 ⟨fo_X3_120_9, rfl⟩) (pl_of e4 rfl) dX3_on_11 fun a4 => ?_
  exact s_iret C rfl dX3_on_14

def g_Tree_at_L2 (x0 : Nat) (x2 : Int32) : Int32 → Hp → Option (Int32 × Hp) :=
  lp FU fun rec2 v2 h1 =>
    bn (dsp (tg h1 x0 % 500) none [(3, g_Tree_height x0 v2 h1)]) fun r2 h3 =>
    if r2 ≤ x2 then
      some (v2, h3)
    else
      bn (dsp (tg h3 x0 % 500) none [(3, g_Tree_on x0 v2 h3)]) fun r4 h5 =>
      rec2 r4 h5
def g_Tree_at (x0 : Nat) (x1 : Int32) (x2 : Int32) (h : Hp) : Option (Int32 × Hp) :=
  g_Tree_at_L2 x0 x2 x1 h
theorem ct_g_Tree_at {G : Gx} {RL : Lv} {l : Launch} (hL : LvA G RL plA) (hJ : JK G RL l) (x0 : Nat) (x1 : Int32) (x2 : Int32) (h : Hp) : Ct id G RL l yX3_at (ws_ yX3_at cX3_at 4 (some .int)) 42 4042 finI [vr x0, .int x1, .int x2] h (g_Tree_at x0 x1 x2 h) := by
  refine Ct.of (Pl := plA) [(0, vr x0), (1, .int x1), (2, .int x2)] (by decide) hL rfl (Nat.le_of_ble_eq_true rfl) ?_
  intro E C e6 hf hlo e1 e2 e3 e4 e5
  subst e1; subst e2; subst e3
  replace C : Cx E cX3_at (some .int) RX3 := C
  replace e6 : (eMe E).name = "at" := e6
  unfold g_Tree_at
  refine s_iload_n C dX3_at_0 1 rfl rfl ?_
  have hL2 : ∀ (x0 : Nat) (x2 : Int32) (v2 : Int32) (h1 : Hp), Sim id E (QM id E finI) h1 2 [(0, vr x0), (2, .int x2), (3, .int v2)] [] (g_Tree_at_L2 x0 x2 v2 h1) := by
    intro x0 x2 v2 h1
    refine Sim.loop (fun v2 => [(0, vr x0), (2, .int x2), (3, .int v2)]) (fun _ => []) (fun rec2 hr2 v2 h1 => ?_) FU v2 h1
    refine s_aload_n C dX3_at_2 0 rfl rfl ?_
    refine s_iload_n C dX3_at_3 2 rfl rfl ?_
    refine s_dk 7 finI [] (fun r2 h3 => ?_) (fun hk => s_dsp 3 (fun ht => c_V C 1 [] 3 RX3 ro_3 (ct_g_Tree_height hL hJ x0 v2 h1) (lw_V q757 q758 q759 q114 q760) nd_X3_height rfl (le_fr hf rfl) (le_fr hlo rfl) rfl (Nat.le_of_ble_eq_true rfl) dX3_at_4 hk ht) s_dsp0)
    refine s_iload_n C dX3_at_7 1 rfl rfl ?_
    refine s_icmp_le C 20 dX3_at_8 (by decide) ?_ ?_
    · refine s_iload_n C dX3_at_20 2 rfl rfl ?_
      exact s_iret C rfl dX3_at_21
    · refine s_aload_n C dX3_at_11 0 rfl rfl ?_
      refine s_iload_n C dX3_at_12 2 rfl rfl ?_
      refine s_dk 16 finI [] (fun r4 h5 => ?_) (fun hk => s_dsp 3 (fun ht => c_V C 1 [] 3 RX3 ro_3 (ct_g_Tree_on hL hJ x0 v2 h3) (lw_V q1317 q1318 q1319 q114 q1320) nd_X3_on rfl (le_fr hf rfl) (le_fr hlo rfl) rfl (Nat.le_of_ble_eq_true rfl) dX3_at_13 hk ht) s_dsp0)
      refine s_istore_n (la' := [(3, .int r4), (0, vr x0), (2, .int x2)]) C 3 dX3_at_16 rfl (lt_nl e5 rfl) rfl ?_
      refine s_goto C 2 dX3_at_17 (by decide) ?_
      refine Sim.keep [1, 2, 0] rfl ?_
      exact hr2 _ _
  refine s_istore_n (la' := [(3, .int x1), (0, vr x0), (1, .int x1), (2, .int x2)]) C 3 dX3_at_1 rfl (lt_nl e5 rfl) rfl ?_
  refine Sim.keep [1, 3, 0] rfl ?_
  exact hL2 _ _ _ _

def g_Tree_level (x0 : Nat) (x1 : Int32) (h : Hp) : Option (Int32 × Hp) :=
  bn (dsp (tg h x0 % 500) none [(3, g_Tree_height x0 x1 h)]) fun r1 h2 =>
  (getR [3] 0 x0 h2).bind fun a3 =>
  (getI [2] 1 a3 h2).bind fun a4 =>
  if a4 = 0 then none else
  some ((r1 / a4), h2)
theorem ct_g_Tree_level {G : Gx} {RL : Lv} {l : Launch} (hL : LvA G RL plA) (hJ : JK G RL l) (x0 : Nat) (x1 : Int32) (h : Hp) : Ct id G RL l yX3_level (ws_ yX3_level cX3_level 2 (some .int)) 42 4042 finI [vr x0, .int x1] h (g_Tree_level x0 x1 h) := by
  refine Ct.of (Pl := plA) [(0, vr x0), (1, .int x1)] (by decide) hL rfl (Nat.le_of_ble_eq_true rfl) ?_
  intro E C e6 hf hlo e1 e2 e3 e4 e5
  subst e1; subst e2; subst e3
  replace C : Cx E cX3_level (some .int) RX3 := C
  replace e6 : (eMe E).name = "level" := e6
  unfold g_Tree_level
  refine s_aload_n C dX3_level_0 0 rfl rfl ?_
  refine s_iload_n C dX3_level_1 1 rfl rfl ?_
  refine s_dk 5 finI [] (fun r1 h2 => ?_) (fun hk => s_dsp 3 (fun ht => c_V C 1 [] 3 RX3 ro_3 (ct_g_Tree_height hL hJ x0 x1 h) (lw_V q757 q758 q759 q114 q760) nd_X3_height rfl (le_fr hf rfl) (le_fr hlo rfl) rfl (Nat.le_of_ble_eq_true rfl) dX3_level_2 hk ht) s_dsp0)
  refine s_aload_n C dX3_level_5 0 rfl rfl ?_
  refine s_getR [3] C (fl1 ⟨fo_X3_44_3, rfl⟩) (pl_of e4 rfl) dX3_level_6 fun a3 => ?_
  refine s_getI [2] C (fl1 ⟨fo_X3_126_2, rfl⟩) (pl_of e4 rfl) dX3_level_9 fun a4 => ?_
  refine s_idiv C dX3_level_12 ?_
  exact s_iret C rfl dX3_level_13

def g_Tree_back_j33 (y0 : Int32) (h3 : Hp) : Option (Int32 × Hp) :=
  some (y0, h3)
def g_Tree_back (x0 : Nat) (x1 : Int32) (x2 : Int32) (h : Hp) : Option (Int32 × Hp) :=
  bn (dsp (tg h x0 % 500) none [(3, g_Tree_level x0 x1 h)]) fun r1 h2 =>
  if x2 ≤ r1 then
    (getR [3] 0 x0 h2).bind fun a4 =>
    (getI [2] 1 a4 h2).bind fun a5 =>
    bn (dsp (tg h2 x0 % 500) none [(3, g_Tree_level x0 x1 h2)]) fun r6 h7 =>
    bn (dsp (tg h7 x0 % 500) none [(3, g_Tree_at x0 x1 (a5 * (r6 - x2)) h7)]) fun r8 h9 =>
    g_Tree_back_j33 r8 h9
  else
    g_Tree_back_j33 (-1 : Int32) h2
theorem ct_g_Tree_back {G : Gx} {RL : Lv} {l : Launch} (hL : LvA G RL plA) (hJ : JK G RL l) (x0 : Nat) (x1 : Int32) (x2 : Int32) (h : Hp) : Ct id G RL l yX3_back (ws_ yX3_back cX3_back 3 (some .int)) 43 4065 finI [vr x0, .int x1, .int x2] h (g_Tree_back x0 x1 x2 h) := by
  refine Ct.of (Pl := plA) [(0, vr x0), (1, .int x1), (2, .int x2)] (by decide) hL rfl (Nat.le_of_ble_eq_true rfl) ?_
  intro E C e6 hf hlo e1 e2 e3 e4 e5
  subst e1; subst e2; subst e3
  replace C : Cx E cX3_back (some .int) RX3 := C
  replace e6 : (eMe E).name = "back" := e6
  unfold g_Tree_back
  refine s_aload_n C dX3_back_0 0 rfl rfl ?_
  refine s_iload_n C dX3_back_1 1 rfl rfl ?_
  refine s_dk 5 finI [] (fun r1 h2 => ?_) (fun hk => s_dsp 3 (fun ht => c_V C 1 [] 3 RX3 ro_3 (ct_g_Tree_level hL hJ x0 x1 h) (lw_V q753 q754 q755 q114 q756) nd_X3_level rfl (le_fr hf rfl) (le_fr hlo rfl) rfl (Nat.le_of_ble_eq_true rfl) dX3_back_2 hk ht) s_dsp0)
  refine s_iload_n C dX3_back_5 2 rfl rfl ?_
  have hj33 : ∀ (y0 : Int32) (h3 : Hp), Sim id E (QM id E finI) h3 33 [] [.int y0] (g_Tree_back_j33 y0 h3) := by
    intro y0 h3
    exact s_iret C rfl dX3_back_33
  refine s_icmp_ge C 13 dX3_back_6 (by decide) ?_ ?_
  · refine s_aload_n C dX3_back_13 0 rfl rfl ?_
    refine s_iload_n C dX3_back_14 1 rfl rfl ?_
    refine s_aload_n C dX3_back_15 0 rfl rfl ?_
    refine s_getR [3] C (fl1 ⟨fo_X3_44_3, rfl⟩) (pl_of e4 rfl) dX3_back_16 fun a4 => ?_
    refine s_getI [2] C (fl1 ⟨fo_X3_126_2, rfl⟩) (pl_of e4 rfl) dX3_back_19 fun a5 => ?_
    refine s_aload_n C dX3_back_22 0 rfl rfl ?_
    refine s_iload_n C dX3_back_23 1 rfl rfl ?_
    refine s_dk 27 finI [.int a5, .int x1, vr x0] (fun r6 h7 => ?_) (fun hk => s_dsp 3 (fun ht => c_V C 1 [.int a5, .int x1, vr x0] 3 RX3 ro_3 (ct_g_Tree_level hL hJ x0 x1 h2) (lw_V q753 q754 q755 q114 q756) nd_X3_level rfl (le_fr hf rfl) (le_fr hlo rfl) rfl (Nat.le_of_ble_eq_true rfl) dX3_back_24 hk ht) s_dsp0)
    refine s_iload_n C dX3_back_27 2 rfl rfl ?_
    refine s_isub C dX3_back_28 ?_
    refine s_imul C dX3_back_29 ?_
    refine s_dk 33 finI [] (fun r8 h9 => ?_) (fun hk => s_dsp 3 (fun ht => c_V C 2 [] 3 RX3 ro_3 (ct_g_Tree_at hL hJ x0 x1 (a5 * (r6 - x2)) h7) (lw_V q1313 q1314 q1315 q114 q1316) nd_X3_at rfl (le_fr hf rfl) (le_fr hlo rfl) rfl (Nat.le_of_ble_eq_true rfl) dX3_back_30 hk ht) s_dsp0)
    refine Sim.keep [] rfl ?_
    exact hj33 _ _
  · refine s_iconst C (-1 : Int32) dX3_back_9 (by decide) ?_
    refine s_goto C 33 dX3_back_10 (by decide) ?_
    refine Sim.keep [] rfl ?_
    exact hj33 _ _

def g_Chain_voters (x0 : Nat) (h : Hp) : Option (Int32 × Hp) :=
  (getR [2] 2 x0 h).bind fun a1 =>
  bn (dsp (tg h a1 % 500) none [(25, oAlSize a1 h)]) fun r2 h3 =>
  some (r2, h3)
theorem ct_g_Chain_voters {G : Gx} {RL : Lv} {l : Launch} (hL : LvA G RL plA) (hJ : JK G RL l) (x0 : Nat) (h : Hp) : Ct id G RL l yX2_voters (ws_ yX2_voters cX2_voters 1 (some .int)) 41 4020 finI [vr x0] h (g_Chain_voters x0 h) := by
  refine Ct.of (Pl := plA) [(0, vr x0)] (by decide) hL rfl (Nat.le_of_ble_eq_true rfl) ?_
  intro E C e6 hf hlo e1 e2 e3 e4 e5
  subst e1; subst e2; subst e3
  replace C : Cx E cX2_voters (some .int) RX2 := C
  replace e6 : (eMe E).name = "voters" := e6
  unfold g_Chain_voters
  refine s_aload_n C dX2_voters_0 0 rfl rfl ?_
  refine s_getR [2] C (fl1 ⟨fo_X2_18_2, rfl⟩) (pl_of e4 rfl) dX2_voters_1 fun a1 => ?_
  refine s_dk 7 finI [] (fun r2 h3 => ?_) (fun hk => s_dsp 25 (fun ht => c_V C 0 [] 25 RJ2 ro_25 (jk_15 hJ a1 h) (lw_V q1333 q731 q732 q111 q733) nd_J2_size rfl (le_fr hf rfl) (le_fr hlo rfl) rfl (Nat.le_of_ble_eq_true rfl) dX2_voters_4 hk ht) s_dsp0)
  exact s_iret C rfl dX2_voters_7

def g_Tree_all (x0 : Nat) (h : Hp) : Option (Int32 × Hp) :=
  (getR [3] 0 x0 h).bind fun a1 =>
  bn (dsp (tg h a1 % 500) none [(2, g_Chain_voters a1 h)]) fun r2 h3 =>
  some ((((1 : Int32) <<< (r2 &&& 31)) - (1 : Int32)), h3)
theorem ct_g_Tree_all {G : Gx} {RL : Lv} {l : Launch} (hL : LvA G RL plA) (hJ : JK G RL l) (x0 : Nat) (h : Hp) : Ct id G RL l yX3_all (ws_ yX3_all cX3_all 1 (some .int)) 42 4040 finI [vr x0] h (g_Tree_all x0 h) := by
  refine Ct.of (Pl := plA) [(0, vr x0)] (by decide) hL rfl (Nat.le_of_ble_eq_true rfl) ?_
  intro E C e6 hf hlo e1 e2 e3 e4 e5
  subst e1; subst e2; subst e3
  replace C : Cx E cX3_all (some .int) RX3 := C
  replace e6 : (eMe E).name = "all" := e6
  unfold g_Tree_all
  refine s_iconst C (1 : Int32) dX3_all_0 (by decide) ?_
  refine s_aload_n C dX3_all_1 0 rfl rfl ?_
  refine s_getR [3] C (fl1 ⟨fo_X3_44_3, rfl⟩) (pl_of e4 rfl) dX3_all_2 fun a1 => ?_
  refine s_dk 8 finI [.int (1 : Int32)] (fun r2 h3 => ?_) (fun hk => s_dsp 2 (fun ht => c_V C 0 [.int (1 : Int32)] 2 RX2 ro_2 (ct_g_Chain_voters hL hJ a1 h) (lw_V q1329 q1330 q1331 q108 q1332) nd_X2_voters rfl (le_fr hf rfl) (le_fr hlo rfl) rfl (Nat.le_of_ble_eq_true rfl) dX3_all_5 hk ht) s_dsp0)
  refine s_ishl C (r2 &&& 31) dX3_all_8 rfl ?_
  refine s_iconst C (1 : Int32) dX3_all_9 (by decide) ?_
  refine s_isub C dX3_all_10 ?_
  exact s_iret C rfl dX3_all_11

def g_Tree_weight_L2 (x0 : Nat) (x2 : Int32) : Int32 → Hp → Option (Int32 × Hp) :=
  lp FU fun rec2 v2 h1 =>
    if v2 = (-1 : Int32) then
      (getR [3] 0 x0 h1).bind fun a2 =>
      (getR [2] 2 a2 h1).bind fun a3 =>
      bn (dsp (tg h1 a3 % 500) none [(25, oAlGet a3 x2 h1)]) fun r4 h5 =>
      (cst [35] r4 h5).bind fun _ =>
      bn (dsp (tg h5 r4 % 500) none [(35, oIntValue r4 h5)]) fun r6 h7 =>
      some (r6, h7)
    else
      (getR [3] 1 x0 h1).bind fun a8 =>
      bn (dsp (tg h1 a8 % 500) none [(25, oAlGet a8 v2 h1)]) fun r9 h10 =>
      (cst [9] r9 h10).bind fun _ =>
      (getI [9] 2 r9 h10).bind fun a11 =>
      if a11 = x2 then
        (getR [3] 1 x0 h10).bind fun a14 =>
        bn (dsp (tg h10 a14 % 500) none [(25, oAlGet a14 v2 h10)]) fun r15 h16 =>
        (cst [9] r15 h16).bind fun _ =>
        (getI [9] 3 r15 h16).bind fun a17 =>
        some (a17, h16)
      else
        bn (dsp (tg h10 x0 % 500) none [(3, g_Tree_on x0 v2 h10)]) fun r12 h13 =>
        rec2 r12 h13
def g_Tree_weight (x0 : Nat) (x1 : Int32) (x2 : Int32) (h : Hp) : Option (Int32 × Hp) :=
  g_Tree_weight_L2 x0 x2 x1 h
theorem ct_g_Tree_weight {G : Gx} {RL : Lv} {l : Launch} (hL : LvA G RL plA) (hJ : JK G RL l) (x0 : Nat) (x1 : Int32) (x2 : Int32) (h : Hp) : Ct id G RL l yX3_weight (ws_ yX3_weight cX3_weight 4 (some .int)) 42 4042 finI [vr x0, .int x1, .int x2] h (g_Tree_weight x0 x1 x2 h) := by
  refine Ct.of (Pl := plA) [(0, vr x0), (1, .int x1), (2, .int x2)] (by decide) hL rfl (Nat.le_of_ble_eq_true rfl) ?_
  intro E C e6 hf hlo e1 e2 e3 e4 e5
  subst e1; subst e2; subst e3
  replace C : Cx E cX3_weight (some .int) RX3 := C
  replace e6 : (eMe E).name = "weight" := e6
  unfold g_Tree_weight
  refine s_iload_n C dX3_weight_0 1 rfl rfl ?_
  have hL2 : ∀ (x0 : Nat) (x2 : Int32) (v2 : Int32) (h1 : Hp), Sim id E (QM id E finI) h1 2 [(0, vr x0), (2, .int x2), (3, .int v2)] [] (g_Tree_weight_L2 x0 x2 v2 h1) := by
    intro x0 x2 v2 h1
    refine Sim.loop (fun v2 => [(0, vr x0), (2, .int x2), (3, .int v2)]) (fun _ => []) (fun rec2 hr2 v2 h1 => ?_) FU v2 h1
    refine s_iload_n C dX3_weight_2 2 rfl rfl ?_
    refine s_iconst C (-1 : Int32) dX3_weight_3 (by decide) ?_
    refine s_icmp_eq C 49 dX3_weight_4 (by decide) ?_ ?_
    · refine s_aload_n C dX3_weight_49 0 rfl rfl ?_
      refine s_getR [3] C (fl1 ⟨fo_X3_44_3, rfl⟩) (pl_of e4 rfl) dX3_weight_50 fun a2 => ?_
      refine s_getR [2] C (fl1 ⟨fo_X3_141_2, rfl⟩) (pl_of e4 rfl) dX3_weight_53 fun a3 => ?_
      refine s_iload_n C dX3_weight_56 1 rfl rfl ?_
      refine s_dk 60 finR [] (fun r4 h5 => ?_) (fun hk => s_dsp 25 (fun ht => c_V C 1 [] 25 RJ2 ro_25 (jk_14 hJ a3 x2 h1) (lw_V q761 q735 q736 q111 q737) nd_J2_get rfl (le_fr hf rfl) (le_fr hlo rfl) rfl (Nat.le_of_ble_eq_true rfl) dX3_weight_57 hk ht) s_dsp0)
      refine s_cast [35] "java/lang/Integer" C q1345 (fl1 ao_java_lang_Integer_35) dX3_weight_60 ?_
      refine s_dk 66 finI [] (fun r6 h7 => ?_) (fun hk => s_dsp 35 (fun ht => c_V C 0 [] 35 RJ9 ro_35 (jk_0 hJ r4 h5) (lw_V q1346 q1053 q1054 q119 q1055) nd_J9_intValue rfl (le_fr hf rfl) (le_fr hlo rfl) rfl (Nat.le_of_ble_eq_true rfl) dX3_weight_63 hk ht) s_dsp0)
      exact s_iret C rfl dX3_weight_66
    · refine s_aload_n C dX3_weight_7 0 rfl rfl ?_
      refine s_getR [3] C (fl1 ⟨fo_X3_12_3, rfl⟩) (pl_of e4 rfl) dX3_weight_8 fun a8 => ?_
      refine s_iload_n C dX3_weight_11 2 rfl rfl ?_
      refine s_dk 15 finR [] (fun r9 h10 => ?_) (fun hk => s_dsp 25 (fun ht => c_V C 1 [] 25 RJ2 ro_25 (jk_14 hJ a8 v2 h1) (lw_V q761 q735 q736 q111 q737) nd_J2_get rfl (le_fr hf rfl) (le_fr hlo rfl) rfl (Nat.le_of_ble_eq_true rfl) dX3_weight_12 hk ht) s_dsp0)
      refine s_cast [9] "FinalLinks$Block" C q568 (fl1 ao_FinalLinks_Block_9) dX3_weight_15 ?_
      refine s_getI [9] C (fl1 ⟨fo_X3_135_9, rfl⟩) (pl_of e4 rfl) dX3_weight_18 fun a11 => ?_
      refine s_iload_n C dX3_weight_21 1 rfl rfl ?_
      refine s_icmp_ne C 40 dX3_weight_22 (by decide) ?_ ?_
      · refine s_aload_n C dX3_weight_40 0 rfl rfl ?_
        refine s_iload_n C dX3_weight_41 2 rfl rfl ?_
        refine s_dk 45 finI [] (fun r12 h13 => ?_) (fun hk => s_dsp 3 (fun ht => c_V C 1 [] 3 RX3 ro_3 (ct_g_Tree_on hL hJ x0 v2 h10) (lw_V q1317 q1318 q1319 q114 q1320) nd_X3_on rfl (le_fr hf rfl) (le_fr hlo rfl) rfl (Nat.le_of_ble_eq_true rfl) dX3_weight_42 hk ht) s_dsp0)
        refine s_istore_n (la' := [(3, .int r12), (0, vr x0), (2, .int x2)]) C 3 dX3_weight_45 rfl (lt_nl e5 rfl) rfl ?_
        refine s_goto C 2 dX3_weight_46 (by decide) ?_
        refine Sim.keep [1, 2, 0] rfl ?_
        exact hr2 _ _
      · refine s_aload_n C dX3_weight_25 0 rfl rfl ?_
        refine s_getR [3] C (fl1 ⟨fo_X3_12_3, rfl⟩) (pl_of e4 rfl) dX3_weight_26 fun a14 => ?_
        refine s_iload_n C dX3_weight_29 2 rfl rfl ?_
        refine s_dk 33 finR [] (fun r15 h16 => ?_) (fun hk => s_dsp 25 (fun ht => c_V C 1 [] 25 RJ2 ro_25 (jk_14 hJ a14 v2 h10) (lw_V q761 q735 q736 q111 q737) nd_J2_get rfl (le_fr hf rfl) (le_fr hlo rfl) rfl (Nat.le_of_ble_eq_true rfl) dX3_weight_30 hk ht) s_dsp0)
        refine s_cast [9] "FinalLinks$Block" C q568 (fl1 ao_FinalLinks_Block_9) dX3_weight_33 ?_
        refine s_getI [9] C (fl1 ⟨fo_X3_138_9, rfl⟩) (pl_of e4 rfl) dX3_weight_36 fun a17 => ?_
        exact s_iret C rfl dX3_weight_39
  refine s_istore_n (la' := [(3, .int x1), (0, vr x0), (1, .int x1), (2, .int x2)]) C 3 dX3_weight_1 rfl (lt_nl e5 rfl) rfl ?_
  refine Sim.keep [1, 3, 0] rfl ?_
  exact hL2 _ _ _ _

def g_Tree_weights_j36 (rec5 : (Int32 × Int32) → Hp → Option (Int32 × Hp)) (x0 : Nat) (x1 : Int32) (x2 : Int32) (x3 : Int32) (x4 : Int32) (h7 : Hp) : Option (Int32 × Hp) :=
  rec5 (x3, (x4 + (1 : Int32))) h7
def g_Tree_weights_L5 (x0 : Nat) (x1 : Int32) (x2 : Int32) : (Int32 × Int32) → Hp → Option (Int32 × Hp) :=
  lp FU fun rec5 v5 h1 =>
    (getR [3] 0 x0 h1).bind fun a2 =>
    bn (dsp (tg h1 a2 % 500) none [(2, g_Chain_voters a2 h1)]) fun r3 h4 =>
    if r3 ≤ v5.2 then
      some (v5.1, h4)
    else
      bn (g_FinalLinks_isOf x2 v5.2 h4) fun r5 h6 =>
      if r5 = 0 then
        g_Tree_weights_j36 rec5 x0 x1 x2 v5.1 v5.2 h6
      else
        bn (dsp (tg h6 x0 % 500) none [(3, g_Tree_weight x0 x1 v5.2 h6)]) fun r8 h9 =>
        bd ((v5.1 + r8)) fun a10 =>
        g_Tree_weights_j36 rec5 x0 x1 x2 a10 v5.2 h9
def g_Tree_weights (x0 : Nat) (x1 : Int32) (x2 : Int32) (h : Hp) : Option (Int32 × Hp) :=
  g_Tree_weights_L5 x0 x1 x2 ((0 : Int32), (0 : Int32)) h
theorem ct_g_Tree_weights {G : Gx} {RL : Lv} {l : Launch} (hL : LvA G RL plA) (hJ : JK G RL l) (x0 : Nat) (x1 : Int32) (x2 : Int32) (h : Hp) : Ct id G RL l yX3_weights (ws_ yX3_weights cX3_weights 5 (some .int)) 43 4065 finI [vr x0, .int x1, .int x2] h (g_Tree_weights x0 x1 x2 h) := by
  refine Ct.of (Pl := plA) [(0, vr x0), (1, .int x1), (2, .int x2)] (by decide) hL rfl (Nat.le_of_ble_eq_true rfl) ?_
  intro E C e6 hf hlo e1 e2 e3 e4 e5
  subst e1; subst e2; subst e3
  replace C : Cx E cX3_weights (some .int) RX3 := C
  replace e6 : (eMe E).name = "weights" := e6
  unfold g_Tree_weights
  refine s_iconst C (0 : Int32) dX3_weights_0 (by decide) ?_
  refine s_istore_n (la' := [(3, .int (0 : Int32)), (0, vr x0), (1, .int x1), (2, .int x2)]) C 3 dX3_weights_1 rfl (lt_nl e5 rfl) rfl ?_
  refine s_iconst C (0 : Int32) dX3_weights_2 (by decide) ?_
  have hL5 : ∀ (x0 : Nat) (x1 : Int32) (x2 : Int32) (v5 : (Int32 × Int32)) (h1 : Hp), Sim id E (QM id E finI) h1 5 [(0, vr x0), (1, .int x1), (2, .int x2), (3, .int v5.1), (4, .int v5.2)] [] (g_Tree_weights_L5 x0 x1 x2 v5 h1) := by
    intro x0 x1 x2 v5 h1
    refine Sim.loop (fun v5 => [(0, vr x0), (1, .int x1), (2, .int x2), (3, .int v5.1), (4, .int v5.2)]) (fun _ => []) (fun rec5 hr5 v5 h1 => ?_) FU v5 h1
    refine s_iload C dX3_weights_5 4 rfl ?_
    refine s_aload_n C dX3_weights_7 0 rfl rfl ?_
    refine s_getR [3] C (fl1 ⟨fo_X3_44_3, rfl⟩) (pl_of e4 rfl) dX3_weights_8 fun a2 => ?_
    refine s_dk 14 finI [.int v5.2] (fun r3 h4 => ?_) (fun hk => s_dsp 2 (fun ht => c_V C 0 [.int v5.2] 2 RX2 ro_2 (ct_g_Chain_voters hL hJ a2 h1) (lw_V q1329 q1330 q1331 q108 q1332) nd_X2_voters rfl (le_fr hf rfl) (le_fr hlo rfl) rfl (Nat.le_of_ble_eq_true rfl) dX3_weights_11 hk ht) s_dsp0)
    refine s_icmp_ge C 42 dX3_weights_14 (by decide) ?_ ?_
    · refine s_iload_n C dX3_weights_42 3 rfl rfl ?_
      exact s_iret C rfl dX3_weights_43
    · refine s_iload_n C dX3_weights_17 2 rfl rfl ?_
      refine s_iload C dX3_weights_18 4 rfl ?_
      refine c_SN C 2 [] _ (ct_g_FinalLinks_isOf hL hJ x2 v5.2 h4) (lw_meth q1340) q107 q1338 q1339 nd_X1_isOf.2 rfl (le_fr hf rfl) (le_fr hlo rfl) rfl (Nat.le_of_ble_eq_true rfl) dX3_weights_20 fun r5 h6 => ?_
      have hj36 : ∀ (x3 : Int32) (x4 : Int32) (h7 : Hp), Sim id E (QM id E finI) h7 36 [(0, vr x0), (1, .int x1), (2, .int x2), (3, .int x3), (4, .int x4)] [] (g_Tree_weights_j36 rec5 x0 x1 x2 x3 x4 h7) := by
        intro x3 x4 h7
        refine s_iinc (la' := [(4, .int (x4 + (1 : Int32))), (0, vr x0), (1, .int x1), (2, .int x2), (3, .int x3)]) C 4 dX3_weights_36 rfl rfl (lt_nl e5 rfl) rfl ?_
        refine s_goto C 5 dX3_weights_39 (by decide) ?_
        refine Sim.keep [1, 2, 3, 4, 0] rfl ?_
        exact hr5 _ _
      refine s_if_eq C 36 dX3_weights_23 (by decide) ?_ ?_
      · exact hj36 _ _ _
      · refine s_iload_n C dX3_weights_26 3 rfl rfl ?_
        refine s_aload_n C dX3_weights_27 0 rfl rfl ?_
        refine s_iload_n C dX3_weights_28 1 rfl rfl ?_
        refine s_iload C dX3_weights_29 4 rfl ?_
        refine s_dk 34 finI [.int v5.1] (fun r8 h9 => ?_) (fun hk => s_dsp 3 (fun ht => c_V C 2 [.int v5.1] 3 RX3 ro_3 (ct_g_Tree_weight hL hJ x0 x1 v5.2 h6) (lw_V q1341 q1342 q1343 q114 q1344) nd_X3_weight rfl (le_fr hf rfl) (le_fr hlo rfl) rfl (Nat.le_of_ble_eq_true rfl) dX3_weights_31 hk ht) s_dsp0)
        refine s_iadd C dX3_weights_34 ?_
        refine s_bdi fun a10 => ?_
        refine s_istore_n (la' := [(3, .int a10), (0, vr x0), (1, .int x1), (2, .int x2), (4, .int v5.2)]) C 3 dX3_weights_35 rfl (lt_nl e5 rfl) rfl ?_
        refine Sim.keep [1, 2, 3, 0, 4] rfl ?_
        exact hj36 _ _ _
  refine s_istore (la' := [(4, .int (0 : Int32)), (3, .int (0 : Int32)), (0, vr x0), (1, .int x1), (2, .int x2)]) C dX3_weights_3 (lt_nl e5 rfl) rfl ?_
  refine Sim.keep [2, 3, 4, 1, 0] rfl ?_
  exact hL5 _ _ _ _ _

def g_Tree_hasThirds_j33 (y0 : Int32) (h5 : Hp) : Option (Int32 × Hp) :=
  if nrw 2 y0 = y0 then some (y0, h5) else none
def g_Tree_hasThirds_j32  (h6 : Hp) : Option (Int32 × Hp) :=
  g_Tree_hasThirds_j33 (0 : Int32) h6
def g_Tree_hasThirds (x0 : Nat) (x1 : Int32) (x2 : Int32) (h : Hp) : Option (Int32 × Hp) :=
  bn (dsp (tg h x0 % 500) none [(3, g_Tree_all x0 h)]) fun r1 h2 =>
  bn (dsp (tg h2 x0 % 500) none [(3, g_Tree_weights x0 x1 r1 h2)]) fun r3 h4 =>
  if r3 ≤ 0 then
    g_Tree_hasThirds_j32 h4
  else
    bn (dsp (tg h4 x0 % 500) none [(3, g_Tree_weights x0 x1 x2 h4)]) fun r7 h8 =>
    if ((3 : Int32) * r7) < ((2 : Int32) * r3) then
      g_Tree_hasThirds_j32 h8
    else
      g_Tree_hasThirds_j33 (1 : Int32) h8
theorem ct_g_Tree_hasThirds {G : Gx} {RL : Lv} {l : Launch} (hL : LvA G RL plA) (hJ : JK G RL l) (x0 : Nat) (x1 : Int32) (x2 : Int32) (h : Hp) : Ct id G RL l yX3_hasThirds (ws_ yX3_hasThirds cX3_hasThirds 4 (some .boolean)) 44 4089 finI [vr x0, .int x1, .int x2] h (g_Tree_hasThirds x0 x1 x2 h) := by
  refine Ct.of (Pl := plA) [(0, vr x0), (1, .int x1), (2, .int x2)] (by decide) hL rfl (Nat.le_of_ble_eq_true rfl) ?_
  intro E C e6 hf hlo e1 e2 e3 e4 e5
  subst e1; subst e2; subst e3
  replace C : Cx E cX3_hasThirds (some .boolean) RX3 := C
  replace e6 : (eMe E).name = "hasThirds" := e6
  unfold g_Tree_hasThirds
  refine s_aload_n C dX3_hasThirds_0 0 rfl rfl ?_
  refine s_iload_n C dX3_hasThirds_1 1 rfl rfl ?_
  refine s_aload_n C dX3_hasThirds_2 0 rfl rfl ?_
  refine s_dk 6 finI [.int x1, vr x0] (fun r1 h2 => ?_) (fun hk => s_dsp 3 (fun ht => c_V C 0 [.int x1, vr x0] 3 RX3 ro_3 (ct_g_Tree_all hL hJ x0 h) (lw_V q1325 q1326 q1327 q114 q1328) nd_X3_all rfl (le_fr hf rfl) (le_fr hlo rfl) rfl (Nat.le_of_ble_eq_true rfl) dX3_hasThirds_3 hk ht) s_dsp0)
  refine s_dk 9 finI [] (fun r3 h4 => ?_) (fun hk => s_dsp 3 (fun ht => c_V C 2 [] 3 RX3 ro_3 (ct_g_Tree_weights hL hJ x0 x1 r1 h2) (lw_V q1334 q1335 q1336 q114 q1337) nd_X3_weights rfl (le_fr hf rfl) (le_fr hlo rfl) rfl (Nat.le_of_ble_eq_true rfl) dX3_hasThirds_6 hk ht) s_dsp0)
  refine s_istore_n (la' := [(3, .int r3), (0, vr x0), (1, .int x1), (2, .int x2)]) C 3 dX3_hasThirds_9 rfl (lt_nl e5 rfl) rfl ?_
  refine s_iload_n C dX3_hasThirds_10 0 rfl rfl ?_
  have hj33 : ∀ (y0 : Int32) (h5 : Hp), Sim id E (QM id E finI) h5 33 [] [.int y0] (g_Tree_hasThirds_j33 y0 h5) := by
    intro y0 h5
    exact s_zret 2 C (by decide) (by decide) rfl dX3_hasThirds_33
  have hj32 : ∀  (h6 : Hp), Sim id E (QM id E finI) h6 32 [] [] (g_Tree_hasThirds_j32 h6) := by
    intro h6
    refine s_iconst C (0 : Int32) dX3_hasThirds_32 (by decide) ?_
    exact hj33 _ _
  refine s_if_le C 32 dX3_hasThirds_11 (by decide) ?_ ?_
  · refine Sim.keep [] rfl ?_
    exact hj32 _
  · refine s_iconst C (3 : Int32) dX3_hasThirds_14 (by decide) ?_
    refine s_aload_n C dX3_hasThirds_15 1 rfl rfl ?_
    refine s_iload_n C dX3_hasThirds_16 2 rfl rfl ?_
    refine s_iload_n C dX3_hasThirds_17 3 rfl rfl ?_
    refine s_dk 21 finI [.int (3 : Int32)] (fun r7 h8 => ?_) (fun hk => s_dsp 3 (fun ht => c_V C 2 [.int (3 : Int32)] 3 RX3 ro_3 (ct_g_Tree_weights hL hJ x0 x1 x2 h4) (lw_V q1334 q1335 q1336 q114 q1337) nd_X3_weights rfl (le_fr hf rfl) (le_fr hlo rfl) rfl (Nat.le_of_ble_eq_true rfl) dX3_hasThirds_18 hk ht) s_dsp0)
    refine s_imul C dX3_hasThirds_21 ?_
    refine s_iconst C (2 : Int32) dX3_hasThirds_22 (by decide) ?_
    refine s_iload_n C dX3_hasThirds_23 0 rfl rfl ?_
    refine s_imul C dX3_hasThirds_24 ?_
    refine s_icmp_lt C 32 dX3_hasThirds_25 (by decide) ?_ ?_
    · refine Sim.keep [] rfl ?_
      exact hj32 _
    · refine s_iconst C (1 : Int32) dX3_hasThirds_28 (by decide) ?_
      refine s_goto C 33 dX3_hasThirds_29 (by decide) ?_
      refine Sim.keep [] rfl ?_
      exact hj33 _ _

def g_Tree_counts_j33 (y0 : Int32) (h5 : Hp) : Option (Int32 × Hp) :=
  if nrw 2 y0 = y0 then some (y0, h5) else none
def g_Tree_counts_j32  (h6 : Hp) : Option (Int32 × Hp) :=
  g_Tree_counts_j33 (0 : Int32) h6
def g_Tree_counts (x0 : Nat) (x1 : Int32) (x2 : Int32) (h : Hp) : Option (Int32 × Hp) :=
  bn (dsp (tg h x0 % 500) none [(3, g_Tree_back x0 x1 (1 : Int32) h)]) fun r1 h2 =>
  bn (dsp (tg h2 x0 % 500) none [(3, g_Tree_hasThirds x0 r1 x2 h2)]) fun r3 h4 =>
  if r3 = 0 then
    g_Tree_counts_j32 h4
  else
    bn (dsp (tg h4 x0 % 500) none [(3, g_Tree_back x0 x1 (2 : Int32) h4)]) fun r7 h8 =>
    bn (dsp (tg h8 x0 % 500) none [(3, g_Tree_hasThirds x0 r7 x2 h8)]) fun r9 h10 =>
    if r9 = 0 then
      g_Tree_counts_j32 h10
    else
      g_Tree_counts_j33 (1 : Int32) h10
theorem ct_g_Tree_counts {G : Gx} {RL : Lv} {l : Launch} (hL : LvA G RL plA) (hJ : JK G RL l) (x0 : Nat) (x1 : Int32) (x2 : Int32) (h : Hp) : Ct id G RL l yX3_counts (ws_ yX3_counts cX3_counts 3 (some .boolean)) 45 4112 finI [vr x0, .int x1, .int x2] h (g_Tree_counts x0 x1 x2 h) := by
  refine Ct.of (Pl := plA) [(0, vr x0), (1, .int x1), (2, .int x2)] (by decide) hL rfl (Nat.le_of_ble_eq_true rfl) ?_
  intro E C e6 hf hlo e1 e2 e3 e4 e5
  subst e1; subst e2; subst e3
  replace C : Cx E cX3_counts (some .boolean) RX3 := C
  replace e6 : (eMe E).name = "counts" := e6
  unfold g_Tree_counts
  refine s_aload_n C dX3_counts_0 0 rfl rfl ?_
  refine s_aload_n C dX3_counts_1 0 rfl rfl ?_
  refine s_iload_n C dX3_counts_2 1 rfl rfl ?_
  refine s_iconst C (1 : Int32) dX3_counts_3 (by decide) ?_
  refine s_dk 7 finI [vr x0] (fun r1 h2 => ?_) (fun hk => s_dsp 3 (fun ht => c_V C 2 [vr x0] 3 RX3 ro_3 (ct_g_Tree_back hL hJ x0 x1 (1 : Int32) h) (lw_V q1309 q1310 q1311 q114 q1312) nd_X3_back rfl (le_fr hf rfl) (le_fr hlo rfl) rfl (Nat.le_of_ble_eq_true rfl) dX3_counts_4 hk ht) s_dsp0)
  refine s_iload_n C dX3_counts_7 2 rfl rfl ?_
  refine s_dk 11 finI [] (fun r3 h4 => ?_) (fun hk => s_dsp 3 (fun ht => c_V C 2 [] 3 RX3 ro_3 (ct_g_Tree_hasThirds hL hJ x0 r1 x2 h2) (lw_V q1321 q1323 qs9 q114 q1324) nd_X3_hasThirds rfl (le_fr hf rfl) (le_fr hlo rfl) rfl (Nat.le_of_ble_eq_true rfl) dX3_counts_8 hk ht) s_dsp0)
  have hj33 : ∀ (y0 : Int32) (h5 : Hp), Sim id E (QM id E finI) h5 33 [] [.int y0] (g_Tree_counts_j33 y0 h5) := by
    intro y0 h5
    exact s_zret 2 C (by decide) (by decide) rfl dX3_counts_33
  have hj32 : ∀  (h6 : Hp), Sim id E (QM id E finI) h6 32 [] [] (g_Tree_counts_j32 h6) := by
    intro h6
    refine s_iconst C (0 : Int32) dX3_counts_32 (by decide) ?_
    exact hj33 _ _
  refine s_if_eq C 32 dX3_counts_11 (by decide) ?_ ?_
  · refine Sim.keep [] rfl ?_
    exact hj32 _
  · refine s_aload_n C dX3_counts_14 0 rfl rfl ?_
    refine s_aload_n C dX3_counts_15 0 rfl rfl ?_
    refine s_iload_n C dX3_counts_16 1 rfl rfl ?_
    refine s_iconst C (2 : Int32) dX3_counts_17 (by decide) ?_
    refine s_dk 21 finI [vr x0] (fun r7 h8 => ?_) (fun hk => s_dsp 3 (fun ht => c_V C 2 [vr x0] 3 RX3 ro_3 (ct_g_Tree_back hL hJ x0 x1 (2 : Int32) h4) (lw_V q1309 q1310 q1311 q114 q1312) nd_X3_back rfl (le_fr hf rfl) (le_fr hlo rfl) rfl (Nat.le_of_ble_eq_true rfl) dX3_counts_18 hk ht) s_dsp0)
    refine s_iload_n C dX3_counts_21 2 rfl rfl ?_
    refine s_dk 25 finI [] (fun r9 h10 => ?_) (fun hk => s_dsp 3 (fun ht => c_V C 2 [] 3 RX3 ro_3 (ct_g_Tree_hasThirds hL hJ x0 r7 x2 h8) (lw_V q1321 q1323 qs9 q114 q1324) nd_X3_hasThirds rfl (le_fr hf rfl) (le_fr hlo rfl) rfl (Nat.le_of_ble_eq_true rfl) dX3_counts_22 hk ht) s_dsp0)
    refine s_if_eq C 32 dX3_counts_25 (by decide) ?_ ?_
    · refine Sim.keep [] rfl ?_
      exact hj32 _
    · refine s_iconst C (1 : Int32) dX3_counts_28 (by decide) ?_
      refine s_goto C 33 dX3_counts_29 (by decide) ?_
      refine Sim.keep [] rfl ?_
      exact hj33 _ _

def g_Judged_findFinal_j124 (rec21 : Unit → Hp → Option (Unit × Hp)) (x0 : Nat) (x1 : Nat) (h16 : Hp) : Option (Unit × Hp) :=
  rec21 () h16
def g_Judged_findFinal_L21 (x0 : Nat) (x1 : Nat) : Unit → Hp → Option (Unit × Hp) :=
  lp FU fun rec21 v21 h8 =>
    bn (dsp (tg h8 x1 % 500) none [(23, oItHas x1 h8), (27, oKiHas x1 h8)]) fun r9 h10 =>
    if r9 = 0 then
      some ((), h10)
    else
      bn (dsp (tg h10 x1 % 500) none [(23, oItNext x1 h10), (27, oKiNext x1 h10)]) fun r11 h12 =>
      (cst [10] r11 h12).bind fun _ =>
      (getI [510] 0 r11 h12).bind fun a13 =>
      bn (dsp (tg h12 x0 % 500) none [(4, g_Judged_isJust x0 a13 h12)]) fun r14 h15 =>
      if r14 = 0 then
        g_Judged_findFinal_j124 rec21 x0 x1 h15
      else
        (getR [4] 0 x0 h15).bind fun a17 =>
        (getI [510] 1 r11 h15).bind fun a18 =>
        bn (dsp (tg h15 a17 % 500) none [(3, g_Tree_level a17 a18 h15)]) fun r19 h20 =>
        (getR [4] 0 x0 h20).bind fun a21 =>
        (getI [510] 0 r11 h20).bind fun a22 =>
        bn (dsp (tg h20 a21 % 500) none [(3, g_Tree_level a21 a22 h20)]) fun r23 h24 =>
        if r19 = (r23 + (1 : Int32)) then
          (getR [4] 0 x0 h24).bind fun a25 =>
          (getI [510] 1 r11 h24).bind fun a26 =>
          (getR [4] 0 x0 h24).bind fun a27 =>
          (getR [3] 4 a27 h24).bind fun a28 =>
          bn (dsp (tg h24 a28 % 500) none [(22, oMpGet 1022 a28 r11 h24)]) fun r29 h30 =>
          (cst [35] r29 h30).bind fun _ =>
          bn (dsp (tg h30 r29 % 500) none [(35, oIntValue r29 h30)]) fun r31 h32 =>
          bn (dsp (tg h32 a25 % 500) none [(3, g_Tree_counts a25 a26 r31 h32)]) fun r33 h34 =>
          if r33 = 0 then
            g_Judged_findFinal_j124 rec21 x0 x1 h34
          else
            (getI [4] 2 x0 h34).bind fun a35 =>
            (getI [510] 0 r11 h34).bind fun a36 =>
            (putI [4] 0 2 x0 (a35 ||| ((1 : Int32) <<< (a36 &&& 31))) h34).bind fun h37 =>
            g_Judged_findFinal_j124 rec21 x0 x1 h37
        else
          g_Judged_findFinal_j124 rec21 x0 x1 h24
def g_Judged_findFinal (x0 : Nat) (h : Hp) : Option (Unit × Hp) :=
  (putI [4] 0 2 x0 (1 : Int32) h).bind fun h1 =>
  (getR [4] 0 x0 h1).bind fun a2 =>
  (getR [3] 4 a2 h1).bind fun a3 =>
  bn (dsp (tg h1 a3 % 500) none [(22, oKeySet a3 h1)]) fun r4 h5 =>
  bn (dsp (tg h5 r4 % 500) none [(26, oKsIter r4 h5)]) fun r6 h7 =>
  g_Judged_findFinal_L21 x0 r6 () h7
theorem ct_g_Judged_findFinal {G : Gx} {RL : Lv} {l : Launch} (hL : LvA G RL plA) (hJ : JK G RL l) (x0 : Nat) (h : Hp) : Ct id G RL l yX4_findFinal (ws_ yX4_findFinal cX4_findFinal 3 none) 46 4134 finV [vr x0] h (g_Judged_findFinal x0 h) := by
  refine Ct.of (Pl := plA) [(0, vr x0)] (by decide) hL rfl (Nat.le_of_ble_eq_true rfl) ?_
  intro E C e6 hf hlo e1 e2 e3 e4 e5
  subst e1; subst e2; subst e3
  replace C : Cx E cX4_findFinal none RX4 := C
  replace e6 : (eMe E).name = "findFinal" := e6
  unfold g_Judged_findFinal
  refine s_aload_n C dX4_findFinal_0 0 rfl rfl ?_
  refine s_iconst C (1 : Int32) dX4_findFinal_1 (by decide) ?_
  refine s_putI [4] 0 C (by decide) (by decide) (fl1 ⟨⟨by decide, fo_X4_32_4, rfl⟩, rfl⟩) (pl_of e4 rfl) (fl1 (Or.inl rfl)) dX4_findFinal_2 fun h1 => ?_
  refine s_aload_n C dX4_findFinal_5 0 rfl rfl ?_
  refine s_getR [4] C (fl1 ⟨fo_X4_24_4, rfl⟩) (pl_of e4 rfl) dX4_findFinal_6 fun a2 => ?_
  refine s_getR [3] C (fl1 ⟨fo_X4_99_3, rfl⟩) (pl_of e4 rfl) dX4_findFinal_9 fun a3 => ?_
  refine s_dk 15 finR [] (fun r4 h5 => ?_) (fun hk => s_dsp 22 (fun ht => c_V C 0 [] 22 RJ10 ro_22 (jk_30 hJ a3 h1) (lw_V q775 q776 q777 q120 q778) nd_J10_keySet rfl (le_fr hf rfl) (le_fr hlo rfl) rfl (Nat.le_of_ble_eq_true rfl) dX4_findFinal_12 hk ht) s_dsp0)
  refine s_dk 20 finR [] (fun r6 h7 => ?_) (fun hk => s_dsp 26 (fun ht => c_F C 0 [] 26 RJ21 ro_26 (jk_31 hJ r4 h5) (lw_F q798 q857 q859 q133 q861) ⟨q800, q799, q860, q858, q856, by decide +kernel, by decide +kernel⟩ (by decide +kernel) rfl (le_fr hf rfl) (le_fr hlo rfl) rfl (Nat.le_of_ble_eq_true rfl) dX4_findFinal_15 hk ht) s_dsp0)
  have hL21 : ∀ (x0 : Nat) (x1 : Nat) (v21 : Unit) (h8 : Hp), Sim id E (QM id E finV) h8 21 [(0, vr x0), (1, vr x1)] [] (g_Judged_findFinal_L21 x0 x1 v21 h8) := by
    intro x0 x1 v21 h8
    refine Sim.loop (fun v21 => [(0, vr x0), (1, vr x1)]) (fun _ => []) (fun rec21 hr21 v21 h8 => ?_) FU v21 h8
    refine s_aload_n C dX4_findFinal_21 1 rfl rfl ?_
    refine s_dk 27 finI [] (fun r9 h10 => ?_) (fun hk => s_dsp 23 (fun ht => c_F C 0 [] 23 RJ11 ro_23 (jk_17 hJ x1 h8) (lw_F q888 q442 q444 q121 q446) ⟨q440, q439, q445, q443, q441, by decide +kernel, by decide +kernel⟩ (by decide +kernel) rfl (le_fr hf rfl) (le_fr hlo rfl) rfl (Nat.le_of_ble_eq_true rfl) dX4_findFinal_22 hk ht) (s_dsp 27 (fun ht => c_F C 0 [] 27 RJ26 ro_27 (jk_32 hJ x1 h8) (lw_F q888 q454 q456 q137 q458) ⟨q440, q439, q457, q455, q453, by decide +kernel, by decide +kernel⟩ (by decide +kernel) rfl (le_fr hf rfl) (le_fr hlo rfl) rfl (Nat.le_of_ble_eq_true rfl) dX4_findFinal_22 hk ht) s_dsp0))
    refine s_if_eq C 127 dX4_findFinal_27 (by decide) ?_ ?_
    · exact s_vret C rfl dX4_findFinal_127
    · refine s_aload_n C dX4_findFinal_30 1 rfl rfl ?_
      refine s_dk 36 finR [] (fun r11 h12 => ?_) (fun hk => s_dsp 23 (fun ht => c_F C 0 [] 23 RJ11 ro_23 (jk_18 hJ x1 h10) (lw_F q890 q463 q465 q121 q467) ⟨q462, q461, q466, q464, q441, by decide +kernel, by decide +kernel⟩ (by decide +kernel) rfl (le_fr hf rfl) (le_fr hlo rfl) rfl (Nat.le_of_ble_eq_true rfl) dX4_findFinal_31 hk ht) (s_dsp 27 (fun ht => c_F C 0 [] 27 RJ26 ro_27 (jk_33 hJ x1 h10) (lw_F q890 q548 q550 q138 q552) ⟨q462, q461, q551, q549, q453, by decide +kernel, by decide +kernel⟩ (by decide +kernel) rfl (le_fr hf rfl) (le_fr hlo rfl) rfl (Nat.le_of_ble_eq_true rfl) dX4_findFinal_31 hk ht) s_dsp0))
      refine s_cast [10] "FinalLinks$Link" C q891 (fl1 ao_FinalLinks_Link_10) dX4_findFinal_36 ?_
      refine s_astore_n (la' := [(2, vr r11), (0, vr x0), (1, vr x1)]) C 2 dX4_findFinal_39 rfl (lt_nl e5 rfl) rfl ?_
      refine s_aload_n C dX4_findFinal_40 1 rfl rfl ?_
      refine s_aload_n C dX4_findFinal_41 0 rfl rfl ?_
      refine s_getI [510] C (fl1 ⟨fo_X4_141_10, rfl⟩) (pl_of e4 rfl) dX4_findFinal_42 fun a13 => ?_
      refine s_dk 48 finI [] (fun r14 h15 => ?_) (fun hk => s_dsp 4 (fun ht => c_V C 1 [] 4 RX4 ro_4 (ct_g_Judged_isJust hL hJ x0 a13 h12) (lw_V q1347 q1348 q1349 q130 q1350) nd_X4_isJust rfl (le_fr hf rfl) (le_fr hlo rfl) rfl (Nat.le_of_ble_eq_true rfl) dX4_findFinal_45 hk ht) s_dsp0)
      have hj124 : ∀  (h16 : Hp), Sim id E (QM id E finV) h16 124 [(0, vr x0), (1, vr x1)] [] (g_Judged_findFinal_j124 rec21 x0 x1 h16) := by
        intro h16
        refine s_goto C 21 dX4_findFinal_124 (by decide) ?_
        exact hr21 _ _
      refine s_if_eq C 124 dX4_findFinal_48 (by decide) ?_ ?_
      · refine Sim.keep [1, 2] rfl ?_
        exact hj124 _
      · refine s_aload_n C dX4_findFinal_51 1 rfl rfl ?_
        refine s_getR [4] C (fl1 ⟨fo_X4_24_4, rfl⟩) (pl_of e4 rfl) dX4_findFinal_52 fun a17 => ?_
        refine s_aload_n C dX4_findFinal_55 0 rfl rfl ?_
        refine s_getI [510] C (fl1 ⟨fo_X4_127_10, rfl⟩) (pl_of e4 rfl) dX4_findFinal_56 fun a18 => ?_
        refine s_dk 62 finI [] (fun r19 h20 => ?_) (fun hk => s_dsp 3 (fun ht => c_V C 1 [] 3 RX3 ro_3 (ct_g_Tree_level hL hJ a17 a18 h15) (lw_V q1356 q754 q755 q114 q756) nd_X3_level rfl (le_fr hf rfl) (le_fr hlo rfl) rfl (Nat.le_of_ble_eq_true rfl) dX4_findFinal_59 hk ht) s_dsp0)
        refine s_aload_n C dX4_findFinal_62 1 rfl rfl ?_
        refine s_getR [4] C (fl1 ⟨fo_X4_24_4, rfl⟩) (pl_of e4 rfl) dX4_findFinal_63 fun a21 => ?_
        refine s_aload_n C dX4_findFinal_66 0 rfl rfl ?_
        refine s_getI [510] C (fl1 ⟨fo_X4_141_10, rfl⟩) (pl_of e4 rfl) dX4_findFinal_67 fun a22 => ?_
        refine s_dk 73 finI [.int r19] (fun r23 h24 => ?_) (fun hk => s_dsp 3 (fun ht => c_V C 1 [.int r19] 3 RX3 ro_3 (ct_g_Tree_level hL hJ a21 a22 h20) (lw_V q1356 q754 q755 q114 q756) nd_X3_level rfl (le_fr hf rfl) (le_fr hlo rfl) rfl (Nat.le_of_ble_eq_true rfl) dX4_findFinal_70 hk ht) s_dsp0)
        refine s_iconst C (1 : Int32) dX4_findFinal_73 (by decide) ?_
        refine s_iadd C dX4_findFinal_74 ?_
        refine s_icmp_ne C 124 dX4_findFinal_75 (by decide) ?_ ?_
        · refine Sim.keep [1, 2] rfl ?_
          exact hj124 _
        · refine s_aload_n C dX4_findFinal_78 1 rfl rfl ?_
          refine s_getR [4] C (fl1 ⟨fo_X4_24_4, rfl⟩) (pl_of e4 rfl) dX4_findFinal_79 fun a25 => ?_
          refine s_aload_n C dX4_findFinal_82 0 rfl rfl ?_
          refine s_getI [510] C (fl1 ⟨fo_X4_127_10, rfl⟩) (pl_of e4 rfl) dX4_findFinal_83 fun a26 => ?_
          refine s_aload_n C dX4_findFinal_86 1 rfl rfl ?_
          refine s_getR [4] C (fl1 ⟨fo_X4_24_4, rfl⟩) (pl_of e4 rfl) dX4_findFinal_87 fun a27 => ?_
          refine s_getR [3] C (fl1 ⟨fo_X4_99_3, rfl⟩) (pl_of e4 rfl) dX4_findFinal_90 fun a28 => ?_
          refine s_aload_n C dX4_findFinal_93 0 rfl rfl ?_
          refine s_dk 97 finR [.int a26, vr a25] (fun r29 h30 => ?_) (fun hk => s_dsp 22 (fun ht => c_V C 1 [.int a26, vr a25] 22 RJ10 ro_22 (jk_29 hJ a28 r11 h24) (lw_V q892 q893 q894 q120 q895) nd_J10_get rfl (le_fr hf rfl) (le_fr hlo rfl) rfl (Nat.le_of_ble_eq_true rfl) dX4_findFinal_94 hk ht) s_dsp0)
          refine s_cast [35] "java/lang/Integer" C q1303 (fl1 ao_java_lang_Integer_35) dX4_findFinal_97 ?_
          refine s_dk 103 finI [.int a26, vr a25] (fun r31 h32 => ?_) (fun hk => s_dsp 35 (fun ht => c_V C 0 [.int a26, vr a25] 35 RJ9 ro_35 (jk_0 hJ r29 h30) (lw_V q1304 q1053 q1054 q119 q1055) nd_J9_intValue rfl (le_fr hf rfl) (le_fr hlo rfl) rfl (Nat.le_of_ble_eq_true rfl) dX4_findFinal_100 hk ht) s_dsp0)
          refine s_dk 106 finI [] (fun r33 h34 => ?_) (fun hk => s_dsp 3 (fun ht => c_V C 2 [] 3 RX3 ro_3 (ct_g_Tree_counts hL hJ a25 a26 r31 h32) (lw_V q1305 q1306 q1307 q114 q1308) nd_X3_counts rfl (le_fr hf rfl) (le_fr hlo rfl) rfl (Nat.le_of_ble_eq_true rfl) dX4_findFinal_103 hk ht) s_dsp0)
          refine s_if_eq C 124 dX4_findFinal_106 (by decide) ?_ ?_
          · refine Sim.keep [1, 2] rfl ?_
            exact hj124 _
          · refine s_aload_n C dX4_findFinal_109 1 rfl rfl ?_
            refine s_dup C dX4_findFinal_110 rfl ?_
            refine s_getI [4] C (fl1 ⟨fo_X4_32_4, rfl⟩) (pl_of e4 rfl) dX4_findFinal_111 fun a35 => ?_
            refine s_iconst C (1 : Int32) dX4_findFinal_114 (by decide) ?_
            refine s_aload_n C dX4_findFinal_115 0 rfl rfl ?_
            refine s_getI [510] C (fl1 ⟨fo_X4_141_10, rfl⟩) (pl_of e4 rfl) dX4_findFinal_116 fun a36 => ?_
            refine s_ishl C (a36 &&& 31) dX4_findFinal_119 rfl ?_
            refine s_ior C dX4_findFinal_120 ?_
            refine s_putI [4] 0 C (by decide) (by decide) (fl1 ⟨⟨by decide, fo_X4_32_4, rfl⟩, rfl⟩) (pl_of e4 rfl) (fl1 (Or.inl rfl)) dX4_findFinal_121 fun h37 => ?_
            refine Sim.keep [1, 2] rfl ?_
            exact hj124 _
  refine s_astore_n (la' := [(1, vr r6), (0, vr x0)]) C 1 dX4_findFinal_20 rfl (lt_nl e5 rfl) rfl ?_
  refine Sim.keep [1, 0] rfl ?_
  exact hL21 _ _ _ _

def g_Judged_findJust_j191 (rec115 : Unit → Hp → Option (Unit × Hp)) (x0 : Nat) (x1 : Int32) (x2 : Nat) (h28 : Hp) : Option (Unit × Hp) :=
  rec115 () h28
def g_Judged_findJust_L115 (rec86 : Int32 → Hp → Option (Unit × Hp)) (x0 : Nat) (x1 : Int32) (x2 : Nat) : Unit → Hp → Option (Unit × Hp) :=
  lp FU fun rec115 v115 h20 =>
    bn (dsp (tg h20 x2 % 500) none [(23, oItHas x2 h20), (27, oKiHas x2 h20)]) fun r21 h22 =>
    if r21 = 0 then
      rec86 x1 h22
    else
      bn (dsp (tg h22 x2 % 500) none [(23, oItNext x2 h22), (27, oKiNext x2 h22)]) fun r23 h24 =>
      (cst [10] r23 h24).bind fun _ =>
      (getI [510] 0 r23 h24).bind fun a25 =>
      bn (dsp (tg h24 x0 % 500) none [(4, g_Judged_isJust x0 a25 h24)]) fun r26 h27 =>
      if r26 = 0 then
        g_Judged_findJust_j191 rec115 x0 x1 x2 h27
      else
        (getR [4] 0 x0 h27).bind fun a29 =>
        (getI [510] 1 r23 h27).bind fun a30 =>
        (getR [4] 0 x0 h27).bind fun a31 =>
        (getR [3] 4 a31 h27).bind fun a32 =>
        bn (dsp (tg h27 a32 % 500) none [(22, oMpGet 1022 a32 r23 h27)]) fun r33 h34 =>
        (cst [35] r33 h34).bind fun _ =>
        bn (dsp (tg h34 r33 % 500) none [(35, oIntValue r33 h34)]) fun r35 h36 =>
        bn (dsp (tg h36 a29 % 500) none [(3, g_Tree_counts a29 a30 r35 h36)]) fun r37 h38 =>
        if r37 = 0 then
          g_Judged_findJust_j191 rec115 x0 x1 x2 h38
        else
          (getI [4] 1 x0 h38).bind fun a39 =>
          (getI [510] 1 r23 h38).bind fun a40 =>
          (putI [4] 0 1 x0 (a39 ||| ((1 : Int32) <<< (a40 &&& 31))) h38).bind fun h41 =>
          g_Judged_findJust_j191 rec115 x0 x1 x2 h41
def g_Judged_findJust_L86 (x0 : Nat) : Int32 → Hp → Option (Unit × Hp) :=
  lp FU fun rec86 v86 h11 =>
    (getI [4] 1 x0 h11).bind fun a12 =>
    if a12 = v86 then
      some ((), h11)
    else
      (getI [4] 1 x0 h11).bind fun a13 =>
      (getR [4] 0 x0 h11).bind fun a14 =>
      (getR [3] 4 a14 h11).bind fun a15 =>
      bn (dsp (tg h11 a15 % 500) none [(22, oKeySet a15 h11)]) fun r16 h17 =>
      bn (dsp (tg h17 r16 % 500) none [(26, oKsIter r16 h17)]) fun r18 h19 =>
      g_Judged_findJust_L115 rec86 x0 a13 r18 () h19
def g_Judged_findJust_j81 (rec21 : Unit → Hp → Option (Unit × Hp)) (x0 : Nat) (x1 : Nat) (h54 : Hp) : Option (Unit × Hp) :=
  rec21 () h54
def g_Judged_findJust_L21 (x0 : Nat) (x1 : Nat) : Unit → Hp → Option (Unit × Hp) :=
  lp FU fun rec21 v21 h8 =>
    bn (dsp (tg h8 x1 % 500) none [(23, oItHas x1 h8), (27, oKiHas x1 h8)]) fun r9 h10 =>
    if r9 = 0 then
      g_Judged_findJust_L86 x0 (0 : Int32) h10
    else
      bn (dsp (tg h10 x1 % 500) none [(23, oItNext x1 h10), (27, oKiNext x1 h10)]) fun r42 h43 =>
      (cst [10] r42 h43).bind fun _ =>
      (getR [4] 0 x0 h43).bind fun a44 =>
      (getI [510] 1 r42 h43).bind fun a45 =>
      (getR [4] 0 x0 h43).bind fun a46 =>
      (getR [3] 4 a46 h43).bind fun a47 =>
      bn (dsp (tg h43 a47 % 500) none [(22, oMpGet 1022 a47 r42 h43)]) fun r48 h49 =>
      (cst [35] r48 h49).bind fun _ =>
      bn (dsp (tg h49 r48 % 500) none [(35, oIntValue r48 h49)]) fun r50 h51 =>
      bn (dsp (tg h51 a44 % 500) none [(3, g_Tree_counts a44 a45 r50 h51)]) fun r52 h53 =>
      if r52 = 0 then
        g_Judged_findJust_j81 rec21 x0 x1 h53
      else
        (getI [4] 4 x0 h53).bind fun a55 =>
        (putI [4] 0 4 x0 (a55 + (1 : Int32)) h53).bind fun h56 =>
        g_Judged_findJust_j81 rec21 x0 x1 h56
def g_Judged_findJust (x0 : Nat) (h : Hp) : Option (Unit × Hp) :=
  (putI [4] 0 1 x0 (1 : Int32) h).bind fun h1 =>
  (getR [4] 0 x0 h1).bind fun a2 =>
  (getR [3] 4 a2 h1).bind fun a3 =>
  bn (dsp (tg h1 a3 % 500) none [(22, oKeySet a3 h1)]) fun r4 h5 =>
  bn (dsp (tg h5 r4 % 500) none [(26, oKsIter r4 h5)]) fun r6 h7 =>
  g_Judged_findJust_L21 x0 r6 () h7
theorem ct_g_Judged_findJust {G : Gx} {RL : Lv} {l : Launch} (hL : LvA G RL plA) (hJ : JK G RL l) (x0 : Nat) (h : Hp) : Ct id G RL l yX4_findJust (ws_ yX4_findJust cX4_findJust 4 none) 46 4134 finV [vr x0] h (g_Judged_findJust x0 h) := by
  refine Ct.of (Pl := plA) [(0, vr x0)] (by decide) hL rfl (Nat.le_of_ble_eq_true rfl) ?_
  intro E C e6 hf hlo e1 e2 e3 e4 e5
  subst e1; subst e2; subst e3
  replace C : Cx E cX4_findJust none RX4 := C
  replace e6 : (eMe E).name = "findJust" := e6
  unfold g_Judged_findJust
  refine s_aload_n C dX4_findJust_0 0 rfl rfl ?_
  refine s_iconst C (1 : Int32) dX4_findJust_1 (by decide) ?_
  refine s_putI [4] 0 C (by decide) (by decide) (fl1 ⟨⟨by decide, fo_X4_28_4, rfl⟩, rfl⟩) (pl_of e4 rfl) (fl1 (Or.inl rfl)) dX4_findJust_2 fun h1 => ?_
  refine s_aload_n C dX4_findJust_5 0 rfl rfl ?_
  refine s_getR [4] C (fl1 ⟨fo_X4_24_4, rfl⟩) (pl_of e4 rfl) dX4_findJust_6 fun a2 => ?_
  refine s_getR [3] C (fl1 ⟨fo_X4_99_3, rfl⟩) (pl_of e4 rfl) dX4_findJust_9 fun a3 => ?_
  refine s_dk 15 finR [] (fun r4 h5 => ?_) (fun hk => s_dsp 22 (fun ht => c_V C 0 [] 22 RJ10 ro_22 (jk_30 hJ a3 h1) (lw_V q775 q776 q777 q120 q778) nd_J10_keySet rfl (le_fr hf rfl) (le_fr hlo rfl) rfl (Nat.le_of_ble_eq_true rfl) dX4_findJust_12 hk ht) s_dsp0)
  refine s_dk 20 finR [] (fun r6 h7 => ?_) (fun hk => s_dsp 26 (fun ht => c_F C 0 [] 26 RJ21 ro_26 (jk_31 hJ r4 h5) (lw_F q798 q857 q859 q133 q861) ⟨q800, q799, q860, q858, q856, by decide +kernel, by decide +kernel⟩ (by decide +kernel) rfl (le_fr hf rfl) (le_fr hlo rfl) rfl (Nat.le_of_ble_eq_true rfl) dX4_findJust_15 hk ht) s_dsp0)
  have hL21 : ∀ (x0 : Nat) (x1 : Nat) (v21 : Unit) (h8 : Hp), Sim id E (QM id E finV) h8 21 [(0, vr x0), (1, vr x1)] [] (g_Judged_findJust_L21 x0 x1 v21 h8) := by
    intro x0 x1 v21 h8
    refine Sim.loop (fun v21 => [(0, vr x0), (1, vr x1)]) (fun _ => []) (fun rec21 hr21 v21 h8 => ?_) FU v21 h8
    refine s_aload_n C dX4_findJust_21 1 rfl rfl ?_
    refine s_dk 27 finI [] (fun r9 h10 => ?_) (fun hk => s_dsp 23 (fun ht => c_F C 0 [] 23 RJ11 ro_23 (jk_17 hJ x1 h8) (lw_F q888 q442 q444 q121 q446) ⟨q440, q439, q445, q443, q441, by decide +kernel, by decide +kernel⟩ (by decide +kernel) rfl (le_fr hf rfl) (le_fr hlo rfl) rfl (Nat.le_of_ble_eq_true rfl) dX4_findJust_22 hk ht) (s_dsp 27 (fun ht => c_F C 0 [] 27 RJ26 ro_27 (jk_32 hJ x1 h8) (lw_F q888 q454 q456 q137 q458) ⟨q440, q439, q457, q455, q453, by decide +kernel, by decide +kernel⟩ (by decide +kernel) rfl (le_fr hf rfl) (le_fr hlo rfl) rfl (Nat.le_of_ble_eq_true rfl) dX4_findJust_22 hk ht) s_dsp0))
    refine s_if_eq C 84 dX4_findJust_27 (by decide) ?_ ?_
    · refine s_iconst C (0 : Int32) dX4_findJust_84 (by decide) ?_
      have hL86 : ∀ (x0 : Nat) (v86 : Int32) (h11 : Hp), Sim id E (QM id E finV) h11 86 [(0, vr x0), (1, .int v86)] [] (g_Judged_findJust_L86 x0 v86 h11) := by
        intro x0 v86 h11
        refine Sim.loop (fun v86 => [(0, vr x0), (1, .int v86)]) (fun _ => []) (fun rec86 hr86 v86 h11 => ?_) FU v86 h11
        refine s_aload_n C dX4_findJust_86 0 rfl rfl ?_
        refine s_getI [4] C (fl1 ⟨fo_X4_28_4, rfl⟩) (pl_of e4 rfl) dX4_findJust_87 fun a12 => ?_
        refine s_iload_n C dX4_findJust_90 1 rfl rfl ?_
        refine s_icmp_eq C 197 dX4_findJust_91 (by decide) ?_ ?_
        · exact s_vret C rfl dX4_findJust_197
        · refine s_aload_n C dX4_findJust_94 0 rfl rfl ?_
          refine s_getI [4] C (fl1 ⟨fo_X4_28_4, rfl⟩) (pl_of e4 rfl) dX4_findJust_95 fun a13 => ?_
          refine s_istore_n (la' := [(1, .int a13), (0, vr x0)]) C 1 dX4_findJust_98 rfl (lt_nl e5 rfl) rfl ?_
          refine s_aload_n C dX4_findJust_99 1 rfl rfl ?_
          refine s_getR [4] C (fl1 ⟨fo_X4_24_4, rfl⟩) (pl_of e4 rfl) dX4_findJust_100 fun a14 => ?_
          refine s_getR [3] C (fl1 ⟨fo_X4_99_3, rfl⟩) (pl_of e4 rfl) dX4_findJust_103 fun a15 => ?_
          refine s_dk 109 finR [] (fun r16 h17 => ?_) (fun hk => s_dsp 22 (fun ht => c_V C 0 [] 22 RJ10 ro_22 (jk_30 hJ a15 h11) (lw_V q775 q776 q777 q120 q778) nd_J10_keySet rfl (le_fr hf rfl) (le_fr hlo rfl) rfl (Nat.le_of_ble_eq_true rfl) dX4_findJust_106 hk ht) s_dsp0)
          refine s_dk 114 finR [] (fun r18 h19 => ?_) (fun hk => s_dsp 26 (fun ht => c_F C 0 [] 26 RJ21 ro_26 (jk_31 hJ r16 h17) (lw_F q798 q857 q859 q133 q861) ⟨q800, q799, q860, q858, q856, by decide +kernel, by decide +kernel⟩ (by decide +kernel) rfl (le_fr hf rfl) (le_fr hlo rfl) rfl (Nat.le_of_ble_eq_true rfl) dX4_findJust_109 hk ht) s_dsp0)
          have hL115 : ∀ (x1 : Int32) (x2 : Nat) (v115 : Unit) (h20 : Hp), Sim id E (QM id E finV) h20 115 [(0, vr x0), (1, .int x1), (2, vr x2)] [] (g_Judged_findJust_L115 rec86 x0 x1 x2 v115 h20) := by
            intro x1 x2 v115 h20
            refine Sim.loop (fun v115 => [(0, vr x0), (1, .int x1), (2, vr x2)]) (fun _ => []) (fun rec115 hr115 v115 h20 => ?_) FU v115 h20
            refine s_aload_n C dX4_findJust_115 2 rfl rfl ?_
            refine s_dk 121 finI [] (fun r21 h22 => ?_) (fun hk => s_dsp 23 (fun ht => c_F C 0 [] 23 RJ11 ro_23 (jk_17 hJ x2 h20) (lw_F q888 q442 q444 q121 q446) ⟨q440, q439, q445, q443, q441, by decide +kernel, by decide +kernel⟩ (by decide +kernel) rfl (le_fr hf rfl) (le_fr hlo rfl) rfl (Nat.le_of_ble_eq_true rfl) dX4_findJust_116 hk ht) (s_dsp 27 (fun ht => c_F C 0 [] 27 RJ26 ro_27 (jk_32 hJ x2 h20) (lw_F q888 q454 q456 q137 q458) ⟨q440, q439, q457, q455, q453, by decide +kernel, by decide +kernel⟩ (by decide +kernel) rfl (le_fr hf rfl) (le_fr hlo rfl) rfl (Nat.le_of_ble_eq_true rfl) dX4_findJust_116 hk ht) s_dsp0))
            refine s_if_eq C 194 dX4_findJust_121 (by decide) ?_ ?_
            · refine s_goto C 86 dX4_findJust_194 (by decide) ?_
              refine Sim.keep [0, 1] rfl ?_
              exact hr86 _ _
            · refine s_aload_n C dX4_findJust_124 2 rfl rfl ?_
              refine s_dk 130 finR [] (fun r23 h24 => ?_) (fun hk => s_dsp 23 (fun ht => c_F C 0 [] 23 RJ11 ro_23 (jk_18 hJ x2 h22) (lw_F q890 q463 q465 q121 q467) ⟨q462, q461, q466, q464, q441, by decide +kernel, by decide +kernel⟩ (by decide +kernel) rfl (le_fr hf rfl) (le_fr hlo rfl) rfl (Nat.le_of_ble_eq_true rfl) dX4_findJust_125 hk ht) (s_dsp 27 (fun ht => c_F C 0 [] 27 RJ26 ro_27 (jk_33 hJ x2 h22) (lw_F q890 q548 q550 q138 q552) ⟨q462, q461, q551, q549, q453, by decide +kernel, by decide +kernel⟩ (by decide +kernel) rfl (le_fr hf rfl) (le_fr hlo rfl) rfl (Nat.le_of_ble_eq_true rfl) dX4_findJust_125 hk ht) s_dsp0))
              refine s_cast [10] "FinalLinks$Link" C q891 (fl1 ao_FinalLinks_Link_10) dX4_findJust_130 ?_
              refine s_astore_n (la' := [(3, vr r23), (0, vr x0), (1, .int x1), (2, vr x2)]) C 3 dX4_findJust_133 rfl (lt_nl e5 rfl) rfl ?_
              refine s_aload_n C dX4_findJust_134 1 rfl rfl ?_
              refine s_aload_n C dX4_findJust_135 0 rfl rfl ?_
              refine s_getI [510] C (fl1 ⟨fo_X4_141_10, rfl⟩) (pl_of e4 rfl) dX4_findJust_136 fun a25 => ?_
              refine s_dk 142 finI [] (fun r26 h27 => ?_) (fun hk => s_dsp 4 (fun ht => c_V C 1 [] 4 RX4 ro_4 (ct_g_Judged_isJust hL hJ x0 a25 h24) (lw_V q1347 q1348 q1349 q130 q1350) nd_X4_isJust rfl (le_fr hf rfl) (le_fr hlo rfl) rfl (Nat.le_of_ble_eq_true rfl) dX4_findJust_139 hk ht) s_dsp0)
              have hj191 : ∀  (h28 : Hp), Sim id E (QM id E finV) h28 191 [(0, vr x0), (1, .int x1), (2, vr x2)] [] (g_Judged_findJust_j191 rec115 x0 x1 x2 h28) := by
                intro h28
                refine s_goto C 115 dX4_findJust_191 (by decide) ?_
                exact hr115 _ _
              refine s_if_eq C 191 dX4_findJust_142 (by decide) ?_ ?_
              · refine Sim.keep [1, 2, 3] rfl ?_
                exact hj191 _
              · refine s_aload_n C dX4_findJust_145 1 rfl rfl ?_
                refine s_getR [4] C (fl1 ⟨fo_X4_24_4, rfl⟩) (pl_of e4 rfl) dX4_findJust_146 fun a29 => ?_
                refine s_aload_n C dX4_findJust_149 0 rfl rfl ?_
                refine s_getI [510] C (fl1 ⟨fo_X4_127_10, rfl⟩) (pl_of e4 rfl) dX4_findJust_150 fun a30 => ?_
                refine s_aload_n C dX4_findJust_153 1 rfl rfl ?_
                refine s_getR [4] C (fl1 ⟨fo_X4_24_4, rfl⟩) (pl_of e4 rfl) dX4_findJust_154 fun a31 => ?_
                refine s_getR [3] C (fl1 ⟨fo_X4_99_3, rfl⟩) (pl_of e4 rfl) dX4_findJust_157 fun a32 => ?_
                refine s_aload_n C dX4_findJust_160 0 rfl rfl ?_
                refine s_dk 164 finR [.int a30, vr a29] (fun r33 h34 => ?_) (fun hk => s_dsp 22 (fun ht => c_V C 1 [.int a30, vr a29] 22 RJ10 ro_22 (jk_29 hJ a32 r23 h27) (lw_V q892 q893 q894 q120 q895) nd_J10_get rfl (le_fr hf rfl) (le_fr hlo rfl) rfl (Nat.le_of_ble_eq_true rfl) dX4_findJust_161 hk ht) s_dsp0)
                refine s_cast [35] "java/lang/Integer" C q1303 (fl1 ao_java_lang_Integer_35) dX4_findJust_164 ?_
                refine s_dk 170 finI [.int a30, vr a29] (fun r35 h36 => ?_) (fun hk => s_dsp 35 (fun ht => c_V C 0 [.int a30, vr a29] 35 RJ9 ro_35 (jk_0 hJ r33 h34) (lw_V q1304 q1053 q1054 q119 q1055) nd_J9_intValue rfl (le_fr hf rfl) (le_fr hlo rfl) rfl (Nat.le_of_ble_eq_true rfl) dX4_findJust_167 hk ht) s_dsp0)
                refine s_dk 173 finI [] (fun r37 h38 => ?_) (fun hk => s_dsp 3 (fun ht => c_V C 2 [] 3 RX3 ro_3 (ct_g_Tree_counts hL hJ a29 a30 r35 h36) (lw_V q1305 q1306 q1307 q114 q1308) nd_X3_counts rfl (le_fr hf rfl) (le_fr hlo rfl) rfl (Nat.le_of_ble_eq_true rfl) dX4_findJust_170 hk ht) s_dsp0)
                refine s_if_eq C 191 dX4_findJust_173 (by decide) ?_ ?_
                · refine Sim.keep [1, 2, 3] rfl ?_
                  exact hj191 _
                · refine s_aload_n C dX4_findJust_176 1 rfl rfl ?_
                  refine s_dup C dX4_findJust_177 rfl ?_
                  refine s_getI [4] C (fl1 ⟨fo_X4_28_4, rfl⟩) (pl_of e4 rfl) dX4_findJust_178 fun a39 => ?_
                  refine s_iconst C (1 : Int32) dX4_findJust_181 (by decide) ?_
                  refine s_aload_n C dX4_findJust_182 0 rfl rfl ?_
                  refine s_getI [510] C (fl1 ⟨fo_X4_127_10, rfl⟩) (pl_of e4 rfl) dX4_findJust_183 fun a40 => ?_
                  refine s_ishl C (a40 &&& 31) dX4_findJust_186 rfl ?_
                  refine s_ior C dX4_findJust_187 ?_
                  refine s_putI [4] 0 C (by decide) (by decide) (fl1 ⟨⟨by decide, fo_X4_28_4, rfl⟩, rfl⟩) (pl_of e4 rfl) (fl1 (Or.inl rfl)) dX4_findJust_188 fun h41 => ?_
                  refine Sim.keep [1, 2, 3] rfl ?_
                  exact hj191 _
          refine s_astore_n (la' := [(2, vr r18), (1, .int a13), (0, vr x0)]) C 2 dX4_findJust_114 rfl (lt_nl e5 rfl) rfl ?_
          refine Sim.keep [2, 1, 0] rfl ?_
          exact hL115 _ _ _ _
      refine s_istore_n (la' := [(1, .int (0 : Int32)), (0, vr x0)]) C 1 dX4_findJust_85 rfl (lt_nl e5 rfl) rfl ?_
      refine Sim.keep [1, 0] rfl ?_
      exact hL86 _ _ _
    · refine s_aload_n C dX4_findJust_30 1 rfl rfl ?_
      refine s_dk 36 finR [] (fun r42 h43 => ?_) (fun hk => s_dsp 23 (fun ht => c_F C 0 [] 23 RJ11 ro_23 (jk_18 hJ x1 h10) (lw_F q890 q463 q465 q121 q467) ⟨q462, q461, q466, q464, q441, by decide +kernel, by decide +kernel⟩ (by decide +kernel) rfl (le_fr hf rfl) (le_fr hlo rfl) rfl (Nat.le_of_ble_eq_true rfl) dX4_findJust_31 hk ht) (s_dsp 27 (fun ht => c_F C 0 [] 27 RJ26 ro_27 (jk_33 hJ x1 h10) (lw_F q890 q548 q550 q138 q552) ⟨q462, q461, q551, q549, q453, by decide +kernel, by decide +kernel⟩ (by decide +kernel) rfl (le_fr hf rfl) (le_fr hlo rfl) rfl (Nat.le_of_ble_eq_true rfl) dX4_findJust_31 hk ht) s_dsp0))
      refine s_cast [10] "FinalLinks$Link" C q891 (fl1 ao_FinalLinks_Link_10) dX4_findJust_36 ?_
      refine s_astore_n (la' := [(2, vr r42), (0, vr x0), (1, vr x1)]) C 2 dX4_findJust_39 rfl (lt_nl e5 rfl) rfl ?_
      refine s_aload_n C dX4_findJust_40 1 rfl rfl ?_
      refine s_getR [4] C (fl1 ⟨fo_X4_24_4, rfl⟩) (pl_of e4 rfl) dX4_findJust_41 fun a44 => ?_
      refine s_aload_n C dX4_findJust_44 0 rfl rfl ?_
      refine s_getI [510] C (fl1 ⟨fo_X4_127_10, rfl⟩) (pl_of e4 rfl) dX4_findJust_45 fun a45 => ?_
      refine s_aload_n C dX4_findJust_48 1 rfl rfl ?_
      refine s_getR [4] C (fl1 ⟨fo_X4_24_4, rfl⟩) (pl_of e4 rfl) dX4_findJust_49 fun a46 => ?_
      refine s_getR [3] C (fl1 ⟨fo_X4_99_3, rfl⟩) (pl_of e4 rfl) dX4_findJust_52 fun a47 => ?_
      refine s_aload_n C dX4_findJust_55 0 rfl rfl ?_
      refine s_dk 59 finR [.int a45, vr a44] (fun r48 h49 => ?_) (fun hk => s_dsp 22 (fun ht => c_V C 1 [.int a45, vr a44] 22 RJ10 ro_22 (jk_29 hJ a47 r42 h43) (lw_V q892 q893 q894 q120 q895) nd_J10_get rfl (le_fr hf rfl) (le_fr hlo rfl) rfl (Nat.le_of_ble_eq_true rfl) dX4_findJust_56 hk ht) s_dsp0)
      refine s_cast [35] "java/lang/Integer" C q1303 (fl1 ao_java_lang_Integer_35) dX4_findJust_59 ?_
      refine s_dk 65 finI [.int a45, vr a44] (fun r50 h51 => ?_) (fun hk => s_dsp 35 (fun ht => c_V C 0 [.int a45, vr a44] 35 RJ9 ro_35 (jk_0 hJ r48 h49) (lw_V q1304 q1053 q1054 q119 q1055) nd_J9_intValue rfl (le_fr hf rfl) (le_fr hlo rfl) rfl (Nat.le_of_ble_eq_true rfl) dX4_findJust_62 hk ht) s_dsp0)
      refine s_dk 68 finI [] (fun r52 h53 => ?_) (fun hk => s_dsp 3 (fun ht => c_V C 2 [] 3 RX3 ro_3 (ct_g_Tree_counts hL hJ a44 a45 r50 h51) (lw_V q1305 q1306 q1307 q114 q1308) nd_X3_counts rfl (le_fr hf rfl) (le_fr hlo rfl) rfl (Nat.le_of_ble_eq_true rfl) dX4_findJust_65 hk ht) s_dsp0)
      have hj81 : ∀  (h54 : Hp), Sim id E (QM id E finV) h54 81 [(0, vr x0), (1, vr x1)] [] (g_Judged_findJust_j81 rec21 x0 x1 h54) := by
        intro h54
        refine s_goto C 21 dX4_findJust_81 (by decide) ?_
        exact hr21 _ _
      refine s_if_eq C 81 dX4_findJust_68 (by decide) ?_ ?_
      · refine Sim.keep [1, 2] rfl ?_
        exact hj81 _
      · refine s_aload_n C dX4_findJust_71 1 rfl rfl ?_
        refine s_dup C dX4_findJust_72 rfl ?_
        refine s_getI [4] C (fl1 ⟨fo_X4_35_4, rfl⟩) (pl_of e4 rfl) dX4_findJust_73 fun a55 => ?_
        refine s_iconst C (1 : Int32) dX4_findJust_76 (by decide) ?_
        refine s_iadd C dX4_findJust_77 ?_
        refine s_putI [4] 0 C (by decide) (by decide) (fl1 ⟨⟨by decide, fo_X4_35_4, rfl⟩, rfl⟩) (pl_of e4 rfl) (fl1 (Or.inl rfl)) dX4_findJust_78 fun h56 => ?_
        refine Sim.keep [1, 2] rfl ?_
        exact hj81 _
  refine s_astore_n (la' := [(1, vr r6), (0, vr x0)]) C 1 dX4_findJust_20 rfl (lt_nl e5 rfl) rfl ?_
  refine Sim.keep [1, 0] rfl ?_
  exact hL21 _ _ _ _

def g_Tree_isAround_j43 (y0 : Int32) (h7 : Hp) : Option (Int32 × Hp) :=
  if nrw 2 y0 = y0 then some (y0, h7) else none
def g_Tree_isAround_j42  (h8 : Hp) : Option (Int32 × Hp) :=
  g_Tree_isAround_j43 (0 : Int32) h8
def g_Tree_isAround (x0 : Nat) (x1 : Nat) (x2 : Nat) (h : Hp) : Option (Int32 × Hp) :=
  (getI [510] 0 x1 h).bind fun a1 =>
  bn (dsp (tg h x0 % 500) none [(3, g_Tree_level x0 a1 h)]) fun r2 h3 =>
  (getI [510] 0 x2 h3).bind fun a4 =>
  bn (dsp (tg h3 x0 % 500) none [(3, g_Tree_level x0 a4 h3)]) fun r5 h6 =>
  if r5 ≤ r2 then
    g_Tree_isAround_j42 h6
  else
    (getI [510] 1 x2 h6).bind fun a9 =>
    bn (dsp (tg h6 x0 % 500) none [(3, g_Tree_level x0 a9 h6)]) fun r10 h11 =>
    (getI [510] 1 x1 h11).bind fun a12 =>
    bn (dsp (tg h11 x0 % 500) none [(3, g_Tree_level x0 a12 h11)]) fun r13 h14 =>
    if r13 ≤ r10 then
      g_Tree_isAround_j42 h14
    else
      g_Tree_isAround_j43 (1 : Int32) h14
theorem ct_g_Tree_isAround {G : Gx} {RL : Lv} {l : Launch} (hL : LvA G RL plA) (hJ : JK G RL l) (x0 : Nat) (x1 : Nat) (x2 : Nat) (h : Hp) : Ct id G RL l yX3_isAround (ws_ yX3_isAround cX3_isAround 3 (some .boolean)) 43 4063 finI [vr x0, vr x1, vr x2] h (g_Tree_isAround x0 x1 x2 h) := by
  refine Ct.of (Pl := plA) [(0, vr x0), (1, vr x1), (2, vr x2)] (by decide) hL rfl (Nat.le_of_ble_eq_true rfl) ?_
  intro E C e6 hf hlo e1 e2 e3 e4 e5
  subst e1; subst e2; subst e3
  replace C : Cx E cX3_isAround (some .boolean) RX3 := C
  replace e6 : (eMe E).name = "isAround" := e6
  unfold g_Tree_isAround
  refine s_aload_n C dX3_isAround_0 0 rfl rfl ?_
  refine s_aload_n C dX3_isAround_1 1 rfl rfl ?_
  refine s_getI [510] C (fl1 ⟨fo_X3_178_10, rfl⟩) (pl_of e4 rfl) dX3_isAround_2 fun a1 => ?_
  refine s_dk 8 finI [] (fun r2 h3 => ?_) (fun hk => s_dsp 3 (fun ht => c_V C 1 [] 3 RX3 ro_3 (ct_g_Tree_level hL hJ x0 a1 h) (lw_V q753 q754 q755 q114 q756) nd_X3_level rfl (le_fr hf rfl) (le_fr hlo rfl) rfl (Nat.le_of_ble_eq_true rfl) dX3_isAround_5 hk ht) s_dsp0)
  refine s_aload_n C dX3_isAround_8 0 rfl rfl ?_
  refine s_aload_n C dX3_isAround_9 2 rfl rfl ?_
  refine s_getI [510] C (fl1 ⟨fo_X3_178_10, rfl⟩) (pl_of e4 rfl) dX3_isAround_10 fun a4 => ?_
  refine s_dk 16 finI [.int r2] (fun r5 h6 => ?_) (fun hk => s_dsp 3 (fun ht => c_V C 1 [.int r2] 3 RX3 ro_3 (ct_g_Tree_level hL hJ x0 a4 h3) (lw_V q753 q754 q755 q114 q756) nd_X3_level rfl (le_fr hf rfl) (le_fr hlo rfl) rfl (Nat.le_of_ble_eq_true rfl) dX3_isAround_13 hk ht) s_dsp0)
  have hj43 : ∀ (y0 : Int32) (h7 : Hp), Sim id E (QM id E finI) h7 43 [] [.int y0] (g_Tree_isAround_j43 y0 h7) := by
    intro y0 h7
    exact s_zret 2 C (by decide) (by decide) rfl dX3_isAround_43
  have hj42 : ∀  (h8 : Hp), Sim id E (QM id E finI) h8 42 [] [] (g_Tree_isAround_j42 h8) := by
    intro h8
    refine s_iconst C (0 : Int32) dX3_isAround_42 (by decide) ?_
    exact hj43 _ _
  refine s_icmp_ge C 42 dX3_isAround_16 (by decide) ?_ ?_
  · refine Sim.keep [] rfl ?_
    exact hj42 _
  · refine s_aload_n C dX3_isAround_19 0 rfl rfl ?_
    refine s_aload_n C dX3_isAround_20 2 rfl rfl ?_
    refine s_getI [510] C (fl1 ⟨fo_X3_169_10, rfl⟩) (pl_of e4 rfl) dX3_isAround_21 fun a9 => ?_
    refine s_dk 27 finI [] (fun r10 h11 => ?_) (fun hk => s_dsp 3 (fun ht => c_V C 1 [] 3 RX3 ro_3 (ct_g_Tree_level hL hJ x0 a9 h6) (lw_V q753 q754 q755 q114 q756) nd_X3_level rfl (le_fr hf rfl) (le_fr hlo rfl) rfl (Nat.le_of_ble_eq_true rfl) dX3_isAround_24 hk ht) s_dsp0)
    refine s_aload_n C dX3_isAround_27 0 rfl rfl ?_
    refine s_aload_n C dX3_isAround_28 1 rfl rfl ?_
    refine s_getI [510] C (fl1 ⟨fo_X3_169_10, rfl⟩) (pl_of e4 rfl) dX3_isAround_29 fun a12 => ?_
    refine s_dk 35 finI [.int r10] (fun r13 h14 => ?_) (fun hk => s_dsp 3 (fun ht => c_V C 1 [.int r10] 3 RX3 ro_3 (ct_g_Tree_level hL hJ x0 a12 h11) (lw_V q753 q754 q755 q114 q756) nd_X3_level rfl (le_fr hf rfl) (le_fr hlo rfl) rfl (Nat.le_of_ble_eq_true rfl) dX3_isAround_32 hk ht) s_dsp0)
    refine s_icmp_ge C 42 dX3_isAround_35 (by decide) ?_ ?_
    · refine Sim.keep [] rfl ?_
      exact hj42 _
    · refine s_iconst C (1 : Int32) dX3_isAround_38 (by decide) ?_
      refine s_goto C 43 dX3_isAround_39 (by decide) ?_
      refine Sim.keep [] rfl ?_
      exact hj43 _ _

def g_Tree_offend_j44 (y0 : Int32) (h9 : Hp) : Option (Int32 × Hp) :=
  some (y0, h9)
def g_Tree_offend_j39  (h10 : Hp) : Option (Int32 × Hp) :=
  g_Tree_offend_j44 (2 : Int32) h10
def g_Tree_offend (x0 : Nat) (x1 : Nat) (x2 : Nat) (h : Hp) : Option (Int32 × Hp) :=
  (getI [510] 1 x1 h).bind fun a1 =>
  bn (dsp (tg h x0 % 500) none [(3, g_Tree_level x0 a1 h)]) fun r2 h3 =>
  (getI [510] 1 x2 h3).bind fun a4 =>
  bn (dsp (tg h3 x0 % 500) none [(3, g_Tree_level x0 a4 h3)]) fun r5 h6 =>
  if r2 = r5 then
    some ((1 : Int32), h6)
  else
    bn (dsp (tg h6 x0 % 500) none [(3, g_Tree_isAround x0 x1 x2 h6)]) fun r7 h8 =>
    if r7 = 0 then
      bn (dsp (tg h8 x0 % 500) none [(3, g_Tree_isAround x0 x2 x1 h8)]) fun r11 h12 =>
      if r11 = 0 then
        g_Tree_offend_j44 (0 : Int32) h12
      else
        g_Tree_offend_j39 h12
    else
      g_Tree_offend_j39 h8
theorem ct_g_Tree_offend {G : Gx} {RL : Lv} {l : Launch} (hL : LvA G RL plA) (hJ : JK G RL l) (x0 : Nat) (x1 : Nat) (x2 : Nat) (h : Hp) : Ct id G RL l yX3_offend (ws_ yX3_offend cX3_offend 3 (some .int)) 44 4085 finI [vr x0, vr x1, vr x2] h (g_Tree_offend x0 x1 x2 h) := by
  refine Ct.of (Pl := plA) [(0, vr x0), (1, vr x1), (2, vr x2)] (by decide) hL rfl (Nat.le_of_ble_eq_true rfl) ?_
  intro E C e6 hf hlo e1 e2 e3 e4 e5
  subst e1; subst e2; subst e3
  replace C : Cx E cX3_offend (some .int) RX3 := C
  replace e6 : (eMe E).name = "offend" := e6
  unfold g_Tree_offend
  refine s_aload_n C dX3_offend_0 0 rfl rfl ?_
  refine s_aload_n C dX3_offend_1 1 rfl rfl ?_
  refine s_getI [510] C (fl1 ⟨fo_X3_169_10, rfl⟩) (pl_of e4 rfl) dX3_offend_2 fun a1 => ?_
  refine s_dk 8 finI [] (fun r2 h3 => ?_) (fun hk => s_dsp 3 (fun ht => c_V C 1 [] 3 RX3 ro_3 (ct_g_Tree_level hL hJ x0 a1 h) (lw_V q753 q754 q755 q114 q756) nd_X3_level rfl (le_fr hf rfl) (le_fr hlo rfl) rfl (Nat.le_of_ble_eq_true rfl) dX3_offend_5 hk ht) s_dsp0)
  refine s_aload_n C dX3_offend_8 0 rfl rfl ?_
  refine s_aload_n C dX3_offend_9 2 rfl rfl ?_
  refine s_getI [510] C (fl1 ⟨fo_X3_169_10, rfl⟩) (pl_of e4 rfl) dX3_offend_10 fun a4 => ?_
  refine s_dk 16 finI [.int r2] (fun r5 h6 => ?_) (fun hk => s_dsp 3 (fun ht => c_V C 1 [.int r2] 3 RX3 ro_3 (ct_g_Tree_level hL hJ x0 a4 h3) (lw_V q753 q754 q755 q114 q756) nd_X3_level rfl (le_fr hf rfl) (le_fr hlo rfl) rfl (Nat.le_of_ble_eq_true rfl) dX3_offend_13 hk ht) s_dsp0)
  refine s_icmp_ne C 21 dX3_offend_16 (by decide) ?_ ?_
  · refine s_aload_n C dX3_offend_21 0 rfl rfl ?_
    refine s_aload_n C dX3_offend_22 1 rfl rfl ?_
    refine s_aload_n C dX3_offend_23 2 rfl rfl ?_
    refine s_dk 27 finI [] (fun r7 h8 => ?_) (fun hk => s_dsp 3 (fun ht => c_V C 2 [] 3 RX3 ro_3 (ct_g_Tree_isAround hL hJ x0 x1 x2 h6) (lw_V q762 q764 qs6 q114 q765) nd_X3_isAround rfl (le_fr hf rfl) (le_fr hlo rfl) rfl (Nat.le_of_ble_eq_true rfl) dX3_offend_24 hk ht) s_dsp0)
    have hj44 : ∀ (y0 : Int32) (h9 : Hp), Sim id E (QM id E finI) h9 44 [] [.int y0] (g_Tree_offend_j44 y0 h9) := by
      intro y0 h9
      exact s_iret C rfl dX3_offend_44
    have hj39 : ∀  (h10 : Hp), Sim id E (QM id E finI) h10 39 [] [] (g_Tree_offend_j39 h10) := by
      intro h10
      refine s_iconst C (2 : Int32) dX3_offend_39 (by decide) ?_
      refine s_goto C 44 dX3_offend_40 (by decide) ?_
      exact hj44 _ _
    refine s_if_ne C 39 dX3_offend_27 (by decide) ?_ ?_
    · refine Sim.keep [] rfl ?_
      exact hj39 _
    · refine s_aload_n C dX3_offend_30 0 rfl rfl ?_
      refine s_aload_n C dX3_offend_31 2 rfl rfl ?_
      refine s_aload_n C dX3_offend_32 1 rfl rfl ?_
      refine s_dk 36 finI [] (fun r11 h12 => ?_) (fun hk => s_dsp 3 (fun ht => c_V C 2 [] 3 RX3 ro_3 (ct_g_Tree_isAround hL hJ x0 x2 x1 h8) (lw_V q762 q764 qs6 q114 q765) nd_X3_isAround rfl (le_fr hf rfl) (le_fr hlo rfl) rfl (Nat.le_of_ble_eq_true rfl) dX3_offend_33 hk ht) s_dsp0)
      refine s_if_eq C 43 dX3_offend_36 (by decide) ?_ ?_
      · refine s_iconst C (0 : Int32) dX3_offend_43 (by decide) ?_
        refine Sim.keep [] rfl ?_
        exact hj44 _ _
      · refine Sim.keep [] rfl ?_
        exact hj39 _
  · refine s_iconst C (1 : Int32) dX3_offend_19 (by decide) ?_
    exact s_iret C rfl dX3_offend_20

def g_Judged_findOffenders_j186 (rec30 : Int32 → Hp → Option (Unit × Hp)) (x0 : Nat) (x1 : Int32) (x2 : Int32) (h23 : Hp) : Option (Unit × Hp) :=
  rec30 (x2 + (1 : Int32)) h23
def g_Judged_findOffenders_L30 (rec12 : Int32 → Hp → Option (Unit × Hp)) (x0 : Nat) (x1 : Int32) : Int32 → Hp → Option (Unit × Hp) :=
  lp FU fun rec30 v30 h8 =>
    (getR [4] 0 x0 h8).bind fun a9 =>
    (getR [3] 2 a9 h8).bind fun a10 =>
    bn (dsp (tg h8 a10 % 500) none [(25, oAlSize a10 h8)]) fun r11 h12 =>
    if r11 ≤ v30 then
      rec12 (x1 + (1 : Int32)) h12
    else
      (getR [4] 0 x0 h12).bind fun a13 =>
      (getR [3] 2 a13 h12).bind fun a14 =>
      bn (dsp (tg h12 a14 % 500) none [(25, oAlGet a14 x1 h12)]) fun r15 h16 =>
      (cst [12] r15 h16).bind fun _ =>
      (getI [512] 0 r15 h16).bind fun a17 =>
      (getR [4] 0 x0 h16).bind fun a18 =>
      (getR [3] 2 a18 h16).bind fun a19 =>
      bn (dsp (tg h16 a19 % 500) none [(25, oAlGet a19 v30 h16)]) fun r20 h21 =>
      (cst [12] r20 h21).bind fun _ =>
      (getI [512] 0 r20 h21).bind fun a22 =>
      if a17 = a22 then
        (getR [4] 0 x0 h21).bind fun a24 =>
        (getR [4] 0 x0 h21).bind fun a25 =>
        (getR [3] 2 a25 h21).bind fun a26 =>
        bn (dsp (tg h21 a26 % 500) none [(25, oAlGet a26 x1 h21)]) fun r27 h28 =>
        (cst [12] r27 h28).bind fun _ =>
        (getR [512] 1 r27 h28).bind fun a29 =>
        (getR [4] 0 x0 h28).bind fun a30 =>
        (getR [3] 2 a30 h28).bind fun a31 =>
        bn (dsp (tg h28 a31 % 500) none [(25, oAlGet a31 v30 h28)]) fun r32 h33 =>
        (cst [12] r32 h33).bind fun _ =>
        (getR [512] 1 r32 h33).bind fun a34 =>
        bn (dsp (tg h33 a24 % 500) none [(3, g_Tree_offend a24 a29 a34 h33)]) fun r35 h36 =>
        if r35 = 0 then
          g_Judged_findOffenders_j186 rec30 x0 x1 v30 h36
        else
          (getI [4] 3 x0 h36).bind fun a37 =>
          (getR [4] 0 x0 h36).bind fun a38 =>
          (getR [3] 2 a38 h36).bind fun a39 =>
          bn (dsp (tg h36 a39 % 500) none [(25, oAlGet a39 x1 h36)]) fun r40 h41 =>
          (cst [12] r40 h41).bind fun _ =>
          (getI [512] 0 r40 h41).bind fun a42 =>
          (putI [4] 0 3 x0 (a37 ||| ((1 : Int32) <<< (a42 &&& 31))) h41).bind fun h43 =>
          (getR [4] 10 x0 h43).bind fun a44 =>
          (getI [4] 5 x0 h43).bind fun a45 =>
          (astI [200] 0 a44 a45 x1 h43).bind fun h46 =>
          (getR [4] 11 x0 h46).bind fun a47 =>
          (getI [4] 5 x0 h46).bind fun a48 =>
          (astI [200] 0 a47 a48 v30 h46).bind fun h49 =>
          (getI [4] 5 x0 h49).bind fun a50 =>
          (putI [4] 0 5 x0 (a50 + (1 : Int32)) h49).bind fun h51 =>
          g_Judged_findOffenders_j186 rec30 x0 x1 v30 h51
      else
        g_Judged_findOffenders_j186 rec30 x0 x1 v30 h21
def g_Judged_findOffenders_L12 (x0 : Nat) : Int32 → Hp → Option (Unit × Hp) :=
  lp FU fun rec12 v12 h3 =>
    (getR [4] 0 x0 h3).bind fun a4 =>
    (getR [3] 2 a4 h3).bind fun a5 =>
    bn (dsp (tg h3 a5 % 500) none [(25, oAlSize a5 h3)]) fun r6 h7 =>
    if r6 ≤ v12 then
      some ((), h7)
    else
      bd ((v12 + (1 : Int32))) fun a52 =>
      g_Judged_findOffenders_L30 rec12 x0 v12 a52 h7
def g_Judged_findOffenders (x0 : Nat) (h : Hp) : Option (Unit × Hp) :=
  (putI [4] 0 3 x0 (0 : Int32) h).bind fun h1 =>
  (putI [4] 0 5 x0 (0 : Int32) h1).bind fun h2 =>
  g_Judged_findOffenders_L12 x0 (0 : Int32) h2
theorem ct_g_Judged_findOffenders {G : Gx} {RL : Lv} {l : Launch} (hL : LvA G RL plA) (hJ : JK G RL l) (x0 : Nat) (h : Hp) : Ct id G RL l yX4_findOffenders (ws_ yX4_findOffenders cX4_findOffenders 3 none) 45 4107 finV [vr x0] h (g_Judged_findOffenders x0 h) := by
  refine Ct.of (Pl := plA) [(0, vr x0)] (by decide) hL rfl (Nat.le_of_ble_eq_true rfl) ?_
  intro E C e6 hf hlo e1 e2 e3 e4 e5
  subst e1; subst e2; subst e3
  replace C : Cx E cX4_findOffenders none RX4 := C
  replace e6 : (eMe E).name = "findOffenders" := e6
  unfold g_Judged_findOffenders
  refine s_aload_n C dX4_findOffenders_0 0 rfl rfl ?_
  refine s_iconst C (0 : Int32) dX4_findOffenders_1 (by decide) ?_
  refine s_putI [4] 0 C (by decide) (by decide) (fl1 ⟨⟨by decide, fo_X4_69_4, rfl⟩, rfl⟩) (pl_of e4 rfl) (fl1 (Or.inl rfl)) dX4_findOffenders_2 fun h1 => ?_
  refine s_aload_n C dX4_findOffenders_5 0 rfl rfl ?_
  refine s_iconst C (0 : Int32) dX4_findOffenders_6 (by decide) ?_
  refine s_putI [4] 0 C (by decide) (by decide) (fl1 ⟨⟨by decide, fo_X4_72_4, rfl⟩, rfl⟩) (pl_of e4 rfl) (fl1 (Or.inl rfl)) dX4_findOffenders_7 fun h2 => ?_
  refine s_iconst C (0 : Int32) dX4_findOffenders_10 (by decide) ?_
  have hL12 : ∀ (x0 : Nat) (v12 : Int32) (h3 : Hp), Sim id E (QM id E finV) h3 12 [(0, vr x0), (1, .int v12)] [] (g_Judged_findOffenders_L12 x0 v12 h3) := by
    intro x0 v12 h3
    refine Sim.loop (fun v12 => [(0, vr x0), (1, .int v12)]) (fun _ => []) (fun rec12 hr12 v12 h3 => ?_) FU v12 h3
    refine s_iload_n C dX4_findOffenders_12 1 rfl rfl ?_
    refine s_aload_n C dX4_findOffenders_13 0 rfl rfl ?_
    refine s_getR [4] C (fl1 ⟨fo_X4_24_4, rfl⟩) (pl_of e4 rfl) dX4_findOffenders_14 fun a4 => ?_
    refine s_getR [3] C (fl1 ⟨fo_X4_75_3, rfl⟩) (pl_of e4 rfl) dX4_findOffenders_17 fun a5 => ?_
    refine s_dk 23 finI [.int v12] (fun r6 h7 => ?_) (fun hk => s_dsp 25 (fun ht => c_V C 0 [.int v12] 25 RJ2 ro_25 (jk_15 hJ a5 h3) (lw_V q730 q731 q732 q111 q733) nd_J2_size rfl (le_fr hf rfl) (le_fr hlo rfl) rfl (Nat.le_of_ble_eq_true rfl) dX4_findOffenders_20 hk ht) s_dsp0)
    refine s_icmp_ge C 198 dX4_findOffenders_23 (by decide) ?_ ?_
    · exact s_vret C rfl dX4_findOffenders_198
    · refine s_iload_n C dX4_findOffenders_26 1 rfl rfl ?_
      refine s_iconst C (1 : Int32) dX4_findOffenders_27 (by decide) ?_
      refine s_iadd C dX4_findOffenders_28 ?_
      have hL30 : ∀ (x1 : Int32) (v30 : Int32) (h8 : Hp), Sim id E (QM id E finV) h8 30 [(0, vr x0), (1, .int x1), (2, .int v30)] [] (g_Judged_findOffenders_L30 rec12 x0 x1 v30 h8) := by
        intro x1 v30 h8
        refine Sim.loop (fun v30 => [(0, vr x0), (1, .int x1), (2, .int v30)]) (fun _ => []) (fun rec30 hr30 v30 h8 => ?_) FU v30 h8
        refine s_iload_n C dX4_findOffenders_30 2 rfl rfl ?_
        refine s_aload_n C dX4_findOffenders_31 0 rfl rfl ?_
        refine s_getR [4] C (fl1 ⟨fo_X4_24_4, rfl⟩) (pl_of e4 rfl) dX4_findOffenders_32 fun a9 => ?_
        refine s_getR [3] C (fl1 ⟨fo_X4_75_3, rfl⟩) (pl_of e4 rfl) dX4_findOffenders_35 fun a10 => ?_
        refine s_dk 41 finI [.int v30] (fun r11 h12 => ?_) (fun hk => s_dsp 25 (fun ht => c_V C 0 [.int v30] 25 RJ2 ro_25 (jk_15 hJ a10 h8) (lw_V q730 q731 q732 q111 q733) nd_J2_size rfl (le_fr hf rfl) (le_fr hlo rfl) rfl (Nat.le_of_ble_eq_true rfl) dX4_findOffenders_38 hk ht) s_dsp0)
        refine s_icmp_ge C 192 dX4_findOffenders_41 (by decide) ?_ ?_
        · refine s_iinc (la' := [(1, .int (x1 + (1 : Int32))), (0, vr x0), (2, .int v30)]) C 1 dX4_findOffenders_192 rfl rfl (lt_nl e5 rfl) rfl ?_
          refine s_goto C 12 dX4_findOffenders_195 (by decide) ?_
          refine Sim.keep [1, 0] rfl ?_
          exact hr12 _ _
        · refine s_aload_n C dX4_findOffenders_44 0 rfl rfl ?_
          refine s_getR [4] C (fl1 ⟨fo_X4_24_4, rfl⟩) (pl_of e4 rfl) dX4_findOffenders_45 fun a13 => ?_
          refine s_getR [3] C (fl1 ⟨fo_X4_75_3, rfl⟩) (pl_of e4 rfl) dX4_findOffenders_48 fun a14 => ?_
          refine s_iload_n C dX4_findOffenders_51 1 rfl rfl ?_
          refine s_dk 55 finR [] (fun r15 h16 => ?_) (fun hk => s_dsp 25 (fun ht => c_V C 1 [] 25 RJ2 ro_25 (jk_14 hJ a14 x1 h12) (lw_V q734 q735 q736 q111 q737) nd_J2_get rfl (le_fr hf rfl) (le_fr hlo rfl) rfl (Nat.le_of_ble_eq_true rfl) dX4_findOffenders_52 hk ht) s_dsp0)
          refine s_cast [12] "FinalLinks$Vote" C q748 (fl1 ao_FinalLinks_Vote_12) dX4_findOffenders_55 ?_
          refine s_getI [512] C (fl1 ⟨fo_X4_88_12, rfl⟩) (pl_of e4 rfl) dX4_findOffenders_58 fun a17 => ?_
          refine s_aload_n C dX4_findOffenders_61 0 rfl rfl ?_
          refine s_getR [4] C (fl1 ⟨fo_X4_24_4, rfl⟩) (pl_of e4 rfl) dX4_findOffenders_62 fun a18 => ?_
          refine s_getR [3] C (fl1 ⟨fo_X4_75_3, rfl⟩) (pl_of e4 rfl) dX4_findOffenders_65 fun a19 => ?_
          refine s_iload_n C dX4_findOffenders_68 2 rfl rfl ?_
          refine s_dk 72 finR [.int a17] (fun r20 h21 => ?_) (fun hk => s_dsp 25 (fun ht => c_V C 1 [.int a17] 25 RJ2 ro_25 (jk_14 hJ a19 v30 h16) (lw_V q734 q735 q736 q111 q737) nd_J2_get rfl (le_fr hf rfl) (le_fr hlo rfl) rfl (Nat.le_of_ble_eq_true rfl) dX4_findOffenders_69 hk ht) s_dsp0)
          refine s_cast [12] "FinalLinks$Vote" C q748 (fl1 ao_FinalLinks_Vote_12) dX4_findOffenders_72 ?_
          refine s_getI [512] C (fl1 ⟨fo_X4_88_12, rfl⟩) (pl_of e4 rfl) dX4_findOffenders_75 fun a22 => ?_
          have hj186 : ∀ (x2 : Int32) (h23 : Hp), Sim id E (QM id E finV) h23 186 [(0, vr x0), (1, .int x1), (2, .int x2)] [] (g_Judged_findOffenders_j186 rec30 x0 x1 x2 h23) := by
            intro x2 h23
            refine s_iinc (la' := [(2, .int (x2 + (1 : Int32))), (0, vr x0), (1, .int x1)]) C 2 dX4_findOffenders_186 rfl rfl (lt_nl e5 rfl) rfl ?_
            refine s_goto C 30 dX4_findOffenders_189 (by decide) ?_
            refine Sim.keep [1, 2, 0] rfl ?_
            exact hr30 _ _
          refine s_icmp_ne C 186 dX4_findOffenders_78 (by decide) ?_ ?_
          · exact hj186 _ _
          · refine s_aload_n C dX4_findOffenders_81 0 rfl rfl ?_
            refine s_getR [4] C (fl1 ⟨fo_X4_24_4, rfl⟩) (pl_of e4 rfl) dX4_findOffenders_82 fun a24 => ?_
            refine s_aload_n C dX4_findOffenders_85 0 rfl rfl ?_
            refine s_getR [4] C (fl1 ⟨fo_X4_24_4, rfl⟩) (pl_of e4 rfl) dX4_findOffenders_86 fun a25 => ?_
            refine s_getR [3] C (fl1 ⟨fo_X4_75_3, rfl⟩) (pl_of e4 rfl) dX4_findOffenders_89 fun a26 => ?_
            refine s_iload_n C dX4_findOffenders_92 1 rfl rfl ?_
            refine s_dk 96 finR [vr a24] (fun r27 h28 => ?_) (fun hk => s_dsp 25 (fun ht => c_V C 1 [vr a24] 25 RJ2 ro_25 (jk_14 hJ a26 x1 h21) (lw_V q734 q735 q736 q111 q737) nd_J2_get rfl (le_fr hf rfl) (le_fr hlo rfl) rfl (Nat.le_of_ble_eq_true rfl) dX4_findOffenders_93 hk ht) s_dsp0)
            refine s_cast [12] "FinalLinks$Vote" C q748 (fl1 ao_FinalLinks_Vote_12) dX4_findOffenders_96 ?_
            refine s_getR [512] C (fl1 ⟨fo_X4_91_12, rfl⟩) (pl_of e4 rfl) dX4_findOffenders_99 fun a29 => ?_
            refine s_aload_n C dX4_findOffenders_102 0 rfl rfl ?_
            refine s_getR [4] C (fl1 ⟨fo_X4_24_4, rfl⟩) (pl_of e4 rfl) dX4_findOffenders_103 fun a30 => ?_
            refine s_getR [3] C (fl1 ⟨fo_X4_75_3, rfl⟩) (pl_of e4 rfl) dX4_findOffenders_106 fun a31 => ?_
            refine s_iload_n C dX4_findOffenders_109 2 rfl rfl ?_
            refine s_dk 113 finR [vr a29, vr a24] (fun r32 h33 => ?_) (fun hk => s_dsp 25 (fun ht => c_V C 1 [vr a29, vr a24] 25 RJ2 ro_25 (jk_14 hJ a31 v30 h28) (lw_V q734 q735 q736 q111 q737) nd_J2_get rfl (le_fr hf rfl) (le_fr hlo rfl) rfl (Nat.le_of_ble_eq_true rfl) dX4_findOffenders_110 hk ht) s_dsp0)
            refine s_cast [12] "FinalLinks$Vote" C q748 (fl1 ao_FinalLinks_Vote_12) dX4_findOffenders_113 ?_
            refine s_getR [512] C (fl1 ⟨fo_X4_91_12, rfl⟩) (pl_of e4 rfl) dX4_findOffenders_116 fun a34 => ?_
            refine s_dk 122 finI [] (fun r35 h36 => ?_) (fun hk => s_dsp 3 (fun ht => c_V C 2 [] 3 RX3 ro_3 (ct_g_Tree_offend hL hJ a24 a29 a34 h33) (lw_V q749 q750 q751 q114 q752) nd_X3_offend rfl (le_fr hf rfl) (le_fr hlo rfl) rfl (Nat.le_of_ble_eq_true rfl) dX4_findOffenders_119 hk ht) s_dsp0)
            refine s_if_ne C 128 dX4_findOffenders_122 (by decide) ?_ ?_
            · refine s_aload_n C dX4_findOffenders_128 0 rfl rfl ?_
              refine s_dup C dX4_findOffenders_129 rfl ?_
              refine s_getI [4] C (fl1 ⟨fo_X4_69_4, rfl⟩) (pl_of e4 rfl) dX4_findOffenders_130 fun a37 => ?_
              refine s_iconst C (1 : Int32) dX4_findOffenders_133 (by decide) ?_
              refine s_aload_n C dX4_findOffenders_134 0 rfl rfl ?_
              refine s_getR [4] C (fl1 ⟨fo_X4_24_4, rfl⟩) (pl_of e4 rfl) dX4_findOffenders_135 fun a38 => ?_
              refine s_getR [3] C (fl1 ⟨fo_X4_75_3, rfl⟩) (pl_of e4 rfl) dX4_findOffenders_138 fun a39 => ?_
              refine s_iload_n C dX4_findOffenders_141 1 rfl rfl ?_
              refine s_dk 145 finR [.int (1 : Int32), .int a37, vr x0] (fun r40 h41 => ?_) (fun hk => s_dsp 25 (fun ht => c_V C 1 [.int (1 : Int32), .int a37, vr x0] 25 RJ2 ro_25 (jk_14 hJ a39 x1 h36) (lw_V q734 q735 q736 q111 q737) nd_J2_get rfl (le_fr hf rfl) (le_fr hlo rfl) rfl (Nat.le_of_ble_eq_true rfl) dX4_findOffenders_142 hk ht) s_dsp0)
              refine s_cast [12] "FinalLinks$Vote" C q748 (fl1 ao_FinalLinks_Vote_12) dX4_findOffenders_145 ?_
              refine s_getI [512] C (fl1 ⟨fo_X4_88_12, rfl⟩) (pl_of e4 rfl) dX4_findOffenders_148 fun a42 => ?_
              refine s_ishl C (a42 &&& 31) dX4_findOffenders_151 rfl ?_
              refine s_ior C dX4_findOffenders_152 ?_
              refine s_putI [4] 0 C (by decide) (by decide) (fl1 ⟨⟨by decide, fo_X4_69_4, rfl⟩, rfl⟩) (pl_of e4 rfl) (fl1 (Or.inl rfl)) dX4_findOffenders_153 fun h43 => ?_
              refine s_aload_n C dX4_findOffenders_156 0 rfl rfl ?_
              refine s_getR [4] C (fl1 ⟨fo_X4_18_4, rfl⟩) (pl_of e4 rfl) dX4_findOffenders_157 fun a44 => ?_
              refine s_aload_n C dX4_findOffenders_160 0 rfl rfl ?_
              refine s_getI [4] C (fl1 ⟨fo_X4_72_4, rfl⟩) (pl_of e4 rfl) dX4_findOffenders_161 fun a45 => ?_
              refine s_iload_n C dX4_findOffenders_164 1 rfl rfl ?_
              refine s_iast [200] C (fl1 ⟨by decide, rfl⟩) (pl_of e4 rfl) dX4_findOffenders_165 fun h46 => ?_
              refine s_aload_n C dX4_findOffenders_166 0 rfl rfl ?_
              refine s_getR [4] C (fl1 ⟨fo_X4_21_4, rfl⟩) (pl_of e4 rfl) dX4_findOffenders_167 fun a47 => ?_
              refine s_aload_n C dX4_findOffenders_170 0 rfl rfl ?_
              refine s_getI [4] C (fl1 ⟨fo_X4_72_4, rfl⟩) (pl_of e4 rfl) dX4_findOffenders_171 fun a48 => ?_
              refine s_iload_n C dX4_findOffenders_174 2 rfl rfl ?_
              refine s_iast [200] C (fl1 ⟨by decide, rfl⟩) (pl_of e4 rfl) dX4_findOffenders_175 fun h49 => ?_
              refine s_aload_n C dX4_findOffenders_176 0 rfl rfl ?_
              refine s_dup C dX4_findOffenders_177 rfl ?_
              refine s_getI [4] C (fl1 ⟨fo_X4_72_4, rfl⟩) (pl_of e4 rfl) dX4_findOffenders_178 fun a50 => ?_
              refine s_iconst C (1 : Int32) dX4_findOffenders_181 (by decide) ?_
              refine s_iadd C dX4_findOffenders_182 ?_
              refine s_putI [4] 0 C (by decide) (by decide) (fl1 ⟨⟨by decide, fo_X4_72_4, rfl⟩, rfl⟩) (pl_of e4 rfl) (fl1 (Or.inl rfl)) dX4_findOffenders_183 fun h51 => ?_
              exact hj186 _ _
            · refine s_goto C 186 dX4_findOffenders_125 (by decide) ?_
              exact hj186 _ _
      refine s_bdi fun a52 => ?_
      refine s_istore_n (la' := [(2, .int a52), (0, vr x0), (1, .int v12)]) C 2 dX4_findOffenders_29 rfl (lt_nl e5 rfl) rfl ?_
      refine Sim.keep [1, 2, 0] rfl ?_
      exact hL30 _ _ _
  refine s_istore_n (la' := [(1, .int (0 : Int32)), (0, vr x0)]) C 1 dX4_findOffenders_11 rfl (lt_nl e5 rfl) rfl ?_
  refine Sim.keep [1, 0] rfl ?_
  exact hL12 _ _ _

def g_Tree_isAhead_j32 (y0 : Int32) (h5 : Hp) : Option (Int32 × Hp) :=
  if nrw 2 y0 = y0 then some (y0, h5) else none
def g_Tree_isAhead_j31  (h6 : Hp) : Option (Int32 × Hp) :=
  g_Tree_isAhead_j32 (0 : Int32) h6
def g_Tree_isAhead (x0 : Nat) (x1 : Int32) (x2 : Int32) (h : Hp) : Option (Int32 × Hp) :=
  bn (dsp (tg h x0 % 500) none [(3, g_Tree_height x0 x1 h)]) fun r1 h2 =>
  bn (dsp (tg h2 x0 % 500) none [(3, g_Tree_height x0 x2 h2)]) fun r3 h4 =>
  if r3 ≤ r1 then
    g_Tree_isAhead_j31 h4
  else
    bn (dsp (tg h4 x0 % 500) none [(3, g_Tree_height x0 x1 h4)]) fun r7 h8 =>
    bn (dsp (tg h8 x0 % 500) none [(3, g_Tree_at x0 x2 r7 h8)]) fun r9 h10 =>
    if r9 = x1 then
      g_Tree_isAhead_j32 (1 : Int32) h10
    else
      g_Tree_isAhead_j31 h10
theorem ct_g_Tree_isAhead {G : Gx} {RL : Lv} {l : Launch} (hL : LvA G RL plA) (hJ : JK G RL l) (x0 : Nat) (x1 : Int32) (x2 : Int32) (h : Hp) : Ct id G RL l yX3_isAhead (ws_ yX3_isAhead cX3_isAhead 3 (some .boolean)) 43 4065 finI [vr x0, .int x1, .int x2] h (g_Tree_isAhead x0 x1 x2 h) := by
  refine Ct.of (Pl := plA) [(0, vr x0), (1, .int x1), (2, .int x2)] (by decide) hL rfl (Nat.le_of_ble_eq_true rfl) ?_
  intro E C e6 hf hlo e1 e2 e3 e4 e5
  subst e1; subst e2; subst e3
  replace C : Cx E cX3_isAhead (some .boolean) RX3 := C
  replace e6 : (eMe E).name = "isAhead" := e6
  unfold g_Tree_isAhead
  refine s_aload_n C dX3_isAhead_0 0 rfl rfl ?_
  refine s_iload_n C dX3_isAhead_1 1 rfl rfl ?_
  refine s_dk 5 finI [] (fun r1 h2 => ?_) (fun hk => s_dsp 3 (fun ht => c_V C 1 [] 3 RX3 ro_3 (ct_g_Tree_height hL hJ x0 x1 h) (lw_V q757 q758 q759 q114 q760) nd_X3_height rfl (le_fr hf rfl) (le_fr hlo rfl) rfl (Nat.le_of_ble_eq_true rfl) dX3_isAhead_2 hk ht) s_dsp0)
  refine s_aload_n C dX3_isAhead_5 0 rfl rfl ?_
  refine s_iload_n C dX3_isAhead_6 2 rfl rfl ?_
  refine s_dk 10 finI [.int r1] (fun r3 h4 => ?_) (fun hk => s_dsp 3 (fun ht => c_V C 1 [.int r1] 3 RX3 ro_3 (ct_g_Tree_height hL hJ x0 x2 h2) (lw_V q757 q758 q759 q114 q760) nd_X3_height rfl (le_fr hf rfl) (le_fr hlo rfl) rfl (Nat.le_of_ble_eq_true rfl) dX3_isAhead_7 hk ht) s_dsp0)
  have hj32 : ∀ (y0 : Int32) (h5 : Hp), Sim id E (QM id E finI) h5 32 [] [.int y0] (g_Tree_isAhead_j32 y0 h5) := by
    intro y0 h5
    exact s_zret 2 C (by decide) (by decide) rfl dX3_isAhead_32
  have hj31 : ∀  (h6 : Hp), Sim id E (QM id E finI) h6 31 [] [] (g_Tree_isAhead_j31 h6) := by
    intro h6
    refine s_iconst C (0 : Int32) dX3_isAhead_31 (by decide) ?_
    exact hj32 _ _
  refine s_icmp_ge C 31 dX3_isAhead_10 (by decide) ?_ ?_
  · refine Sim.keep [] rfl ?_
    exact hj31 _
  · refine s_aload_n C dX3_isAhead_13 0 rfl rfl ?_
    refine s_iload_n C dX3_isAhead_14 2 rfl rfl ?_
    refine s_aload_n C dX3_isAhead_15 0 rfl rfl ?_
    refine s_iload_n C dX3_isAhead_16 1 rfl rfl ?_
    refine s_dk 20 finI [.int x2, vr x0] (fun r7 h8 => ?_) (fun hk => s_dsp 3 (fun ht => c_V C 1 [.int x2, vr x0] 3 RX3 ro_3 (ct_g_Tree_height hL hJ x0 x1 h4) (lw_V q757 q758 q759 q114 q760) nd_X3_height rfl (le_fr hf rfl) (le_fr hlo rfl) rfl (Nat.le_of_ble_eq_true rfl) dX3_isAhead_17 hk ht) s_dsp0)
    refine s_dk 23 finI [] (fun r9 h10 => ?_) (fun hk => s_dsp 3 (fun ht => c_V C 2 [] 3 RX3 ro_3 (ct_g_Tree_at hL hJ x0 x2 r7 h8) (lw_V q1313 q1314 q1315 q114 q1316) nd_X3_at rfl (le_fr hf rfl) (le_fr hlo rfl) rfl (Nat.le_of_ble_eq_true rfl) dX3_isAhead_20 hk ht) s_dsp0)
    refine s_iload_n C dX3_isAhead_23 1 rfl rfl ?_
    refine s_icmp_ne C 31 dX3_isAhead_24 (by decide) ?_ ?_
    · refine Sim.keep [] rfl ?_
      exact hj31 _
    · refine s_iconst C (1 : Int32) dX3_isAhead_27 (by decide) ?_
      refine s_goto C 32 dX3_isAhead_28 (by decide) ?_
      refine Sim.keep [] rfl ?_
      exact hj32 _ _

def g_Tree_lookOf_j35 (y0 : Int32) (h6 : Hp) : Option (Int32 × Hp) :=
  some (y0, h6)
def g_Tree_lookOf (x0 : Nat) (x1 : Int32) (h : Hp) : Option (Int32 × Hp) :=
  (getR [3] 5 x0 h).bind fun a1 =>
  bn (oValueOf x1 h) fun r2 h3 =>
  bn (dsp (tg h3 a1 % 500) none [(33, oMpHas [1022, 1033] a1 r2 h3)]) fun r4 h5 =>
  if r4 = 0 then
    g_Tree_lookOf_j35 (-1 : Int32) h5
  else
    (getR [3] 5 x0 h5).bind fun a7 =>
    bn (oValueOf x1 h5) fun r8 h9 =>
    bn (dsp (tg h9 a7 % 500) none [(33, oMpGet 1033 a7 r8 h9)]) fun r10 h11 =>
    (cst [35] r10 h11).bind fun _ =>
    bn (dsp (tg h11 r10 % 500) none [(35, oIntValue r10 h11)]) fun r12 h13 =>
    g_Tree_lookOf_j35 r12 h13
theorem ct_g_Tree_lookOf {G : Gx} {RL : Lv} {l : Launch} (hL : LvA G RL plA) (hJ : JK G RL l) (x0 : Nat) (x1 : Int32) (h : Hp) : Ct id G RL l yX3_lookOf (ws_ yX3_lookOf cX3_lookOf 2 (some .int)) 41 4022 finI [vr x0, .int x1] h (g_Tree_lookOf x0 x1 h) := by
  refine Ct.of (Pl := plA) [(0, vr x0), (1, .int x1)] (by decide) hL rfl (Nat.le_of_ble_eq_true rfl) ?_
  intro E C e6 hf hlo e1 e2 e3 e4 e5
  subst e1; subst e2; subst e3
  replace C : Cx E cX3_lookOf (some .int) RX3 := C
  replace e6 : (eMe E).name = "lookOf" := e6
  unfold g_Tree_lookOf
  refine s_aload_n C dX3_lookOf_0 0 rfl rfl ?_
  refine s_getR [3] C (fl1 ⟨fo_X3_40_3, rfl⟩) (pl_of e4 rfl) dX3_lookOf_1 fun a1 => ?_
  refine s_iload_n C dX3_lookOf_4 1 rfl rfl ?_
  refine c_S C 1 [vr a1] (jk_1 hJ x1 h) (lw_S q1370 q1371 q119 q1372) nd_J9_valueOf.2 rfl (le_fr hf rfl) (le_fr hlo rfl) rfl (Nat.le_of_ble_eq_true rfl) dX3_lookOf_5 fun r2 h3 => ?_
  refine s_dk 11 finI [] (fun r4 h5 => ?_) (fun hk => s_dsp 33 (fun ht => c_V C 1 [] 33 RJ4 ro_33 (jk_23 hJ a1 r2 h3) (lw_V q1389 q1390 q1391 q113 q1394) nd_J4_containsKey rfl (le_fr hf rfl) (le_fr hlo rfl) rfl (Nat.le_of_ble_eq_true rfl) dX3_lookOf_8 hk ht) s_dsp0)
  have hj35 : ∀ (y0 : Int32) (h6 : Hp), Sim id E (QM id E finI) h6 35 [] [.int y0] (g_Tree_lookOf_j35 y0 h6) := by
    intro y0 h6
    exact s_iret C rfl dX3_lookOf_35
  refine s_if_eq C 34 dX3_lookOf_11 (by decide) ?_ ?_
  · refine s_iconst C (-1 : Int32) dX3_lookOf_34 (by decide) ?_
    refine Sim.keep [] rfl ?_
    exact hj35 _ _
  · refine s_aload_n C dX3_lookOf_14 0 rfl rfl ?_
    refine s_getR [3] C (fl1 ⟨fo_X3_40_3, rfl⟩) (pl_of e4 rfl) dX3_lookOf_15 fun a7 => ?_
    refine s_iload_n C dX3_lookOf_18 1 rfl rfl ?_
    refine c_S C 1 [vr a7] (jk_1 hJ x1 h5) (lw_S q1370 q1371 q119 q1372) nd_J9_valueOf.2 rfl (le_fr hf rfl) (le_fr hlo rfl) rfl (Nat.le_of_ble_eq_true rfl) dX3_lookOf_19 fun r8 h9 => ?_
    refine s_dk 25 finR [] (fun r10 h11 => ?_) (fun hk => s_dsp 33 (fun ht => c_V C 1 [] 33 RJ4 ro_33 (jk_24 hJ a7 r8 h9) (lw_V q1396 q1397 q1398 q113 q1401) nd_J4_get rfl (le_fr hf rfl) (le_fr hlo rfl) rfl (Nat.le_of_ble_eq_true rfl) dX3_lookOf_22 hk ht) s_dsp0)
    refine s_cast [35] "java/lang/Integer" C q1345 (fl1 ao_java_lang_Integer_35) dX3_lookOf_25 ?_
    refine s_dk 31 finI [] (fun r12 h13 => ?_) (fun hk => s_dsp 35 (fun ht => c_V C 0 [] 35 RJ9 ro_35 (jk_0 hJ r10 h11) (lw_V q1346 q1053 q1054 q119 q1055) nd_J9_intValue rfl (le_fr hf rfl) (le_fr hlo rfl) rfl (Nat.le_of_ble_eq_true rfl) dX3_lookOf_28 hk ht) s_dsp0)
    refine s_goto C 35 dX3_lookOf_31 (by decide) ?_
    refine Sim.keep [] rfl ?_
    exact hj35 _ _

def g_Judged_heftOf_j82 (rec4 : (Int32 × Int32) → Hp → Option (Int32 × Hp)) (x0 : Nat) (x1 : Int32) (x2 : Int32) (x3 : Int32) (h9 : Hp) : Option (Int32 × Hp) :=
  rec4 (x2, (x3 + (1 : Int32))) h9
def g_Judged_heftOf_j67 (rec4 : (Int32 × Int32) → Hp → Option (Int32 × Hp)) (x0 : Nat) (x1 : Int32) (x2 : Int32) (x3 : Int32) (h13 : Hp) : Option (Int32 × Hp) :=
  (getR [4] 0 x0 h13).bind fun a14 =>
  (getI [4] 6 x0 h13).bind fun a15 =>
  bn (dsp (tg h13 a14 % 500) none [(3, g_Tree_weight a14 a15 x3 h13)]) fun r16 h17 =>
  bd ((x2 + r16)) fun a18 =>
  g_Judged_heftOf_j82 rec4 x0 x1 a18 x3 h17
def g_Judged_heftOf_L4 (x0 : Nat) (x1 : Int32) : (Int32 × Int32) → Hp → Option (Int32 × Hp) :=
  lp FU fun rec4 v4 h1 =>
    (getR [4] 0 x0 h1).bind fun a2 =>
    (getR [3] 0 a2 h1).bind fun a3 =>
    bn (dsp (tg h1 a3 % 500) none [(2, g_Chain_voters a3 h1)]) fun r4 h5 =>
    if r4 ≤ v4.2 then
      some (v4.1, h5)
    else
      (getR [4] 0 x0 h5).bind fun a6 =>
      bn (dsp (tg h5 a6 % 500) none [(3, g_Tree_lookOf a6 v4.2 h5)]) fun r7 h8 =>
      if r7 = (-1 : Int32) then
        g_Judged_heftOf_j82 rec4 x0 x1 v4.1 v4.2 h8
      else
        (getI [4] 3 x0 h8).bind fun a10 =>
        bn (g_FinalLinks_isOf a10 v4.2 h8) fun r11 h12 =>
        if r11 = 0 then
          if r7 = x1 then
            g_Judged_heftOf_j67 rec4 x0 x1 v4.1 v4.2 h12
          else
            (getR [4] 0 x0 h12).bind fun a19 =>
            bn (dsp (tg h12 a19 % 500) none [(3, g_Tree_isAhead a19 x1 r7 h12)]) fun r20 h21 =>
            if r20 = 0 then
              g_Judged_heftOf_j82 rec4 x0 x1 v4.1 v4.2 h21
            else
              g_Judged_heftOf_j67 rec4 x0 x1 v4.1 v4.2 h21
        else
          g_Judged_heftOf_j82 rec4 x0 x1 v4.1 v4.2 h12
def g_Judged_heftOf (x0 : Nat) (x1 : Int32) (h : Hp) : Option (Int32 × Hp) :=
  g_Judged_heftOf_L4 x0 x1 ((0 : Int32), (0 : Int32)) h
theorem ct_g_Judged_heftOf {G : Gx} {RL : Lv} {l : Launch} (hL : LvA G RL plA) (hJ : JK G RL l) (x0 : Nat) (x1 : Int32) (h : Hp) : Ct id G RL l yX4_heftOf (ws_ yX4_heftOf cX4_heftOf 5 (some .int)) 44 4087 finI [vr x0, .int x1] h (g_Judged_heftOf x0 x1 h) := by
  refine Ct.of (Pl := plA) [(0, vr x0), (1, .int x1)] (by decide) hL rfl (Nat.le_of_ble_eq_true rfl) ?_
  intro E C e6 hf hlo e1 e2 e3 e4 e5
  subst e1; subst e2; subst e3
  replace C : Cx E cX4_heftOf (some .int) RX4 := C
  replace e6 : (eMe E).name = "heftOf" := e6
  unfold g_Judged_heftOf
  refine s_iconst C (0 : Int32) dX4_heftOf_0 (by decide) ?_
  refine s_istore_n (la' := [(2, .int (0 : Int32)), (0, vr x0), (1, .int x1)]) C 2 dX4_heftOf_1 rfl (lt_nl e5 rfl) rfl ?_
  refine s_iconst C (0 : Int32) dX4_heftOf_2 (by decide) ?_
  have hL4 : ∀ (x0 : Nat) (x1 : Int32) (v4 : (Int32 × Int32)) (h1 : Hp), Sim id E (QM id E finI) h1 4 [(0, vr x0), (1, .int x1), (2, .int v4.1), (3, .int v4.2)] [] (g_Judged_heftOf_L4 x0 x1 v4 h1) := by
    intro x0 x1 v4 h1
    refine Sim.loop (fun v4 => [(0, vr x0), (1, .int x1), (2, .int v4.1), (3, .int v4.2)]) (fun _ => []) (fun rec4 hr4 v4 h1 => ?_) FU v4 h1
    refine s_iload_n C dX4_heftOf_4 3 rfl rfl ?_
    refine s_aload_n C dX4_heftOf_5 0 rfl rfl ?_
    refine s_getR [4] C (fl1 ⟨fo_X4_24_4, rfl⟩) (pl_of e4 rfl) dX4_heftOf_6 fun a2 => ?_
    refine s_getR [3] C (fl1 ⟨fo_X4_158_3, rfl⟩) (pl_of e4 rfl) dX4_heftOf_9 fun a3 => ?_
    refine s_dk 15 finI [.int v4.2] (fun r4 h5 => ?_) (fun hk => s_dsp 2 (fun ht => c_V C 0 [.int v4.2] 2 RX2 ro_2 (ct_g_Chain_voters hL hJ a3 h1) (lw_V q1365 q1330 q1331 q108 q1332) nd_X2_voters rfl (le_fr hf rfl) (le_fr hlo rfl) rfl (Nat.le_of_ble_eq_true rfl) dX4_heftOf_12 hk ht) s_dsp0)
    refine s_icmp_ge C 88 dX4_heftOf_15 (by decide) ?_ ?_
    · refine s_iload_n C dX4_heftOf_88 2 rfl rfl ?_
      exact s_iret C rfl dX4_heftOf_89
    · refine s_aload_n C dX4_heftOf_18 0 rfl rfl ?_
      refine s_getR [4] C (fl1 ⟨fo_X4_24_4, rfl⟩) (pl_of e4 rfl) dX4_heftOf_19 fun a6 => ?_
      refine s_iload_n C dX4_heftOf_22 3 rfl rfl ?_
      refine s_dk 26 finI [] (fun r7 h8 => ?_) (fun hk => s_dsp 3 (fun ht => c_V C 1 [] 3 RX3 ro_3 (ct_g_Tree_lookOf hL hJ a6 v4.2 h5) (lw_V q1366 q1367 q1368 q114 q1369) nd_X3_lookOf rfl (le_fr hf rfl) (le_fr hlo rfl) rfl (Nat.le_of_ble_eq_true rfl) dX4_heftOf_23 hk ht) s_dsp0)
      refine s_istore (la' := [(4, .int r7), (0, vr x0), (1, .int x1), (2, .int v4.1), (3, .int v4.2)]) C dX4_heftOf_26 (lt_nl e5 rfl) rfl ?_
      refine s_iload C dX4_heftOf_28 0 rfl ?_
      refine s_iconst C (-1 : Int32) dX4_heftOf_30 (by decide) ?_
      have hj82 : ∀ (x2 : Int32) (x3 : Int32) (h9 : Hp), Sim id E (QM id E finI) h9 82 [(0, vr x0), (1, .int x1), (2, .int x2), (3, .int x3)] [] (g_Judged_heftOf_j82 rec4 x0 x1 x2 x3 h9) := by
        intro x2 x3 h9
        refine s_iinc (la' := [(3, .int (x3 + (1 : Int32))), (0, vr x0), (1, .int x1), (2, .int x2)]) C 3 dX4_heftOf_82 rfl rfl (lt_nl e5 rfl) rfl ?_
        refine s_goto C 4 dX4_heftOf_85 (by decide) ?_
        refine Sim.keep [1, 2, 3, 0] rfl ?_
        exact hr4 _ _
      refine s_icmp_eq C 82 dX4_heftOf_31 (by decide) ?_ ?_
      · refine Sim.keep [1, 2, 3, 4] rfl ?_
        exact hj82 _ _ _
      · refine s_aload_n C dX4_heftOf_34 1 rfl rfl ?_
        refine s_getI [4] C (fl1 ⟨fo_X4_69_4, rfl⟩) (pl_of e4 rfl) dX4_heftOf_35 fun a10 => ?_
        refine s_iload_n C dX4_heftOf_38 4 rfl rfl ?_
        refine c_SN C 2 [] _ (ct_g_FinalLinks_isOf hL hJ a10 v4.2 h8) (lw_meth q1340) q107 q1351 q1339 nd_X1_isOf.2 rfl (le_fr hf rfl) (le_fr hlo rfl) rfl (Nat.le_of_ble_eq_true rfl) dX4_heftOf_39 fun r11 h12 => ?_
        refine s_if_eq C 48 dX4_heftOf_42 (by decide) ?_ ?_
        · refine s_iload C dX4_heftOf_48 0 rfl ?_
          refine s_iload_n C dX4_heftOf_50 2 rfl rfl ?_
          have hj67 : ∀ (x2 : Int32) (x3 : Int32) (h13 : Hp), Sim id E (QM id E finI) h13 67 [(0, vr x0), (1, .int x1), (2, .int x2), (3, .int x3)] [] (g_Judged_heftOf_j67 rec4 x0 x1 x2 x3 h13) := by
            intro x2 x3 h13
            refine s_iload_n C dX4_heftOf_67 2 rfl rfl ?_
            refine s_aload_n C dX4_heftOf_68 0 rfl rfl ?_
            refine s_getR [4] C (fl1 ⟨fo_X4_24_4, rfl⟩) (pl_of e4 rfl) dX4_heftOf_69 fun a14 => ?_
            refine s_aload_n C dX4_heftOf_72 0 rfl rfl ?_
            refine s_getI [4] C (fl1 ⟨fo_X4_38_4, rfl⟩) (pl_of e4 rfl) dX4_heftOf_73 fun a15 => ?_
            refine s_iload_n C dX4_heftOf_76 3 rfl rfl ?_
            refine s_dk 80 finI [.int x2] (fun r16 h17 => ?_) (fun hk => s_dsp 3 (fun ht => c_V C 2 [.int x2] 3 RX3 ro_3 (ct_g_Tree_weight hL hJ a14 a15 x3 h13) (lw_V q1406 q1342 q1343 q114 q1344) nd_X3_weight rfl (le_fr hf rfl) (le_fr hlo rfl) rfl (Nat.le_of_ble_eq_true rfl) dX4_heftOf_77 hk ht) s_dsp0)
            refine s_iadd C dX4_heftOf_80 ?_
            refine s_bdi fun a18 => ?_
            refine s_istore_n (la' := [(2, .int a18), (0, vr x0), (1, .int x1), (3, .int x3)]) C 2 dX4_heftOf_81 rfl (lt_nl e5 rfl) rfl ?_
            refine Sim.keep [1, 2, 0, 3] rfl ?_
            exact hj82 _ _ _
          refine s_icmp_eq C 67 dX4_heftOf_51 (by decide) ?_ ?_
          · refine Sim.keep [1, 2, 3, 4] rfl ?_
            exact hj67 _ _ _
          · refine s_aload_n C dX4_heftOf_54 1 rfl rfl ?_
            refine s_getR [4] C (fl1 ⟨fo_X4_24_4, rfl⟩) (pl_of e4 rfl) dX4_heftOf_55 fun a19 => ?_
            refine s_iload_n C dX4_heftOf_58 2 rfl rfl ?_
            refine s_iload C dX4_heftOf_59 0 rfl ?_
            refine s_dk 64 finI [] (fun r20 h21 => ?_) (fun hk => s_dsp 3 (fun ht => c_V C 2 [] 3 RX3 ro_3 (ct_g_Tree_isAhead hL hJ a19 x1 r7 h12) (lw_V q1402 q1403 q1404 q114 q1405) nd_X3_isAhead rfl (le_fr hf rfl) (le_fr hlo rfl) rfl (Nat.le_of_ble_eq_true rfl) dX4_heftOf_61 hk ht) s_dsp0)
            refine s_if_eq C 82 dX4_heftOf_64 (by decide) ?_ ?_
            · refine Sim.keep [1, 2, 3, 4] rfl ?_
              exact hj82 _ _ _
            · refine Sim.keep [1, 2, 3, 4] rfl ?_
              exact hj67 _ _ _
        · refine s_goto C 82 dX4_heftOf_45 (by decide) ?_
          refine Sim.keep [1, 2, 3, 4] rfl ?_
          exact hj82 _ _ _
  refine s_istore_n (la' := [(3, .int (0 : Int32)), (2, .int (0 : Int32)), (0, vr x0), (1, .int x1)]) C 3 dX4_heftOf_3 rfl (lt_nl e5 rfl) rfl ?_
  refine Sim.keep [2, 3, 1, 0] rfl ?_
  exact hL4 _ _ _ _

def g_Tree_size (x0 : Nat) (h : Hp) : Option (Int32 × Hp) :=
  (getR [3] 1 x0 h).bind fun a1 =>
  bn (dsp (tg h a1 % 500) none [(25, oAlSize a1 h)]) fun r2 h3 =>
  some (r2, h3)
theorem ct_g_Tree_size {G : Gx} {RL : Lv} {l : Launch} (hL : LvA G RL plA) (hJ : JK G RL l) (x0 : Nat) (h : Hp) : Ct id G RL l yX3_size (ws_ yX3_size cX3_size 1 (some .int)) 41 4020 finI [vr x0] h (g_Tree_size x0 h) := by
  refine Ct.of (Pl := plA) [(0, vr x0)] (by decide) hL rfl (Nat.le_of_ble_eq_true rfl) ?_
  intro E C e6 hf hlo e1 e2 e3 e4 e5
  subst e1; subst e2; subst e3
  replace C : Cx E cX3_size (some .int) RX3 := C
  replace e6 : (eMe E).name = "size" := e6
  unfold g_Tree_size
  refine s_aload_n C dX3_size_0 0 rfl rfl ?_
  refine s_getR [3] C (fl1 ⟨fo_X3_12_3, rfl⟩) (pl_of e4 rfl) dX3_size_1 fun a1 => ?_
  refine s_dk 7 finI [] (fun r2 h3 => ?_) (fun hk => s_dsp 25 (fun ht => c_V C 0 [] 25 RJ2 ro_25 (jk_15 hJ a1 h) (lw_V q770 q731 q732 q111 q733) nd_J2_size rfl (le_fr hf rfl) (le_fr hlo rfl) rfl (Nat.le_of_ble_eq_true rfl) dX3_size_4 hk ht) s_dsp0)
  exact s_iret C rfl dX3_size_7
