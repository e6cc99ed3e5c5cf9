/-! THE LIBRARY'S METHODS ON THE RAW HEAP (printed by hgenraw.py) -/
set_option maxRecDepth 100000
def g_Link_init (x0 : Nat) (x1 : Int32) (x2 : Int32) (h : Hp) : Option (Unit × Hp) :=
  if x0 = 0 then none else
  (putI [10] 0 0 x0 x1 h).bind fun h2 =>
  (putI [10] 0 1 x0 x2 h2).bind fun h3 =>
  some ((), h3)
theorem ct_g_Link_init {G : Gx} {RL : Lv} {l : Launch} (hL : LvA G RL plR) (x0 : Nat) (x1 : Int32) (x2 : Int32) (h : Hp) : Ct id G RL l yX11_init (ws_ yX11_init cX11_init 3 none) 1 20 finV [vr x0, .int x1, .int x2] h (g_Link_init x0 x1 x2 h) := by
  refine Ct.of (Pl := plR) [(0, vr x0), (1, .int x1), (2, .int x2)] (by decide) hL rfl (Nat.le_of_ble_eq_true rfl) ?_
  intro E C e6 hf hlo e1 e2 e3 e4 e5
  subst e1; subst e2; subst e3
  replace C : Cx E cX11_init none RX11 := C
  replace e6 : (eMe E).name = "<init>" := e6
  unfold g_Link_init
  refine s_aload_n C dX11_init_0 0 rfl rfl ?_
  refine s_nz fun z1 => ?_
  refine s_objI C z1 q2271 q177 q178 (le_fr hf rfl) (le_fr hlo rfl) (Nat.le_of_ble_eq_true rfl) dX11_init_1 ?_
  refine s_aload_n C dX11_init_4 0 rfl rfl ?_
  refine s_iload_n C dX11_init_5 1 rfl rfl ?_
  refine s_putI [10] 0 C (by decide) (by decide) (fl1 ⟨⟨by decide, fo_X11_7_10, rfl⟩, rfl⟩) (pl_of e4 rfl) (fl1 (Or.inr ⟨e6, fx_X11_7_10⟩)) dX11_init_6 fun h2 => ?_
  refine s_aload_n C dX11_init_9 0 rfl rfl ?_
  refine s_iload_n C dX11_init_10 2 rfl rfl ?_
  refine s_putI [10] 0 C (by decide) (by decide) (fl1 ⟨⟨by decide, fo_X11_13_10, rfl⟩, rfl⟩) (pl_of e4 rfl) (fl1 (Or.inr ⟨e6, fx_X11_13_10⟩)) dX11_init_11 fun h3 => ?_
  exact s_vret C rfl dX11_init_14

def g_Link_isLike_j27 (y0 : Int32) (h3 : Hp) : Option (Int32 × Hp) :=
  if nrw 2 y0 = y0 then some (y0, h3) else none
def g_Link_isLike_j26  (h4 : Hp) : Option (Int32 × Hp) :=
  g_Link_isLike_j27 (0 : Int32) h4
def g_Link_isLike (x0 : Nat) (x1 : Nat) (h : Hp) : Option (Int32 × Hp) :=
  (getI [10] 0 x0 h).bind fun a1 =>
  (getI [10] 0 x1 h).bind fun a2 =>
  if a1 = a2 then
    (getI [10] 1 x0 h).bind fun a5 =>
    (getI [10] 1 x1 h).bind fun a6 =>
    if a5 = a6 then
      g_Link_isLike_j27 (1 : Int32) h
    else
      g_Link_isLike_j26 h
  else
    g_Link_isLike_j26 h
theorem ct_g_Link_isLike {G : Gx} {RL : Lv} {l : Launch} (hL : LvA G RL plR) (x0 : Nat) (x1 : Nat) (h : Hp) : Ct id G RL l yX11_isLike (ws_ yX11_isLike cX11_isLike 2 (some .boolean)) 0 0 finI [vr x0, vr x1] h (g_Link_isLike x0 x1 h) := by
  refine Ct.of (Pl := plR) [(0, vr x0), (1, vr x1)] (by decide) hL rfl (Nat.le_of_ble_eq_true rfl) ?_
  intro E C e6 hf hlo e1 e2 e3 e4 e5
  subst e1; subst e2; subst e3
  replace C : Cx E cX11_isLike (some .boolean) RX11 := C
  replace e6 : (eMe E).name = "isLike" := e6
  unfold g_Link_isLike
  refine s_aload_n C dX11_isLike_0 0 rfl rfl ?_
  refine s_getI [10] C (fl1 ⟨fo_X11_7_10, rfl⟩) (pl_of e4 rfl) dX11_isLike_1 fun a1 => ?_
  refine s_aload_n C dX11_isLike_4 1 rfl rfl ?_
  refine s_getI [10] C (fl1 ⟨fo_X11_7_10, rfl⟩) (pl_of e4 rfl) dX11_isLike_5 fun a2 => ?_
  have hj27 : ∀ (y0 : Int32) (h3 : Hp), Sim id E (QM id E finI) h3 27 [] [.int y0] (g_Link_isLike_j27 y0 h3) := by
    intro y0 h3
    exact s_zret 2 C (by decide) (by decide) rfl dX11_isLike_27
  have hj26 : ∀  (h4 : Hp), Sim id E (QM id E finI) h4 26 [] [] (g_Link_isLike_j26 h4) := by
    intro h4
    refine s_iconst C (0 : Int32) dX11_isLike_26 (by decide) ?_
    exact hj27 _ _
  refine s_icmp_ne C 26 dX11_isLike_8 (by decide) ?_ ?_
  · refine Sim.keep [] rfl ?_
    exact hj26 _
  · refine s_aload_n C dX11_isLike_11 0 rfl rfl ?_
    refine s_getI [10] C (fl1 ⟨fo_X11_13_10, rfl⟩) (pl_of e4 rfl) dX11_isLike_12 fun a5 => ?_
    refine s_aload_n C dX11_isLike_15 1 rfl rfl ?_
    refine s_getI [10] C (fl1 ⟨fo_X11_13_10, rfl⟩) (pl_of e4 rfl) dX11_isLike_16 fun a6 => ?_
    refine s_icmp_ne C 26 dX11_isLike_19 (by decide) ?_ ?_
    · refine Sim.keep [] rfl ?_
      exact hj26 _
    · refine s_iconst C (1 : Int32) dX11_isLike_22 (by decide) ?_
      refine s_goto C 27 dX11_isLike_23 (by decide) ?_
      refine Sim.keep [] rfl ?_
      exact hj27 _ _

def g_Link_equals_j23 (y0 : Int32) (h2 : Hp) : Option (Int32 × Hp) :=
  if nrw 2 y0 = y0 then some (y0, h2) else none
def g_Link_equals_j22  (h3 : Hp) : Option (Int32 × Hp) :=
  g_Link_equals_j23 (0 : Int32) h3
def g_Link_equals (x0 : Nat) (x1 : Nat) (h : Hp) : Option (Int32 × Hp) :=
  (ins [10] [] x1 h).bind fun a1 =>
  if a1 = 0 then
    g_Link_equals_j22 h
  else
    (cst [10] x1 h).bind fun _ =>
    bn (dsp (tg h x0 % 500) none [(10, g_Link_isLike x0 x1 h)]) fun r4 h5 =>
    if r4 = 0 then
      g_Link_equals_j22 h5
    else
      g_Link_equals_j23 (1 : Int32) h5
theorem ct_g_Link_equals {G : Gx} {RL : Lv} {l : Launch} (hL : LvA G RL plR) (x0 : Nat) (x1 : Nat) (h : Hp) : Ct id G RL l yX11_equals (ws_ yX11_equals cX11_equals 2 (some .boolean)) 1 21 finI [vr x0, vr x1] h (g_Link_equals x0 x1 h) := by
  refine Ct.of (Pl := plR) [(0, vr x0), (1, vr x1)] (by decide) hL rfl (Nat.le_of_ble_eq_true rfl) ?_
  intro E C e6 hf hlo e1 e2 e3 e4 e5
  subst e1; subst e2; subst e3
  replace C : Cx E cX11_equals (some .boolean) RX11 := C
  replace e6 : (eMe E).name = "equals" := e6
  unfold g_Link_equals
  refine s_aload_n C dX11_equals_0 1 rfl rfl ?_
  refine s_ins [10] [] "FinalLinks$Link" C q1028 (fl1 ao_FinalLinks_Link_10) (fun _ h => by cases h) dX11_equals_1 fun a1 => ?_
  have hj23 : ∀ (y0 : Int32) (h2 : Hp), Sim id E (QM id E finI) h2 23 [] [.int y0] (g_Link_equals_j23 y0 h2) := by
    intro y0 h2
    exact s_zret 2 C (by decide) (by decide) rfl dX11_equals_23
  have hj22 : ∀  (h3 : Hp), Sim id E (QM id E finI) h3 22 [] [] (g_Link_equals_j22 h3) := by
    intro h3
    refine s_iconst C (0 : Int32) dX11_equals_22 (by decide) ?_
    exact hj23 _ _
  refine s_if_eq C 22 dX11_equals_4 (by decide) ?_ ?_
  · refine Sim.keep [] rfl ?_
    exact hj22 _
  · refine s_aload_n C dX11_equals_7 0 rfl rfl ?_
    refine s_aload_n C dX11_equals_8 1 rfl rfl ?_
    refine s_cast [10] "FinalLinks$Link" C q1028 (fl1 ao_FinalLinks_Link_10) dX11_equals_9 ?_
    refine s_dk 15 finI [] (fun r4 h5 => ?_) (fun hk => s_dsp 10 (fun ht => c_V C 1 [] 10 RX11 ro_10 (ct_g_Link_isLike hL x0 x1 h) (lw_V q1029 q1031 qs8 q157 q1033) nd_X11_isLike rfl (le_fr hf rfl) (le_fr hlo rfl) rfl (Nat.le_of_ble_eq_true rfl) dX11_equals_12 hk ht) s_dsp0)
    refine s_if_eq C 22 dX11_equals_15 (by decide) ?_ ?_
    · refine Sim.keep [] rfl ?_
      exact hj22 _
    · refine s_iconst C (1 : Int32) dX11_equals_18 (by decide) ?_
      refine s_goto C 23 dX11_equals_19 (by decide) ?_
      refine Sim.keep [] rfl ?_
      exact hj23 _ _

def g_Link_hashCode (x0 : Nat) (h : Hp) : Option (Int32 × Hp) :=
  (getI [10] 1 x0 h).bind fun a1 =>
  (getI [10] 1 x0 h).bind fun a2 =>
  if (2 : Int32) = 0 then none else
  (getI [10] 0 x0 h).bind fun a3 =>
  some ((((a1 * (a2 - (1 : Int32))) / (2 : Int32)) + a3), h)
theorem ct_g_Link_hashCode {G : Gx} {RL : Lv} {l : Launch} (hL : LvA G RL plR) (x0 : Nat) (h : Hp) : Ct id G RL l yX11_hashCode (ws_ yX11_hashCode cX11_hashCode 1 (some .int)) 0 0 finI [vr x0] h (g_Link_hashCode x0 h) := by
  refine Ct.of (Pl := plR) [(0, vr x0)] (by decide) hL rfl (Nat.le_of_ble_eq_true rfl) ?_
  intro E C e6 hf hlo e1 e2 e3 e4 e5
  subst e1; subst e2; subst e3
  replace C : Cx E cX11_hashCode (some .int) RX11 := C
  replace e6 : (eMe E).name = "hashCode" := e6
  unfold g_Link_hashCode
  refine s_aload_n C dX11_hashCode_0 0 rfl rfl ?_
  refine s_getI [10] C (fl1 ⟨fo_X11_13_10, rfl⟩) (pl_of e4 rfl) dX11_hashCode_1 fun a1 => ?_
  refine s_aload_n C dX11_hashCode_4 0 rfl rfl ?_
  refine s_getI [10] C (fl1 ⟨fo_X11_13_10, rfl⟩) (pl_of e4 rfl) dX11_hashCode_5 fun a2 => ?_
  refine s_iconst C (1 : Int32) dX11_hashCode_8 (by decide) ?_
  refine s_isub C dX11_hashCode_9 ?_
  refine s_imul C dX11_hashCode_10 ?_
  refine s_iconst C (2 : Int32) dX11_hashCode_11 (by decide) ?_
  refine s_idiv C dX11_hashCode_12 ?_
  refine s_aload_n C dX11_hashCode_13 0 rfl rfl ?_
  refine s_getI [10] C (fl1 ⟨fo_X11_7_10, rfl⟩) (pl_of e4 rfl) dX11_hashCode_14 fun a3 => ?_
  refine s_iadd C dX11_hashCode_17 ?_
  exact s_iret C rfl dX11_hashCode_18

def g_Vote_init (x0 : Nat) (x1 : Int32) (x2 : Nat) (h : Hp) : Option (Unit × Hp) :=
  if x0 = 0 then none else
  (putI [12] 0 0 x0 x1 h).bind fun h2 =>
  (putR [12] 1 x0 x2 h2).bind fun h3 =>
  some ((), h3)
theorem ct_g_Vote_init {G : Gx} {RL : Lv} {l : Launch} (hL : LvA G RL plR) (x0 : Nat) (x1 : Int32) (x2 : Nat) (h : Hp) : Ct id G RL l yX14_init (ws_ yX14_init cX14_init 3 none) 1 20 finV [vr x0, .int x1, vr x2] h (g_Vote_init x0 x1 x2 h) := by
  refine Ct.of (Pl := plR) [(0, vr x0), (1, .int x1), (2, vr x2)] (by decide) hL rfl (Nat.le_of_ble_eq_true rfl) ?_
  intro E C e6 hf hlo e1 e2 e3 e4 e5
  subst e1; subst e2; subst e3
  replace C : Cx E cX14_init none RX14 := C
  replace e6 : (eMe E).name = "<init>" := e6
  unfold g_Vote_init
  refine s_aload_n C dX14_init_0 0 rfl rfl ?_
  refine s_nz fun z1 => ?_
  refine s_objI C z1 q2288 q177 q178 (le_fr hf rfl) (le_fr hlo rfl) (Nat.le_of_ble_eq_true rfl) dX14_init_1 ?_
  refine s_aload_n C dX14_init_4 0 rfl rfl ?_
  refine s_iload_n C dX14_init_5 1 rfl rfl ?_
  refine s_putI [12] 0 C (by decide) (by decide) (fl1 ⟨⟨by decide, fo_X14_9_12, rfl⟩, rfl⟩) (pl_of e4 rfl) (fl1 (Or.inr ⟨e6, fx_X14_9_12⟩)) dX14_init_6 fun h2 => ?_
  refine s_aload_n C dX14_init_9 0 rfl rfl ?_
  refine s_aload_n C dX14_init_10 2 rfl rfl ?_
  refine s_putR [12] C (fl1 ⟨by decide, fo_X14_15_12, rfl⟩) (pl_of e4 rfl) (fl1 (Or.inr ⟨e6, fx_X14_15_12⟩)) dX14_init_11 fun h3 => ?_
  exact s_vret C rfl dX14_init_14

def g_Vote_equals_j44 (y0 : Int32) (h4 : Hp) : Option (Int32 × Hp) :=
  if nrw 2 y0 = y0 then some (y0, h4) else none
def g_Vote_equals_j43  (h5 : Hp) : Option (Int32 × Hp) :=
  g_Vote_equals_j44 (0 : Int32) h5
def g_Vote_equals (x0 : Nat) (x1 : Nat) (h : Hp) : Option (Int32 × Hp) :=
  (ins [12] [] x1 h).bind fun a1 =>
  if a1 = 0 then
    if nrw 2 (0 : Int32) = (0 : Int32) then some ((0 : Int32), h) else none
  else
    (cst [12] x1 h).bind fun _ =>
    (getI [12] 0 x0 h).bind fun a2 =>
    (getI [12] 0 x1 h).bind fun a3 =>
    if a2 = a3 then
      (getR [12] 1 x0 h).bind fun a6 =>
      (getR [12] 1 x1 h).bind fun a7 =>
      bn (dsp (tg h a6 % 500) none [(10, g_Link_equals a6 a7 h)]) fun r8 h9 =>
      if r8 = 0 then
        g_Vote_equals_j43 h9
      else
        g_Vote_equals_j44 (1 : Int32) h9
    else
      g_Vote_equals_j43 h
theorem ct_g_Vote_equals {G : Gx} {RL : Lv} {l : Launch} (hL : LvA G RL plR) (x0 : Nat) (x1 : Nat) (h : Hp) : Ct id G RL l yX14_equals (ws_ yX14_equals cX14_equals 3 (some .boolean)) 2 42 finI [vr x0, vr x1] h (g_Vote_equals x0 x1 h) := by
  refine Ct.of (Pl := plR) [(0, vr x0), (1, vr x1)] (by decide) hL rfl (Nat.le_of_ble_eq_true rfl) ?_
  intro E C e6 hf hlo e1 e2 e3 e4 e5
  subst e1; subst e2; subst e3
  replace C : Cx E cX14_equals (some .boolean) RX14 := C
  replace e6 : (eMe E).name = "equals" := e6
  unfold g_Vote_equals
  refine s_aload_n C dX14_equals_0 1 rfl rfl ?_
  refine s_ins [12] [] "FinalLinks$Vote" C q1044 (fl1 ao_FinalLinks_Vote_12) (fun _ h => by cases h) dX14_equals_1 fun a1 => ?_
  refine s_if_ne C 9 dX14_equals_4 (by decide) ?_ ?_
  · refine s_aload_n C dX14_equals_9 1 rfl rfl ?_
    refine s_cast [12] "FinalLinks$Vote" C q1044 (fl1 ao_FinalLinks_Vote_12) dX14_equals_10 ?_
    refine s_astore_n (la' := [(2, vr x1), (0, vr x0), (1, vr x1)]) C 2 dX14_equals_13 rfl (lt_nl e5 rfl) rfl ?_
    refine s_aload_n C dX14_equals_14 1 rfl rfl ?_
    refine s_getI [12] C (fl1 ⟨fo_X14_9_12, rfl⟩) (pl_of e4 rfl) dX14_equals_15 fun a2 => ?_
    refine s_aload_n C dX14_equals_18 0 rfl rfl ?_
    refine s_getI [12] C (fl1 ⟨fo_X14_9_12, rfl⟩) (pl_of e4 rfl) dX14_equals_19 fun a3 => ?_
    have hj44 : ∀ (y0 : Int32) (h4 : Hp), Sim id E (QM id E finI) h4 44 [] [.int y0] (g_Vote_equals_j44 y0 h4) := by
      intro y0 h4
      exact s_zret 2 C (by decide) (by decide) rfl dX14_equals_44
    have hj43 : ∀  (h5 : Hp), Sim id E (QM id E finI) h5 43 [] [] (g_Vote_equals_j43 h5) := by
      intro h5
      refine s_iconst C (0 : Int32) dX14_equals_43 (by decide) ?_
      exact hj44 _ _
    refine s_icmp_ne C 43 dX14_equals_22 (by decide) ?_ ?_
    · refine Sim.keep [] rfl ?_
      exact hj43 _
    · refine s_aload_n C dX14_equals_25 1 rfl rfl ?_
      refine s_getR [12] C (fl1 ⟨fo_X14_15_12, rfl⟩) (pl_of e4 rfl) dX14_equals_26 fun a6 => ?_
      refine s_aload_n C dX14_equals_29 0 rfl rfl ?_
      refine s_getR [12] C (fl1 ⟨fo_X14_15_12, rfl⟩) (pl_of e4 rfl) dX14_equals_30 fun a7 => ?_
      refine s_dk 36 finI [] (fun r8 h9 => ?_) (fun hk => s_dsp 10 (fun ht => c_V C 1 [] 10 RX11 ro_10 (ct_g_Link_equals hL a6 a7 h) (lw_V q1045 q1026 q3543 q157 q1027) nd_X11_equals rfl (le_fr hf rfl) (le_fr hlo rfl) rfl (Nat.le_of_ble_eq_true rfl) dX14_equals_33 hk ht) s_dsp0)
      refine s_if_eq C 43 dX14_equals_36 (by decide) ?_ ?_
      · refine Sim.keep [] rfl ?_
        exact hj43 _
      · refine s_iconst C (1 : Int32) dX14_equals_39 (by decide) ?_
        refine s_goto C 44 dX14_equals_40 (by decide) ?_
        refine Sim.keep [] rfl ?_
        exact hj44 _ _
  · refine s_iconst C (0 : Int32) dX14_equals_7 (by decide) ?_
    exact s_zret 2 C (by decide) (by decide) rfl dX14_equals_8

def g_Vote_hashCode (x0 : Nat) (h : Hp) : Option (Int32 × Hp) :=
  (getR [12] 1 x0 h).bind fun a1 =>
  bn (dsp (tg h a1 % 500) none [(10, g_Link_hashCode a1 h)]) fun r2 h3 =>
  (getI [12] 0 x0 h3).bind fun a4 =>
  some ((((8 : Int32) * r2) + a4), h3)
theorem ct_g_Vote_hashCode {G : Gx} {RL : Lv} {l : Launch} (hL : LvA G RL plR) (x0 : Nat) (h : Hp) : Ct id G RL l yX14_hashCode (ws_ yX14_hashCode cX14_hashCode 1 (some .int)) 1 20 finI [vr x0] h (g_Vote_hashCode x0 h) := by
  refine Ct.of (Pl := plR) [(0, vr x0)] (by decide) hL rfl (Nat.le_of_ble_eq_true rfl) ?_
  intro E C e6 hf hlo e1 e2 e3 e4 e5
  subst e1; subst e2; subst e3
  replace C : Cx E cX14_hashCode (some .int) RX14 := C
  replace e6 : (eMe E).name = "hashCode" := e6
  unfold g_Vote_hashCode
  refine s_bipush C (8 : Int32) dX14_hashCode_0 (by decide) ?_
  refine s_aload_n C dX14_hashCode_2 0 rfl rfl ?_
  refine s_getR [12] C (fl1 ⟨fo_X14_15_12, rfl⟩) (pl_of e4 rfl) dX14_hashCode_3 fun a1 => ?_
  refine s_dk 9 finI [.int (8 : Int32)] (fun r2 h3 => ?_) (fun hk => s_dsp 10 (fun ht => c_V C 0 [.int (8 : Int32)] 10 RX11 ro_10 (ct_g_Link_hashCode hL a1 h) (lw_V q932 q920 q3542 q157 q921) nd_X11_hashCode rfl (le_fr hf rfl) (le_fr hlo rfl) rfl (Nat.le_of_ble_eq_true rfl) dX14_hashCode_6 hk ht) s_dsp0)
  refine s_imul C dX14_hashCode_9 ?_
  refine s_aload_n C dX14_hashCode_10 0 rfl rfl ?_
  refine s_getI [12] C (fl1 ⟨fo_X14_9_12, rfl⟩) (pl_of e4 rfl) dX14_hashCode_11 fun a4 => ?_
  refine s_iadd C dX14_hashCode_14 ?_
  exact s_iret C rfl dX14_hashCode_15

def g_AbstractStringBuilder_init (x0 : Nat) (x1 : Int32) (h : Hp) : Option (Unit × Hp) :=
  if x0 = 0 then none else
  if (1 : Int32) = 0 then
    none
  else
    bn (newA 201 x1 h) fun o2 h3 =>
    (putR [29] 0 x0 o2 h3).bind fun h4 =>
    (putI [29] 1 1 x0 (0 : Int32) h4).bind fun h5 =>
    some ((), h5)
theorem ct_g_AbstractStringBuilder_init {G : Gx} {RL : Lv} {l : Launch} (hL : LvA G RL plR) (x0 : Nat) (x1 : Int32) (h : Hp) : Ct id G RL l yJ32_init (ws_ yJ32_init cJ32_init 2 none) 1 20 finV [vr x0, .int x1] h (g_AbstractStringBuilder_init x0 x1 h) := by
  refine Ct.of (Pl := plR) [(0, vr x0), (1, .int x1)] (by decide) hL rfl (Nat.le_of_ble_eq_true rfl) ?_
  intro E C e6 hf hlo e1 e2 e3 e4 e5
  subst e1; subst e2; subst e3
  replace C : Cx E cJ32_init none RJ32 := C
  replace e6 : (eMe E).name = "<init>" := e6
  unfold g_AbstractStringBuilder_init
  refine s_aload_n C dJ32_init_0 0 rfl rfl ?_
  refine s_nz fun z1 => ?_
  refine s_objI C z1 q1580 q177 q178 (le_fr hf rfl) (le_fr hlo rfl) (Nat.le_of_ble_eq_true rfl) dJ32_init_1 ?_
  refine s_gets (.int (1 : Int32)) C so_J32_18 st_int dJ32_init_4 ?_
  refine s_if_eq C 25 dJ32_init_7 (by decide) ?_ ?_
  · refine s_aload_n C dJ32_init_25 0 rfl rfl ?_
    refine s_iload_n C dJ32_init_26 1 rfl rfl ?_
    exact sim_none
  · refine s_aload_n C dJ32_init_10 0 rfl rfl ?_
    refine s_iload_n C dJ32_init_11 1 rfl rfl ?_
    refine s_newa 1 .byte C q214 rfl (by decide) (pl_of1 e4 rfl) dJ32_init_12 fun o2 h3 zo2 => ?_
    refine s_putR [29] C (fl1 ⟨by decide, fo_J32_15_29, rfl⟩) (pl_of e4 rfl) (fl1 (Or.inl rfl)) dJ32_init_14 fun h4 => ?_
    refine s_aload_n C dJ32_init_17 0 rfl rfl ?_
    refine s_iconst C (0 : Int32) dJ32_init_18 (by decide) ?_
    refine s_putI [29] 1 C (by decide) (by decide) (fl1 ⟨⟨by decide, fo_J32_22_29, rfl⟩, rfl⟩) (pl_of e4 rfl) (fl1 (Or.inl rfl)) dJ32_init_19 fun h5 => ?_
    refine s_goto C 38 dJ32_init_22 (by decide) ?_
    exact s_vret C rfl dJ32_init_38

def g_ArraysSupport_newLength_j21 (x0 : Int32) (x1 : Int32) (h2 : Hp) : Option (Int32 × Hp) :=
  none
def g_ArraysSupport_newLength (x0 : Int32) (x1 : Int32) (x2 : Int32) (h : Hp) : Option (Int32 × Hp) :=
  bd ((x0 + (if x1 < x2 then x2 else x1))) fun a1 =>
  if a1 ≤ (0 : Int32) then
    g_ArraysSupport_newLength_j21 x0 x1 h
  else
    if (2147483639 : Int32) < a1 then
      g_ArraysSupport_newLength_j21 x0 x1 h
    else
      some (a1, h)
theorem ct_g_ArraysSupport_newLength {G : Gx} {RL : Lv} {l : Launch} (hL : LvA G RL plR) (x0 : Int32) (x1 : Int32) (x2 : Int32) (h : Hp) : Ct id G RL l yJ16_newLength (ws_ yJ16_newLength cJ16_newLength 4 (some .int)) 1 29 finI [.int x0, .int x1, .int x2] h (g_ArraysSupport_newLength x0 x1 x2 h) := by
  refine Ct.of (Pl := plR) [(0, .int x0), (1, .int x1), (2, .int x2)] (by decide) hL rfl (Nat.le_of_ble_eq_true rfl) ?_
  intro E C e6 hf hlo e1 e2 e3 e4 e5
  subst e1; subst e2; subst e3
  replace C : Cx E cJ16_newLength (some .int) RJ16 := C
  replace e6 : (eMe E).name = "newLength" := e6
  unfold g_ArraysSupport_newLength
  refine s_iload_n C dJ16_newLength_0 0 rfl rfl ?_
  refine s_iload_n C dJ16_newLength_1 1 rfl rfl ?_
  refine s_iload_n C dJ16_newLength_2 2 rfl rfl ?_
  refine s_mmax C q588 q589 q127 q590 (le_fr hf rfl) (le_fr hlo rfl) (Nat.le_of_ble_eq_true rfl) dJ16_newLength_3 ?_
  refine s_iadd C dJ16_newLength_6 ?_
  refine s_bdi fun a1 => ?_
  refine s_istore_n (la' := [(3, .int a1), (0, .int x0), (1, .int x1), (2, .int x2)]) C 3 dJ16_newLength_7 rfl (lt_nl e5 rfl) rfl ?_
  refine s_iconst C (0 : Int32) dJ16_newLength_8 (by decide) ?_
  refine s_iload_n C dJ16_newLength_9 0 rfl rfl ?_
  have hj21 : ∀ (x0 : Int32) (x1 : Int32) (h2 : Hp), Sim id E (QM id E finI) h2 21 [(0, .int x0), (1, .int x1)] [] (g_ArraysSupport_newLength_j21 x0 x1 h2) := by
    intro x0 x1 h2
    refine s_iload_n C dJ16_newLength_21 0 rfl rfl ?_
    refine s_iload_n C dJ16_newLength_22 1 rfl rfl ?_
    exact sim_none
  refine s_icmp_ge C 21 dJ16_newLength_10 (by decide) ?_ ?_
  · refine Sim.keep [1, 2] rfl ?_
    exact hj21 _ _ _
  · refine s_iload_n C dJ16_newLength_13 0 rfl rfl ?_
    refine s_ldci C q591 dJ16_newLength_14 ?_
    refine s_icmp_gt C 21 dJ16_newLength_16 (by decide) ?_ ?_
    · refine Sim.keep [1, 2] rfl ?_
      exact hj21 _ _ _
    · refine s_iload_n C dJ16_newLength_19 0 rfl rfl ?_
      exact s_iret C rfl dJ16_newLength_20

def g_AbstractStringBuilder_newCapacity (x0 : Nat) (x1 : Int32) (h : Hp) : Option (Int32 × Hp) :=
  (getR [29] 0 x0 h).bind fun a1 =>
  (alen [201, 701] a1 h).bind fun a2 =>
  (getI [29] 1 x0 h).bind fun a3 =>
  bd ((x1 <<< (a3 &&& 31))) fun a4 =>
  bd ((a4 - a2)) fun a5 =>
  (getI [29] 1 x0 h).bind fun a6 =>
  bn (g_ArraysSupport_newLength a2 a5 (a2 + ((2 : Int32) <<< (a6 &&& 31))) h) fun r7 h8 =>
  if r7 = (2147483647 : Int32) then
    none
  else
    (getI [29] 1 x0 h8).bind fun a9 =>
    some ((r7 >>> (a9 &&& 31)), h8)
theorem ct_g_AbstractStringBuilder_newCapacity {G : Gx} {RL : Lv} {l : Launch} (hL : LvA G RL plR) (x0 : Nat) (x1 : Int32) (h : Hp) : Ct id G RL l yJ32_newCapacity (ws_ yJ32_newCapacity cJ32_newCapacity 6 (some .int)) 2 52 finI [vr x0, .int x1] h (g_AbstractStringBuilder_newCapacity x0 x1 h) := by
  refine Ct.of (Pl := plR) [(0, vr x0), (1, .int x1)] (by decide) hL rfl (Nat.le_of_ble_eq_true rfl) ?_
  intro E C e6 hf hlo e1 e2 e3 e4 e5
  subst e1; subst e2; subst e3
  replace C : Cx E cJ32_newCapacity (some .int) RJ32 := C
  replace e6 : (eMe E).name = "newCapacity" := e6
  unfold g_AbstractStringBuilder_newCapacity
  refine s_aload_n C dJ32_newCapacity_0 0 rfl rfl ?_
  refine s_getR [29] C (fl1 ⟨fo_J32_15_29, rfl⟩) (pl_of e4 rfl) dJ32_newCapacity_1 fun a1 => ?_
  refine s_alen [201, 701] 1 C (flc rfl (fl1 rfl)) (pl_of e4 rfl) dJ32_newCapacity_4 fun a2 => ?_
  refine s_istore_n (la' := [(2, .int a2), (0, vr x0), (1, .int x1)]) C 2 dJ32_newCapacity_5 rfl (lt_nl e5 rfl) rfl ?_
  refine s_iload_n C dJ32_newCapacity_6 2 rfl rfl ?_
  refine s_aload_n C dJ32_newCapacity_7 1 rfl rfl ?_
  refine s_getI [29] C (fl1 ⟨fo_J32_22_29, rfl⟩) (pl_of e4 rfl) dJ32_newCapacity_8 fun a3 => ?_
  refine s_ishl C (a3 &&& 31) dJ32_newCapacity_11 rfl ?_
  refine s_bdi fun a4 => ?_
  refine s_istore_n (la' := [(3, .int a4), (2, .int a2), (0, vr x0), (1, .int x1)]) C 3 dJ32_newCapacity_12 rfl (lt_nl e5 rfl) rfl ?_
  refine s_iload_n C dJ32_newCapacity_13 0 rfl rfl ?_
  refine s_iload_n C dJ32_newCapacity_14 1 rfl rfl ?_
  refine s_isub C dJ32_newCapacity_15 ?_
  refine s_bdi fun a5 => ?_
  refine s_istore (la' := [(4, .int a5), (3, .int a4), (2, .int a2), (0, vr x0), (1, .int x1)]) C dJ32_newCapacity_16 (lt_nl e5 rfl) rfl ?_
  refine s_iload_n C dJ32_newCapacity_18 2 rfl rfl ?_
  refine s_iload C dJ32_newCapacity_19 0 rfl ?_
  refine s_iload_n C dJ32_newCapacity_21 2 rfl rfl ?_
  refine s_iconst C (2 : Int32) dJ32_newCapacity_22 (by decide) ?_
  refine s_aload_n C dJ32_newCapacity_23 3 rfl rfl ?_
  refine s_getI [29] C (fl1 ⟨fo_J32_22_29, rfl⟩) (pl_of e4 rfl) dJ32_newCapacity_24 fun a6 => ?_
  refine s_ishl C (a6 &&& 31) dJ32_newCapacity_27 rfl ?_
  refine s_iadd C dJ32_newCapacity_28 ?_
  refine c_S C 3 [] (ct_g_ArraysSupport_newLength hL a2 a5 (a2 + ((2 : Int32) <<< (a6 &&& 31))) h) (lw_S q1615 q586 q126 q587) nd_J16_newLength.2 rfl (le_fr hf rfl) (le_fr hlo rfl) rfl (Nat.le_of_ble_eq_true rfl) dJ32_newCapacity_29 fun r7 h8 => ?_
  refine s_istore (la' := [(5, .int r7), (4, .int a5), (3, .int a4), (2, .int a2), (0, vr x0), (1, .int x1)]) C dJ32_newCapacity_32 (lt_nl e5 rfl) rfl ?_
  refine s_iload C dJ32_newCapacity_34 0 rfl ?_
  refine s_ldci C q1616 dJ32_newCapacity_36 ?_
  refine s_icmp_ne C 51 dJ32_newCapacity_38 (by decide) ?_ ?_
  · refine s_iload C dJ32_newCapacity_51 0 rfl ?_
    refine s_aload_n C dJ32_newCapacity_53 4 rfl rfl ?_
    refine s_getI [29] C (fl1 ⟨fo_J32_22_29, rfl⟩) (pl_of e4 rfl) dJ32_newCapacity_54 fun a9 => ?_
    refine s_ishr C (a9 &&& 31) dJ32_newCapacity_57 rfl ?_
    exact s_iret C rfl dJ32_newCapacity_58
  · exact sim_none

def g_Arrays_copyOf (x0 : Nat) (x1 : Int32) (h : Hp) : Option (Nat × Hp) :=
  (alen [201, 701] x0 h).bind fun a1 =>
  if x1 = a1 then
    none
  else
    bn (newA 201 x1 h) fun o2 h3 =>
    (alen [201, 701] x0 h3).bind fun a4 =>
    none
theorem ct_g_Arrays_copyOf {G : Gx} {RL : Lv} {l : Launch} (hL : LvA G RL plR) (x0 : Nat) (x1 : Int32) (h : Hp) : Ct id G RL l yJ18_copyOf_3 (ws_ yJ18_copyOf_3 cJ18_copyOf_3 3 (some (.array (.byte)))) 1 29 finR [vr x0, .int x1] h (g_Arrays_copyOf x0 x1 h) := by
  refine Ct.of (Pl := plR) [(0, vr x0), (1, .int x1)] (by decide) hL rfl (Nat.le_of_ble_eq_true rfl) ?_
  intro E C e6 hf hlo e1 e2 e3 e4 e5
  subst e1; subst e2; subst e3
  replace C : Cx E cJ18_copyOf_3 (some (.array (.byte))) RJ18 := C
  replace e6 : (eMe E).name = "copyOf" := e6
  unfold g_Arrays_copyOf
  refine s_iload_n C dJ18_copyOf_3_0 1 rfl rfl ?_
  refine s_aload_n C dJ18_copyOf_3_1 0 rfl rfl ?_
  refine s_alen [201, 701] 1 C (flc rfl (fl1 rfl)) (pl_of e4 rfl) dJ18_copyOf_3_2 fun a1 => ?_
  refine s_icmp_ne C 14 dJ18_copyOf_3_3 (by decide) ?_ ?_
  · refine s_iload_n C dJ18_copyOf_3_14 1 rfl rfl ?_
    refine s_newa 1 .byte C q214 rfl (by decide) (pl_of1 e4 rfl) dJ18_copyOf_3_15 fun o2 h3 zo2 => ?_
    refine s_astore_n (la' := [(2, vr o2), (0, vr x0), (1, .int x1)]) C 2 dJ18_copyOf_3_17 rfl (lt_nl e5 rfl) rfl ?_
    refine s_aload_n C dJ18_copyOf_3_18 1 rfl rfl ?_
    refine s_iconst C (0 : Int32) dJ18_copyOf_3_19 (by decide) ?_
    refine s_aload_n C dJ18_copyOf_3_20 0 rfl rfl ?_
    refine s_iconst C (0 : Int32) dJ18_copyOf_3_21 (by decide) ?_
    refine s_aload_n C dJ18_copyOf_3_22 1 rfl rfl ?_
    refine s_alen [201, 701] 1 C (flc rfl (fl1 rfl)) (pl_of e4 rfl) dJ18_copyOf_3_23 fun a4 => ?_
    refine s_iload_n C dJ18_copyOf_3_24 2 rfl rfl ?_
    refine s_mmin C q647 q648 q127 q649 (le_fr hf rfl) (le_fr hlo rfl) (Nat.le_of_ble_eq_true rfl) dJ18_copyOf_3_25 ?_
    exact sim_none
  · refine s_aload_n C dJ18_copyOf_3_6 0 rfl rfl ?_
    exact sim_none

def g_AbstractStringBuilder_ensureCapacityInternal_j38  (h5 : Hp) : Option (Unit × Hp) :=
  some ((), h5)
def g_AbstractStringBuilder_ensureCapacityInternal (x0 : Nat) (x1 : Int32) (h : Hp) : Option (Unit × Hp) :=
  (getR [29] 0 x0 h).bind fun a1 =>
  (alen [201, 701] a1 h).bind fun a2 =>
  (getI [29] 1 x0 h).bind fun a3 =>
  bd ((a2 >>> (a3 &&& 31))) fun a4 =>
  if (x1 - a4) ≤ 0 then
    g_AbstractStringBuilder_ensureCapacityInternal_j38 h
  else
    (getR [29] 0 x0 h).bind fun a6 =>
    bn (dsp (tg h x0 % 500) none [(29, g_AbstractStringBuilder_newCapacity x0 x1 h)]) fun r7 h8 =>
    (getI [29] 1 x0 h8).bind fun a9 =>
    bn (g_Arrays_copyOf a6 (r7 <<< (a9 &&& 31)) h8) fun r10 h11 =>
    (putR [29] 0 x0 r10 h11).bind fun h12 =>
    g_AbstractStringBuilder_ensureCapacityInternal_j38 h12
theorem ct_g_AbstractStringBuilder_ensureCapacityInternal {G : Gx} {RL : Lv} {l : Launch} (hL : LvA G RL plR) (x0 : Nat) (x1 : Int32) (h : Hp) : Ct id G RL l yJ32_ensureCapacityInternal (ws_ yJ32_ensureCapacityInternal cJ32_ensureCapacityInternal 3 none) 3 77 finV [vr x0, .int x1] h (g_AbstractStringBuilder_ensureCapacityInternal x0 x1 h) := by
  refine Ct.of (Pl := plR) [(0, vr x0), (1, .int x1)] (by decide) hL rfl (Nat.le_of_ble_eq_true rfl) ?_
  intro E C e6 hf hlo e1 e2 e3 e4 e5
  subst e1; subst e2; subst e3
  replace C : Cx E cJ32_ensureCapacityInternal none RJ32 := C
  replace e6 : (eMe E).name = "ensureCapacityInternal" := e6
  unfold g_AbstractStringBuilder_ensureCapacityInternal
  refine s_aload_n C dJ32_ensureCapacityInternal_0 0 rfl rfl ?_
  refine s_getR [29] C (fl1 ⟨fo_J32_15_29, rfl⟩) (pl_of e4 rfl) dJ32_ensureCapacityInternal_1 fun a1 => ?_
  refine s_alen [201, 701] 1 C (flc rfl (fl1 rfl)) (pl_of e4 rfl) dJ32_ensureCapacityInternal_4 fun a2 => ?_
  refine s_aload_n C dJ32_ensureCapacityInternal_5 0 rfl rfl ?_
  refine s_getI [29] C (fl1 ⟨fo_J32_22_29, rfl⟩) (pl_of e4 rfl) dJ32_ensureCapacityInternal_6 fun a3 => ?_
  refine s_ishr C (a3 &&& 31) dJ32_ensureCapacityInternal_9 rfl ?_
  refine s_bdi fun a4 => ?_
  refine s_istore_n (la' := [(2, .int a4), (0, vr x0), (1, .int x1)]) C 2 dJ32_ensureCapacityInternal_10 rfl (lt_nl e5 rfl) rfl ?_
  refine s_iload_n C dJ32_ensureCapacityInternal_11 2 rfl rfl ?_
  refine s_iload_n C dJ32_ensureCapacityInternal_12 0 rfl rfl ?_
  refine s_isub C dJ32_ensureCapacityInternal_13 ?_
  have hj38 : ∀  (h5 : Hp), Sim id E (QM id E finV) h5 38 [] [] (g_AbstractStringBuilder_ensureCapacityInternal_j38 h5) := by
    intro h5
    exact s_vret C rfl dJ32_ensureCapacityInternal_38
  refine s_if_le C 38 dJ32_ensureCapacityInternal_14 (by decide) ?_ ?_
  · refine Sim.keep [] rfl ?_
    exact hj38 _
  · refine s_aload_n C dJ32_ensureCapacityInternal_17 1 rfl rfl ?_
    refine s_aload_n C dJ32_ensureCapacityInternal_18 1 rfl rfl ?_
    refine s_getR [29] C (fl1 ⟨fo_J32_15_29, rfl⟩) (pl_of e4 rfl) dJ32_ensureCapacityInternal_19 fun a6 => ?_
    refine s_aload_n C dJ32_ensureCapacityInternal_22 1 rfl rfl ?_
    refine s_iload_n C dJ32_ensureCapacityInternal_23 2 rfl rfl ?_
    refine s_dk 27 finI [vr a6, vr x0] (fun r7 h8 => ?_) (fun hk => s_dsp 29 (fun ht => c_P C 1 [vr a6, vr x0] 29 "java/lang/StringBuilder" ro_29 (ct_g_AbstractStringBuilder_newCapacity hL x0 x1 h) (lw_meth q1614) q150 q1611 q1613 (List.mem_of_getElem? (i := 7) rfl) nd_J32_newCapacity.2 rfl (le_fr hf rfl) (le_fr hlo rfl) rfl (Nat.le_of_ble_eq_true rfl) dJ32_ensureCapacityInternal_24 hk ht) s_dsp0)
    refine s_aload_n C dJ32_ensureCapacityInternal_27 1 rfl rfl ?_
    refine s_getI [29] C (fl1 ⟨fo_J32_22_29, rfl⟩) (pl_of e4 rfl) dJ32_ensureCapacityInternal_28 fun a9 => ?_
    refine s_ishl C (a9 &&& 31) dJ32_ensureCapacityInternal_31 rfl ?_
    refine c_S C 2 [vr x0] (ct_g_Arrays_copyOf hL a6 (r7 <<< (a9 &&& 31)) h8) (lw_S q1617 q1618 q128 q1619) nd_J18_copyOf_3.2 rfl (le_fr hf rfl) (le_fr hlo rfl) rfl (Nat.le_of_ble_eq_true rfl) dJ32_ensureCapacityInternal_32 fun r10 h11 => ?_
    refine s_putR [29] C (fl1 ⟨by decide, fo_J32_15_29, rfl⟩) (pl_of e4 rfl) (fl1 (Or.inl rfl)) dJ32_ensureCapacityInternal_35 fun h12 => ?_
    refine Sim.keep [] rfl ?_
    exact hj38 _

def g_AbstractStringBuilder_isLatin1_j18 (y0 : Int32) (h1 : Hp) : Option (Int32 × Hp) :=
  if nrw 2 y0 = y0 then some (y0, h1) else none
def g_AbstractStringBuilder_isLatin1_j17  (h2 : Hp) : Option (Int32 × Hp) :=
  g_AbstractStringBuilder_isLatin1_j18 (0 : Int32) h2
def g_AbstractStringBuilder_isLatin1 (x0 : Nat) (h : Hp) : Option (Int32 × Hp) :=
  if (1 : Int32) = 0 then
    g_AbstractStringBuilder_isLatin1_j17 h
  else
    (getI [29] 1 x0 h).bind fun a3 =>
    if a3 = 0 then
      g_AbstractStringBuilder_isLatin1_j18 (1 : Int32) h
    else
      g_AbstractStringBuilder_isLatin1_j17 h
theorem ct_g_AbstractStringBuilder_isLatin1 {G : Gx} {RL : Lv} {l : Launch} (hL : LvA G RL plR) (x0 : Nat) (h : Hp) : Ct id G RL l yJ32_isLatin1 (ws_ yJ32_isLatin1 cJ32_isLatin1 1 (some .boolean)) 0 0 finI [vr x0] h (g_AbstractStringBuilder_isLatin1 x0 h) := by
  refine Ct.of (Pl := plR) [(0, vr x0)] (by decide) hL rfl (Nat.le_of_ble_eq_true rfl) ?_
  intro E C e6 hf hlo e1 e2 e3 e4 e5
  subst e1; subst e2; subst e3
  replace C : Cx E cJ32_isLatin1 (some .boolean) RJ32 := C
  replace e6 : (eMe E).name = "isLatin1" := e6
  unfold g_AbstractStringBuilder_isLatin1
  refine s_gets (.int (1 : Int32)) C so_J32_18 st_int dJ32_isLatin1_0 ?_
  have hj18 : ∀ (y0 : Int32) (h1 : Hp), Sim id E (QM id E finI) h1 18 [] [.int y0] (g_AbstractStringBuilder_isLatin1_j18 y0 h1) := by
    intro y0 h1
    exact s_zret 2 C (by decide) (by decide) rfl dJ32_isLatin1_18
  have hj17 : ∀  (h2 : Hp), Sim id E (QM id E finI) h2 17 [] [] (g_AbstractStringBuilder_isLatin1_j17 h2) := by
    intro h2
    refine s_iconst C (0 : Int32) dJ32_isLatin1_17 (by decide) ?_
    exact hj18 _ _
  refine s_if_eq C 17 dJ32_isLatin1_3 (by decide) ?_ ?_
  · refine Sim.keep [] rfl ?_
    exact hj17 _
  · refine s_aload_n C dJ32_isLatin1_6 0 rfl rfl ?_
    refine s_getI [29] C (fl1 ⟨fo_J32_22_29, rfl⟩) (pl_of e4 rfl) dJ32_isLatin1_7 fun a3 => ?_
    refine s_if_ne C 17 dJ32_isLatin1_10 (by decide) ?_ ?_
    · refine Sim.keep [] rfl ?_
      exact hj17 _
    · refine s_iconst C (1 : Int32) dJ32_isLatin1_13 (by decide) ?_
      refine s_goto C 18 dJ32_isLatin1_14 (by decide) ?_
      refine Sim.keep [] rfl ?_
      exact hj18 _ _

def g_StringLatin1_canEncode_j12 (y0 : Int32) (h1 : Hp) : Option (Int32 × Hp) :=
  if nrw 2 y0 = y0 then some (y0, h1) else none
def g_StringLatin1_canEncode (x0 : Int32) (h : Hp) : Option (Int32 × Hp) :=
  if (255 : Int32) < x0 then
    g_StringLatin1_canEncode_j12 (0 : Int32) h
  else
    g_StringLatin1_canEncode_j12 (1 : Int32) h
theorem ct_g_StringLatin1_canEncode {G : Gx} {RL : Lv} {l : Launch} (hL : LvA G RL plR) (x0 : Int32) (h : Hp) : Ct id G RL l yJ28_canEncode (ws_ yJ28_canEncode cJ28_canEncode 1 (some .boolean)) 0 0 finI [.int x0] h (g_StringLatin1_canEncode x0 h) := by
  refine Ct.of (Pl := plR) [(0, .int x0)] (by decide) hL rfl (Nat.le_of_ble_eq_true rfl) ?_
  intro E C e6 hf hlo e1 e2 e3 e4 e5
  subst e1; subst e2; subst e3
  replace C : Cx E cJ28_canEncode (some .boolean) RJ28 := C
  replace e6 : (eMe E).name = "canEncode" := e6
  unfold g_StringLatin1_canEncode
  refine s_iload_n C dJ28_canEncode_0 0 rfl rfl ?_
  refine s_sipush C (255 : Int32) dJ28_canEncode_1 (by decide) ?_
  have hj12 : ∀ (y0 : Int32) (h1 : Hp), Sim id E (QM id E finI) h1 12 [] [.int y0] (g_StringLatin1_canEncode_j12 y0 h1) := by
    intro y0 h1
    exact s_zret 2 C (by decide) (by decide) rfl dJ28_canEncode_12
  refine s_icmp_gt C 11 dJ28_canEncode_4 (by decide) ?_ ?_
  · refine s_iconst C (0 : Int32) dJ28_canEncode_11 (by decide) ?_
    refine Sim.keep [] rfl ?_
    exact hj12 _ _
  · refine s_iconst C (1 : Int32) dJ28_canEncode_7 (by decide) ?_
    refine s_goto C 12 dJ28_canEncode_8 (by decide) ?_
    refine Sim.keep [] rfl ?_
    exact hj12 _ _

def g_AbstractStringBuilder_append_j45 (x0 : Nat) (x1 : Int32) (h5 : Hp) : Option (Nat × Hp) :=
  bn (dsp (tg h5 x0 % 500) none [(29, g_AbstractStringBuilder_isLatin1 x0 h5)]) fun r6 h7 =>
  if r6 = 0 then
    (getR [29] 0 x0 h7).bind fun a8 =>
    (getI [29] 3 x0 h7).bind fun a9 =>
    (putI [29] 0 3 x0 (a9 + (1 : Int32)) h7).bind fun h10 =>
    none
  else
    none
def g_AbstractStringBuilder_append (x0 : Nat) (x1 : Int32) (h : Hp) : Option (Nat × Hp) :=
  (getI [29] 3 x0 h).bind fun a1 =>
  bn (dsp (tg h x0 % 500) none [(29, g_AbstractStringBuilder_ensureCapacityInternal x0 (a1 + (1 : Int32)) h)]) fun _ h2 =>
  bn (dsp (tg h2 x0 % 500) none [(29, g_AbstractStringBuilder_isLatin1 x0 h2)]) fun r3 h4 =>
  if r3 = 0 then
    g_AbstractStringBuilder_append_j45 x0 x1 h4
  else
    bn (g_StringLatin1_canEncode x1 h4) fun r11 h12 =>
    if r11 = 0 then
      g_AbstractStringBuilder_append_j45 x0 x1 h12
    else
      (getR [29] 0 x0 h12).bind fun a13 =>
      (getI [29] 3 x0 h12).bind fun a14 =>
      (putI [29] 0 3 x0 (a14 + (1 : Int32)) h12).bind fun h15 =>
      (astI [201] 1 a13 a14 x1.toInt8.toInt32 h15).bind fun h16 =>
      some (x0, h16)
theorem ct_g_AbstractStringBuilder_append {G : Gx} {RL : Lv} {l : Launch} (hL : LvA G RL plR) (x0 : Nat) (x1 : Int32) (h : Hp) : Ct id G RL l yJ32_append (ws_ yJ32_append cJ32_append 2 (some (.object "java/lang/AbstractStringBuilder"))) 4 99 finR [vr x0, .int x1] h (g_AbstractStringBuilder_append x0 x1 h) := by
  refine Ct.of (Pl := plR) [(0, vr x0), (1, .int x1)] (by decide) hL rfl (Nat.le_of_ble_eq_true rfl) ?_
  intro E C e6 hf hlo e1 e2 e3 e4 e5
  subst e1; subst e2; subst e3
  replace C : Cx E cJ32_append (some (.object "java/lang/AbstractStringBuilder")) RJ32 := C
  replace e6 : (eMe E).name = "append" := e6
  unfold g_AbstractStringBuilder_append
  refine s_aload_n C dJ32_append_0 0 rfl rfl ?_
  refine s_aload_n C dJ32_append_1 0 rfl rfl ?_
  refine s_getI [29] C (fl1 ⟨fo_J32_79_29, rfl⟩) (pl_of e4 rfl) dJ32_append_2 fun a1 => ?_
  refine s_iconst C (1 : Int32) dJ32_append_5 (by decide) ?_
  refine s_iadd C dJ32_append_6 ?_
  refine s_dk 10 finV [] (fun _ h2 => ?_) (fun hk => s_dsp 29 (fun ht => c_P C 1 [] 29 "java/lang/StringBuilder" ro_29 (ct_g_AbstractStringBuilder_ensureCapacityInternal hL x0 (a1 + (1 : Int32)) h) (lw_meth q1610) q150 q1607 q1609 (List.mem_of_getElem? (i := 6) rfl) nd_J32_ensureCapacityInternal.2 rfl (le_fr hf rfl) (le_fr hlo rfl) rfl (Nat.le_of_ble_eq_true rfl) dJ32_append_7 hk ht) s_dsp0)
  refine s_aload_n C dJ32_append_10 0 rfl rfl ?_
  refine s_dk 14 finI [] (fun r3 h4 => ?_) (fun hk => s_dsp 29 (fun ht => c_U C 0 [] 29 RJ33 _ ro_29 (ct_g_AbstractStringBuilder_isLatin1 hL x0 h2) (lw_U q1269 q1271 q1272 q1270 q150 q1273) rfl nd_J32_isLatin1.2 rfl (le_fr hf rfl) (le_fr hlo rfl) rfl (Nat.le_of_ble_eq_true rfl) dJ32_append_11 hk ht) s_dsp0)
  have hj45 : ∀ (x0 : Nat) (x1 : Int32) (h5 : Hp), Sim id E (QM id E finR) h5 45 [(0, vr x0), (1, .int x1)] [] (g_AbstractStringBuilder_append_j45 x0 x1 h5) := by
    intro x0 x1 h5
    refine s_aload_n C dJ32_append_45 0 rfl rfl ?_
    refine s_dk 49 finI [] (fun r6 h7 => ?_) (fun hk => s_dsp 29 (fun ht => c_U C 0 [] 29 RJ33 _ ro_29 (ct_g_AbstractStringBuilder_isLatin1 hL x0 h5) (lw_U q1269 q1271 q1272 q1270 q150 q1273) rfl nd_J32_isLatin1.2 rfl (le_fr hf rfl) (le_fr hlo rfl) rfl (Nat.le_of_ble_eq_true rfl) dJ32_append_46 hk ht) s_dsp0)
    refine s_if_eq C 56 dJ32_append_49 (by decide) ?_ ?_
    · refine s_aload_n C dJ32_append_56 0 rfl rfl ?_
      refine s_getR [29] C (fl1 ⟨fo_J32_15_29, rfl⟩) (pl_of e4 rfl) dJ32_append_57 fun a8 => ?_
      refine s_aload_n C dJ32_append_60 0 rfl rfl ?_
      refine s_dup C dJ32_append_61 rfl ?_
      refine s_getI [29] C (fl1 ⟨fo_J32_79_29, rfl⟩) (pl_of e4 rfl) dJ32_append_62 fun a9 => ?_
      refine s_dup_x1 C dJ32_append_65 rfl rfl ?_
      refine s_iconst C (1 : Int32) dJ32_append_66 (by decide) ?_
      refine s_iadd C dJ32_append_67 ?_
      refine s_putI [29] 0 C (by decide) (by decide) (fl1 ⟨⟨by decide, fo_J32_79_29, rfl⟩, rfl⟩) (pl_of e4 rfl) (fl1 (Or.inl rfl)) dJ32_append_68 fun h10 => ?_
      refine s_iload_n C dJ32_append_71 1 rfl rfl ?_
      exact sim_none
    · refine s_aload_n C dJ32_append_52 0 rfl rfl ?_
      exact sim_none
  refine s_if_eq C 45 dJ32_append_14 (by decide) ?_ ?_
  · exact hj45 _ _ _
  · refine s_iload_n C dJ32_append_17 1 rfl rfl ?_
    refine c_S C 1 [] (ct_g_StringLatin1_canEncode hL x1 h4) (lw_S q1627 q1628 q140 q1629) nd_J28_canEncode.2 rfl (le_fr hf rfl) (le_fr hlo rfl) rfl (Nat.le_of_ble_eq_true rfl) dJ32_append_18 fun r11 h12 => ?_
    refine s_if_eq C 45 dJ32_append_21 (by decide) ?_ ?_
    · exact hj45 _ _ _
    · refine s_aload_n C dJ32_append_24 0 rfl rfl ?_
      refine s_getR [29] C (fl1 ⟨fo_J32_15_29, rfl⟩) (pl_of e4 rfl) dJ32_append_25 fun a13 => ?_
      refine s_aload_n C dJ32_append_28 0 rfl rfl ?_
      refine s_dup C dJ32_append_29 rfl ?_
      refine s_getI [29] C (fl1 ⟨fo_J32_79_29, rfl⟩) (pl_of e4 rfl) dJ32_append_30 fun a14 => ?_
      refine s_dup_x1 C dJ32_append_33 rfl rfl ?_
      refine s_iconst C (1 : Int32) dJ32_append_34 (by decide) ?_
      refine s_iadd C dJ32_append_35 ?_
      refine s_putI [29] 0 C (by decide) (by decide) (fl1 ⟨⟨by decide, fo_J32_79_29, rfl⟩, rfl⟩) (pl_of e4 rfl) (fl1 (Or.inl rfl)) dJ32_append_36 fun h15 => ?_
      refine s_iload_n C dJ32_append_39 1 rfl rfl ?_
      refine s_i2b C dJ32_append_40 ?_
      refine s_bast [201] C (fl1 ⟨by decide, rfl⟩) (pl_of e4 rfl) dJ32_append_41 fun h16 => ?_
      refine s_goto C 75 dJ32_append_42 (by decide) ?_
      refine s_aload_n C dJ32_append_75 0 rfl rfl ?_
      exact s_aret C (Or.inl ⟨_, rfl⟩) rfl dJ32_append_76

def g_Integer_getChars_j118 (x5 : Int32) (h6 : Hp) : Option (Int32 × Hp) :=
  some (x5, h6)
def g_Integer_getChars_j104 (x2 : Nat) (x5 : Int32) (x6 : Int32) (h5 : Hp) : Option (Int32 × Hp) :=
  if x6 = 0 then
    g_Integer_getChars_j118 x5 h5
  else
    (astI [201] 1 x2 (x5 + (-1 : Int32)) (45 : Int32) h5).bind fun h7 =>
    g_Integer_getChars_j118 (x5 + (-1 : Int32)) h7
def g_Integer_getChars_L22 (x2 : Nat) (x6 : Int32) : (Int32 × Int32) → Hp → Option (Int32 × Hp) :=
  lp FU fun rec22 v22 h2 =>
    if (-100 : Int32) < v22.1 then
      (aldI [201, 701] 5 (-v22.1) h2).bind fun a3 =>
      (astI [201] 1 x2 (v22.2 + (-1 : Int32)) a3 h2).bind fun h4 =>
      if (-9 : Int32) ≤ v22.1 then
        g_Integer_getChars_j104 x2 (v22.2 + (-1 : Int32)) x6 h4
      else
        (aldI [201, 701] 4 (-v22.1) h4).bind fun a8 =>
        (astI [201] 1 x2 ((v22.2 + (-1 : Int32)) + (-1 : Int32)) a8 h4).bind fun h9 =>
        g_Integer_getChars_j104 x2 ((v22.2 + (-1 : Int32)) + (-1 : Int32)) x6 h9
    else
      if (100 : Int32) = 0 then none else
      bd ((v22.1 / (100 : Int32))) fun a10 =>
      bd (((a10 * (100 : Int32)) - v22.1)) fun a11 =>
      (aldI [201, 701] 5 a11 h2).bind fun a12 =>
      (astI [201] 1 x2 (v22.2 + (-1 : Int32)) a12 h2).bind fun h13 =>
      (aldI [201, 701] 4 a11 h13).bind fun a14 =>
      (astI [201] 1 x2 ((v22.2 + (-1 : Int32)) + (-1 : Int32)) a14 h13).bind fun h15 =>
      rec22 (a10, ((v22.2 + (-1 : Int32)) + (-1 : Int32))) h15
def g_Integer_getChars_j12 (x0 : Int32) (x2 : Nat) (x5 : Int32) (y0 : Int32) (h1 : Hp) : Option (Int32 × Hp) :=
  if y0 = 0 then
    bd ((-x0)) fun a16 =>
    g_Integer_getChars_L22 x2 y0 (a16, x5) h1
  else
    g_Integer_getChars_L22 x2 y0 (x0, x5) h1
def g_Integer_getChars (x0 : Int32) (x1 : Int32) (x2 : Nat) (h : Hp) : Option (Int32 × Hp) :=
  if 0 ≤ x0 then
    g_Integer_getChars_j12 x0 x2 x1 (0 : Int32) h
  else
    g_Integer_getChars_j12 x0 x2 x1 (1 : Int32) h
theorem ct_g_Integer_getChars {G : Gx} {RL : Lv} {l : Launch} (hL : LvA G RL plR) (x0 : Int32) (x1 : Int32) (x2 : Nat) (h : Hp) : Ct id G RL l yJ9_getChars (ws_ yJ9_getChars cJ9_getChars 7 (some .int)) 0 0 finI [.int x0, .int x1, vr x2] h (g_Integer_getChars x0 x1 x2 h) := by
  refine Ct.of (Pl := plR) [(0, .int x0), (1, .int x1), (2, vr x2)] (by decide) hL rfl (Nat.le_of_ble_eq_true rfl) ?_
  intro E C e6 hf hlo e1 e2 e3 e4 e5
  subst e1; subst e2; subst e3
  replace C : Cx E cJ9_getChars (some .int) RJ9 := C
  replace e6 : (eMe E).name = "getChars" := e6
  unfold g_Integer_getChars
  refine s_iload_n C dJ9_getChars_0 1 rfl rfl ?_
  refine s_istore (la' := [(5, .int x1), (0, .int x0), (1, .int x1), (2, vr x2)]) C dJ9_getChars_1 (lt_nl e5 rfl) rfl ?_
  refine s_iload_n C dJ9_getChars_3 1 rfl rfl ?_
  have hj12 : ∀ (x0 : Int32) (x2 : Nat) (x5 : Int32) (y0 : Int32) (h1 : Hp), Sim id E (QM id E finI) h1 12 [(0, .int x0), (2, vr x2), (5, .int x5)] [.int y0] (g_Integer_getChars_j12 x0 x2 x5 y0 h1) := by
    intro x0 x2 x5 y0 h1
    refine s_istore (la' := [(6, .int y0), (0, .int x0), (2, vr x2), (5, .int x5)]) C dJ9_getChars_12 (lt_nl e5 rfl) rfl ?_
    refine s_iload C dJ9_getChars_14 0 rfl ?_
    have hL22 : ∀ (x2 : Nat) (x6 : Int32) (v22 : (Int32 × Int32)) (h2 : Hp), Sim id E (QM id E finI) h2 22 [(0, .int v22.1), (2, vr x2), (5, .int v22.2), (6, .int x6)] [] (g_Integer_getChars_L22 x2 x6 v22 h2) := by
      intro x2 x6 v22 h2
      refine Sim.loop (fun v22 => [(0, .int v22.1), (2, vr x2), (5, .int v22.2), (6, .int x6)]) (fun _ => []) (fun rec22 hr22 v22 h2 => ?_) FU v22 h2
      refine s_iload_n C dJ9_getChars_22 0 rfl rfl ?_
      refine s_bipush C (-100 : Int32) dJ9_getChars_23 (by decide) ?_
      refine s_icmp_gt C 72 dJ9_getChars_25 (by decide) ?_ ?_
      · refine s_aload_n C dJ9_getChars_72 1 rfl rfl ?_
        refine s_iinc (la' := [(5, .int (v22.2 + (-1 : Int32))), (0, .int v22.1), (2, vr x2), (6, .int x6)]) C 2 dJ9_getChars_73 rfl rfl (lt_nl e5 rfl) rfl ?_
        refine s_iload C dJ9_getChars_76 0 rfl ?_
        refine s_gets (vr 5) C so_J9_83 (st_ref C (by decide) (by decide)) dJ9_getChars_78 ?_
        refine s_iload_n C dJ9_getChars_81 1 rfl rfl ?_
        refine s_ineg C dJ9_getChars_82 ?_
        refine s_bald [201, 701] C (flc rfl (fl1 rfl)) (pl_of e4 rfl) dJ9_getChars_83 fun a3 => ?_
        refine s_bast [201] C (fl1 ⟨by decide, rfl⟩) (pl_of e4 rfl) dJ9_getChars_84 fun h4 => ?_
        refine s_iload_n C dJ9_getChars_85 1 rfl rfl ?_
        refine s_bipush C (-9 : Int32) dJ9_getChars_86 (by decide) ?_
        have hj104 : ∀ (x2 : Nat) (x5 : Int32) (x6 : Int32) (h5 : Hp), Sim id E (QM id E finI) h5 104 [(2, vr x2), (5, .int x5), (6, .int x6)] [] (g_Integer_getChars_j104 x2 x5 x6 h5) := by
          intro x2 x5 x6 h5
          refine s_iload C dJ9_getChars_104 2 rfl ?_
          have hj118 : ∀ (x5 : Int32) (h6 : Hp), Sim id E (QM id E finI) h6 118 [(5, .int x5)] [] (g_Integer_getChars_j118 x5 h6) := by
            intro x5 h6
            refine s_iload C dJ9_getChars_118 0 rfl ?_
            exact s_iret C rfl dJ9_getChars_120
          refine s_if_eq C 118 dJ9_getChars_106 (by decide) ?_ ?_
          · refine Sim.keep [1] rfl ?_
            exact hj118 _ _
          · refine s_aload_n C dJ9_getChars_109 0 rfl rfl ?_
            refine s_iinc (la' := [(5, .int (x5 + (-1 : Int32))), (2, vr x2), (6, .int x6)]) C 1 dJ9_getChars_110 rfl rfl (lt_nl e5 rfl) rfl ?_
            refine s_iload C dJ9_getChars_113 0 rfl ?_
            refine s_bipush C (45 : Int32) dJ9_getChars_115 (by decide) ?_
            refine s_bast [201] C (fl1 ⟨by decide, rfl⟩) (pl_of e4 rfl) dJ9_getChars_117 fun h7 => ?_
            refine Sim.keep [0] rfl ?_
            exact hj118 _ _
        refine s_icmp_ge C 104 dJ9_getChars_88 (by decide) ?_ ?_
        · refine Sim.keep [2, 0, 3] rfl ?_
          exact hj104 _ _ _ _
        · refine s_aload_n C dJ9_getChars_91 2 rfl rfl ?_
          refine s_iinc (la' := [(5, .int ((v22.2 + (-1 : Int32)) + (-1 : Int32))), (0, .int v22.1), (2, vr x2), (6, .int x6)]) C 0 dJ9_getChars_92 rfl rfl (lt_nl e5 rfl) rfl ?_
          refine s_iload C dJ9_getChars_95 0 rfl ?_
          refine s_gets (vr 4) C so_J9_87 (st_ref C (by decide) (by decide)) dJ9_getChars_97 ?_
          refine s_iload_n C dJ9_getChars_100 1 rfl rfl ?_
          refine s_ineg C dJ9_getChars_101 ?_
          refine s_bald [201, 701] C (flc rfl (fl1 rfl)) (pl_of e4 rfl) dJ9_getChars_102 fun a8 => ?_
          refine s_bast [201] C (fl1 ⟨by decide, rfl⟩) (pl_of e4 rfl) dJ9_getChars_103 fun h9 => ?_
          refine Sim.keep [2, 0, 3] rfl ?_
          exact hj104 _ _ _ _
      · refine s_iload_n C dJ9_getChars_28 0 rfl rfl ?_
        refine s_bipush C (100 : Int32) dJ9_getChars_29 (by decide) ?_
        refine s_idiv C dJ9_getChars_31 ?_
        refine s_bdi fun a10 => ?_
        refine s_istore_n (la' := [(3, .int a10), (0, .int v22.1), (2, vr x2), (5, .int v22.2), (6, .int x6)]) C 3 dJ9_getChars_32 rfl (lt_nl e5 rfl) rfl ?_
        refine s_iload_n C dJ9_getChars_33 0 rfl rfl ?_
        refine s_bipush C (100 : Int32) dJ9_getChars_34 (by decide) ?_
        refine s_imul C dJ9_getChars_36 ?_
        refine s_iload_n C dJ9_getChars_37 1 rfl rfl ?_
        refine s_isub C dJ9_getChars_38 ?_
        refine s_bdi fun a11 => ?_
        refine s_istore (la' := [(4, .int a11), (3, .int a10), (0, .int v22.1), (2, vr x2), (5, .int v22.2), (6, .int x6)]) C dJ9_getChars_39 (lt_nl e5 rfl) rfl ?_
        refine s_iload_n C dJ9_getChars_41 1 rfl rfl ?_
        refine s_istore_n (la' := [(0, .int a10), (4, .int a11), (3, .int a10), (2, vr x2), (5, .int v22.2), (6, .int x6)]) C 0 dJ9_getChars_42 rfl (lt_nl e5 rfl) rfl ?_
        refine s_aload_n C dJ9_getChars_43 3 rfl rfl ?_
        refine s_iinc (la' := [(5, .int (v22.2 + (-1 : Int32))), (0, .int a10), (4, .int a11), (3, .int a10), (2, vr x2), (6, .int x6)]) C 4 dJ9_getChars_44 rfl rfl (lt_nl e5 rfl) rfl ?_
        refine s_iload C dJ9_getChars_47 0 rfl ?_
        refine s_gets (vr 5) C so_J9_83 (st_ref C (by decide) (by decide)) dJ9_getChars_49 ?_
        refine s_iload C dJ9_getChars_52 2 rfl ?_
        refine s_bald [201, 701] C (flc rfl (fl1 rfl)) (pl_of e4 rfl) dJ9_getChars_54 fun a12 => ?_
        refine s_bast [201] C (fl1 ⟨by decide, rfl⟩) (pl_of e4 rfl) dJ9_getChars_55 fun h13 => ?_
        refine s_aload_n C dJ9_getChars_56 4 rfl rfl ?_
        refine s_iinc (la' := [(5, .int ((v22.2 + (-1 : Int32)) + (-1 : Int32))), (0, .int a10), (4, .int a11), (3, .int a10), (2, vr x2), (6, .int x6)]) C 0 dJ9_getChars_57 rfl rfl (lt_nl e5 rfl) rfl ?_
        refine s_iload C dJ9_getChars_60 0 rfl ?_
        refine s_gets (vr 4) C so_J9_87 (st_ref C (by decide) (by decide)) dJ9_getChars_62 ?_
        refine s_iload C dJ9_getChars_65 2 rfl ?_
        refine s_bald [201, 701] C (flc rfl (fl1 rfl)) (pl_of e4 rfl) dJ9_getChars_67 fun a14 => ?_
        refine s_bast [201] C (fl1 ⟨by decide, rfl⟩) (pl_of e4 rfl) dJ9_getChars_68 fun h15 => ?_
        refine s_goto C 22 dJ9_getChars_69 (by decide) ?_
        refine Sim.keep [1, 4, 0, 5] rfl ?_
        exact hr22 _ _
    refine s_if_ne C 22 dJ9_getChars_16 (by decide) ?_ ?_
    · refine Sim.keep [1, 2, 3, 0] rfl ?_
      exact hL22 _ _ _ _
    · refine s_iload_n C dJ9_getChars_19 1 rfl rfl ?_
      refine s_ineg C dJ9_getChars_20 ?_
      refine s_bdi fun a16 => ?_
      refine s_istore_n (la' := [(0, .int a16), (6, .int y0), (2, vr x2), (5, .int x5)]) C 0 dJ9_getChars_21 rfl (lt_nl e5 rfl) rfl ?_
      refine Sim.keep [0, 2, 3, 1] rfl ?_
      exact hL22 _ _ _ _
  refine s_if_ge C 11 dJ9_getChars_4 (by decide) ?_ ?_
  · refine s_iconst C (0 : Int32) dJ9_getChars_11 (by decide) ?_
    refine Sim.keep [1, 3, 0] rfl ?_
    exact hj12 _ _ _ _ _
  · refine s_iconst C (1 : Int32) dJ9_getChars_7 (by decide) ?_
    refine s_goto C 12 dJ9_getChars_8 (by decide) ?_
    refine Sim.keep [1, 3, 0] rfl ?_
    exact hj12 _ _ _ _ _

def g_Integer_stringSize_L16 (x0 : Int32) (x1 : Int32) : (Int32 × Int32) → Hp → Option (Int32 × Hp) :=
  lp FU fun rec16 v16 h2 =>
    if (10 : Int32) ≤ v16.2 then
      some (((10 : Int32) + x1), h2)
    else
      if x0 ≤ v16.1 then
        bd (((10 : Int32) * v16.1)) fun a3 =>
        rec16 (a3, (v16.2 + (1 : Int32))) h2
      else
        some ((v16.2 + x1), h2)
def g_Integer_stringSize_j11 (x0 : Int32) (x1 : Int32) (h1 : Hp) : Option (Int32 × Hp) :=
  g_Integer_stringSize_L16 x0 x1 ((-10 : Int32), (1 : Int32)) h1
def g_Integer_stringSize (x0 : Int32) (h : Hp) : Option (Int32 × Hp) :=
  if x0 < 0 then
    g_Integer_stringSize_j11 x0 (1 : Int32) h
  else
    bd ((-x0)) fun a4 =>
    g_Integer_stringSize_j11 a4 (0 : Int32) h
theorem ct_g_Integer_stringSize {G : Gx} {RL : Lv} {l : Launch} (hL : LvA G RL plR) (x0 : Int32) (h : Hp) : Ct id G RL l yJ9_stringSize (ws_ yJ9_stringSize cJ9_stringSize 4 (some .int)) 0 0 finI [.int x0] h (g_Integer_stringSize x0 h) := by
  refine Ct.of (Pl := plR) [(0, .int x0)] (by decide) hL rfl (Nat.le_of_ble_eq_true rfl) ?_
  intro E C e6 hf hlo e1 e2 e3 e4 e5
  subst e1; subst e2; subst e3
  replace C : Cx E cJ9_stringSize (some .int) RJ9 := C
  replace e6 : (eMe E).name = "stringSize" := e6
  unfold g_Integer_stringSize
  refine s_iconst C (1 : Int32) dJ9_stringSize_0 (by decide) ?_
  refine s_istore_n (la' := [(1, .int (1 : Int32)), (0, .int x0)]) C 1 dJ9_stringSize_1 rfl (lt_nl e5 rfl) rfl ?_
  refine s_iload_n C dJ9_stringSize_2 1 rfl rfl ?_
  have hj11 : ∀ (x0 : Int32) (x1 : Int32) (h1 : Hp), Sim id E (QM id E finI) h1 11 [(0, .int x0), (1, .int x1)] [] (g_Integer_stringSize_j11 x0 x1 h1) := by
    intro x0 x1 h1
    refine s_bipush C (-10 : Int32) dJ9_stringSize_11 (by decide) ?_
    refine s_istore_n (la' := [(2, .int (-10 : Int32)), (0, .int x0), (1, .int x1)]) C 2 dJ9_stringSize_13 rfl (lt_nl e5 rfl) rfl ?_
    refine s_iconst C (1 : Int32) dJ9_stringSize_14 (by decide) ?_
    have hL16 : ∀ (x0 : Int32) (x1 : Int32) (v16 : (Int32 × Int32)) (h2 : Hp), Sim id E (QM id E finI) h2 16 [(0, .int x0), (1, .int x1), (2, .int v16.1), (3, .int v16.2)] [] (g_Integer_stringSize_L16 x0 x1 v16 h2) := by
      intro x0 x1 v16 h2
      refine Sim.loop (fun v16 => [(0, .int x0), (1, .int x1), (2, .int v16.1), (3, .int v16.2)]) (fun _ => []) (fun rec16 hr16 v16 h2 => ?_) FU v16 h2
      refine s_iload_n C dJ9_stringSize_16 3 rfl rfl ?_
      refine s_bipush C (10 : Int32) dJ9_stringSize_17 (by decide) ?_
      refine s_icmp_ge C 42 dJ9_stringSize_19 (by decide) ?_ ?_
      · refine s_bipush C (10 : Int32) dJ9_stringSize_42 (by decide) ?_
        refine s_iload_n C dJ9_stringSize_44 1 rfl rfl ?_
        refine s_iadd C dJ9_stringSize_45 ?_
        exact s_iret C rfl dJ9_stringSize_46
      · refine s_iload_n C dJ9_stringSize_22 0 rfl rfl ?_
        refine s_iload_n C dJ9_stringSize_23 2 rfl rfl ?_
        refine s_icmp_le C 31 dJ9_stringSize_24 (by decide) ?_ ?_
        · refine s_bipush C (10 : Int32) dJ9_stringSize_31 (by decide) ?_
          refine s_iload_n C dJ9_stringSize_33 2 rfl rfl ?_
          refine s_imul C dJ9_stringSize_34 ?_
          refine s_bdi fun a3 => ?_
          refine s_istore_n (la' := [(2, .int a3), (0, .int x0), (1, .int x1), (3, .int v16.2)]) C 2 dJ9_stringSize_35 rfl (lt_nl e5 rfl) rfl ?_
          refine s_iinc (la' := [(3, .int (v16.2 + (1 : Int32))), (2, .int a3), (0, .int x0), (1, .int x1)]) C 3 dJ9_stringSize_36 rfl rfl (lt_nl e5 rfl) rfl ?_
          refine s_goto C 16 dJ9_stringSize_39 (by decide) ?_
          refine Sim.keep [2, 3, 1, 0] rfl ?_
          exact hr16 _ _
        · refine s_iload_n C dJ9_stringSize_27 3 rfl rfl ?_
          refine s_iload_n C dJ9_stringSize_28 1 rfl rfl ?_
          refine s_iadd C dJ9_stringSize_29 ?_
          exact s_iret C rfl dJ9_stringSize_30
    refine s_istore_n (la' := [(3, .int (1 : Int32)), (2, .int (-10 : Int32)), (0, .int x0), (1, .int x1)]) C 3 dJ9_stringSize_15 rfl (lt_nl e5 rfl) rfl ?_
    refine Sim.keep [2, 3, 1, 0] rfl ?_
    exact hL16 _ _ _ _
  refine s_if_lt C 11 dJ9_stringSize_3 (by decide) ?_ ?_
  · refine Sim.keep [1, 0] rfl ?_
    exact hj11 _ _ _
  · refine s_iconst C (0 : Int32) dJ9_stringSize_6 (by decide) ?_
    refine s_istore_n (la' := [(1, .int (0 : Int32)), (0, .int x0)]) C 1 dJ9_stringSize_7 rfl (lt_nl e5 rfl) rfl ?_
    refine s_iload_n C dJ9_stringSize_8 1 rfl rfl ?_
    refine s_ineg C dJ9_stringSize_9 ?_
    refine s_bdi fun a4 => ?_
    refine s_istore_n (la' := [(0, .int a4), (1, .int (0 : Int32))]) C 0 dJ9_stringSize_10 rfl (lt_nl e5 rfl) rfl ?_
    exact hj11 _ _ _

def g_AbstractStringBuilder_append2 (x0 : Nat) (x1 : Int32) (h : Hp) : Option (Nat × Hp) :=
  (getI [29] 3 x0 h).bind fun a1 =>
  bn (g_Integer_stringSize x1 h) fun r2 h3 =>
  bd ((a1 + r2)) fun a4 =>
  bn (dsp (tg h3 x0 % 500) none [(29, g_AbstractStringBuilder_ensureCapacityInternal x0 a4 h3)]) fun _ h5 =>
  bn (dsp (tg h5 x0 % 500) none [(29, g_AbstractStringBuilder_isLatin1 x0 h5)]) fun r6 h7 =>
  if r6 = 0 then
    (getR [29] 0 x0 h7).bind fun a8 =>
    none
  else
    (getR [29] 0 x0 h7).bind fun a9 =>
    bn (g_Integer_getChars x1 a4 a9 h7) fun r10 h11 =>
    (putI [29] 0 3 x0 a4 h11).bind fun h12 =>
    some (x0, h12)
theorem ct_g_AbstractStringBuilder_append2 {G : Gx} {RL : Lv} {l : Launch} (hL : LvA G RL plR) (x0 : Nat) (x1 : Int32) (h : Hp) : Ct id G RL l yJ32_append_3 (ws_ yJ32_append_3 cJ32_append_3 4 (some (.object "java/lang/AbstractStringBuilder"))) 4 99 finR [vr x0, .int x1] h (g_AbstractStringBuilder_append2 x0 x1 h) := by
  refine Ct.of (Pl := plR) [(0, vr x0), (1, .int x1)] (by decide) hL rfl (Nat.le_of_ble_eq_true rfl) ?_
  intro E C e6 hf hlo e1 e2 e3 e4 e5
  subst e1; subst e2; subst e3
  replace C : Cx E cJ32_append_3 (some (.object "java/lang/AbstractStringBuilder")) RJ32 := C
  replace e6 : (eMe E).name = "append" := e6
  unfold g_AbstractStringBuilder_append2
  refine s_aload_n C dJ32_append_3_0 0 rfl rfl ?_
  refine s_getI [29] C (fl1 ⟨fo_J32_79_29, rfl⟩) (pl_of e4 rfl) dJ32_append_3_1 fun a1 => ?_
  refine s_istore_n (la' := [(2, .int a1), (0, vr x0), (1, .int x1)]) C 2 dJ32_append_3_4 rfl (lt_nl e5 rfl) rfl ?_
  refine s_iload_n C dJ32_append_3_5 0 rfl rfl ?_
  refine s_iload_n C dJ32_append_3_6 2 rfl rfl ?_
  refine c_S C 1 [.int a1] (ct_g_Integer_stringSize hL x1 h) (lw_S q2471 q2472 q119 q2473) nd_J9_stringSize.2 rfl (le_fr hf rfl) (le_fr hlo rfl) rfl (Nat.le_of_ble_eq_true rfl) dJ32_append_3_7 fun r2 h3 => ?_
  refine s_iadd C dJ32_append_3_10 ?_
  refine s_bdi fun a4 => ?_
  refine s_istore_n (la' := [(3, .int a4), (2, .int a1), (0, vr x0), (1, .int x1)]) C 3 dJ32_append_3_11 rfl (lt_nl e5 rfl) rfl ?_
  refine s_aload_n C dJ32_append_3_12 2 rfl rfl ?_
  refine s_iload_n C dJ32_append_3_13 0 rfl rfl ?_
  refine s_dk 17 finV [] (fun _ h5 => ?_) (fun hk => s_dsp 29 (fun ht => c_P C 1 [] 29 "java/lang/StringBuilder" ro_29 (ct_g_AbstractStringBuilder_ensureCapacityInternal hL x0 a4 h3) (lw_meth q1610) q150 q1607 q1609 (List.mem_of_getElem? (i := 6) rfl) nd_J32_ensureCapacityInternal.2 rfl (le_fr hf rfl) (le_fr hlo rfl) rfl (Nat.le_of_ble_eq_true rfl) dJ32_append_3_14 hk ht) s_dsp0)
  refine s_aload_n C dJ32_append_3_17 2 rfl rfl ?_
  refine s_dk 21 finI [] (fun r6 h7 => ?_) (fun hk => s_dsp 29 (fun ht => c_U C 0 [] 29 RJ33 _ ro_29 (ct_g_AbstractStringBuilder_isLatin1 hL x0 h5) (lw_U q1269 q1271 q1272 q1270 q150 q1273) rfl nd_J32_isLatin1.2 rfl (le_fr hf rfl) (le_fr hlo rfl) rfl (Nat.le_of_ble_eq_true rfl) dJ32_append_3_18 hk ht) s_dsp0)
  refine s_if_eq C 37 dJ32_append_3_21 (by decide) ?_ ?_
  · refine s_iload_n C dJ32_append_3_37 3 rfl rfl ?_
    refine s_iload_n C dJ32_append_3_38 1 rfl rfl ?_
    refine s_iload_n C dJ32_append_3_39 0 rfl rfl ?_
    refine s_aload_n C dJ32_append_3_40 2 rfl rfl ?_
    refine s_getR [29] C (fl1 ⟨fo_J32_15_29, rfl⟩) (pl_of e4 rfl) dJ32_append_3_41 fun a8 => ?_
    exact sim_none
  · refine s_iload_n C dJ32_append_3_24 3 rfl rfl ?_
    refine s_iload_n C dJ32_append_3_25 0 rfl rfl ?_
    refine s_aload_n C dJ32_append_3_26 2 rfl rfl ?_
    refine s_getR [29] C (fl1 ⟨fo_J32_15_29, rfl⟩) (pl_of e4 rfl) dJ32_append_3_27 fun a9 => ?_
    refine c_S C 3 [] (ct_g_Integer_getChars hL x1 a4 a9 h7) (lw_S q2474 q2475 q119 q2476) nd_J9_getChars.2 rfl (le_fr hf rfl) (le_fr hlo rfl) rfl (Nat.le_of_ble_eq_true rfl) dJ32_append_3_30 fun r10 h11 => ?_
    refine s_pop C dJ32_append_3_33 rfl ?_
    refine s_goto C 48 dJ32_append_3_34 (by decide) ?_
    refine s_aload_n C dJ32_append_3_48 2 rfl rfl ?_
    refine s_iload_n C dJ32_append_3_49 0 rfl rfl ?_
    refine s_putI [29] 0 C (by decide) (by decide) (fl1 ⟨⟨by decide, fo_J32_79_29, rfl⟩, rfl⟩) (pl_of e4 rfl) (fl1 (Or.inl rfl)) dJ32_append_3_50 fun h12 => ?_
    refine s_aload_n C dJ32_append_3_53 2 rfl rfl ?_
    exact s_aret C (Or.inl ⟨_, rfl⟩) rfl dJ32_append_3_54

def g_String_coder_j14 (y0 : Int32) (h1 : Hp) : Option (Int32 × Hp) :=
  if nrw 1 y0 = y0 then some (y0, h1) else none
def g_String_coder (x0 : Nat) (h : Hp) : Option (Int32 × Hp) :=
  if (1 : Int32) = 0 then
    g_String_coder_j14 (1 : Int32) h
  else
    (getI [28, 528] 1 x0 h).bind fun a2 =>
    g_String_coder_j14 a2 h
theorem ct_g_String_coder {G : Gx} {RL : Lv} {l : Launch} (hL : LvA G RL plR) (x0 : Nat) (h : Hp) : Ct id G RL l yJ27_coder (ws_ yJ27_coder cJ27_coder 1 (some .byte)) 0 0 finI [vr x0] h (g_String_coder x0 h) := by
  refine Ct.of (Pl := plR) [(0, vr x0)] (by decide) hL rfl (Nat.le_of_ble_eq_true rfl) ?_
  intro E C e6 hf hlo e1 e2 e3 e4 e5
  subst e1; subst e2; subst e3
  replace C : Cx E cJ27_coder (some .byte) RJ27 := C
  replace e6 : (eMe E).name = "coder" := e6
  unfold g_String_coder
  refine s_gets (.int (1 : Int32)) C so_J27_38 st_int dJ27_coder_0 ?_
  have hj14 : ∀ (y0 : Int32) (h1 : Hp), Sim id E (QM id E finI) h1 14 [] [.int y0] (g_String_coder_j14 y0 h1) := by
    intro y0 h1
    exact s_zret 1 C (by decide) (by decide) rfl dJ27_coder_14
  refine s_if_eq C 13 dJ27_coder_3 (by decide) ?_ ?_
  · refine s_iconst C (1 : Int32) dJ27_coder_13 (by decide) ?_
    refine Sim.keep [] rfl ?_
    exact hj14 _ _
  · refine s_aload_n C dJ27_coder_6 0 rfl rfl ?_
    refine s_getI [28, 528] C (flc ⟨fo_J27_15_28, rfl⟩ (fl1 ⟨fo_J27_15_28, rfl⟩)) (pl_of e4 rfl) dJ27_coder_7 fun a2 => ?_
    refine s_goto C 14 dJ27_coder_10 (by decide) ?_
    refine Sim.keep [] rfl ?_
    exact hj14 _ _

def g_AbstractStringBuilder_inflateIfNeededFor_j21  (h1 : Hp) : Option (Unit × Hp) :=
  some ((), h1)
def g_AbstractStringBuilder_inflateIfNeededFor (x0 : Nat) (x1 : Nat) (h : Hp) : Option (Unit × Hp) :=
  if (1 : Int32) = 0 then
    g_AbstractStringBuilder_inflateIfNeededFor_j21 h
  else
    (getI [29] 1 x0 h).bind fun a2 =>
    bn (dsp (tg h x1 % 500) none [(28, g_String_coder x1 h)]) fun r3 h4 =>
    if a2 = r3 then
      g_AbstractStringBuilder_inflateIfNeededFor_j21 h4
    else
      none
theorem ct_g_AbstractStringBuilder_inflateIfNeededFor {G : Gx} {RL : Lv} {l : Launch} (hL : LvA G RL plR) (x0 : Nat) (x1 : Nat) (h : Hp) : Ct id G RL l yJ32_inflateIfNeededFor (ws_ yJ32_inflateIfNeededFor cJ32_inflateIfNeededFor 2 none) 1 20 finV [vr x0, vr x1] h (g_AbstractStringBuilder_inflateIfNeededFor x0 x1 h) := by
  refine Ct.of (Pl := plR) [(0, vr x0), (1, vr x1)] (by decide) hL rfl (Nat.le_of_ble_eq_true rfl) ?_
  intro E C e6 hf hlo e1 e2 e3 e4 e5
  subst e1; subst e2; subst e3
  replace C : Cx E cJ32_inflateIfNeededFor none RJ32 := C
  replace e6 : (eMe E).name = "inflateIfNeededFor" := e6
  unfold g_AbstractStringBuilder_inflateIfNeededFor
  refine s_gets (.int (1 : Int32)) C so_J32_18 st_int dJ32_inflateIfNeededFor_0 ?_
  have hj21 : ∀  (h1 : Hp), Sim id E (QM id E finV) h1 21 [] [] (g_AbstractStringBuilder_inflateIfNeededFor_j21 h1) := by
    intro h1
    exact s_vret C rfl dJ32_inflateIfNeededFor_21
  refine s_if_eq C 21 dJ32_inflateIfNeededFor_3 (by decide) ?_ ?_
  · refine Sim.keep [] rfl ?_
    exact hj21 _
  · refine s_aload_n C dJ32_inflateIfNeededFor_6 0 rfl rfl ?_
    refine s_getI [29] C (fl1 ⟨fo_J32_22_29, rfl⟩) (pl_of e4 rfl) dJ32_inflateIfNeededFor_7 fun a2 => ?_
    refine s_aload_n C dJ32_inflateIfNeededFor_10 1 rfl rfl ?_
    refine s_dk 14 finI [.int a2] (fun r3 h4 => ?_) (fun hk => s_dsp 28 (fun ht => c_V C 0 [.int a2] 28 RJ27 ro_28 (ct_g_String_coder hL x1 h) (lw_V q1824 q1118 q1119 q139 q1120) nd_J27_coder rfl (le_fr hf rfl) (le_fr hlo rfl) rfl (Nat.le_of_ble_eq_true rfl) dJ32_inflateIfNeededFor_11 hk ht) s_dsp0)
    refine s_icmp_eq C 21 dJ32_inflateIfNeededFor_14 (by decide) ?_ ?_
    · refine Sim.keep [] rfl ?_
      exact hj21 _
    · refine s_aload_n C dJ32_inflateIfNeededFor_17 0 rfl rfl ?_
      exact sim_none

def g_String_getBytes (x0 : Nat) (x1 : Nat) (x2 : Int32) (x3 : Int32) (h : Hp) : Option (Unit × Hp) :=
  bn (dsp (tg h x0 % 500) none [(28, g_String_coder x0 h)]) fun r1 h2 =>
  if r1 = x3 then
    (getR [28, 528] 0 x0 h2).bind fun a6 =>
    (getR [28, 528] 0 x0 h2).bind fun a7 =>
    (alen [201, 701] a7 h2).bind fun a8 =>
    none
  else
    (getR [28, 528] 0 x0 h2).bind fun a3 =>
    (getR [28, 528] 0 x0 h2).bind fun a4 =>
    (alen [201, 701] a4 h2).bind fun a5 =>
    none
theorem ct_g_String_getBytes {G : Gx} {RL : Lv} {l : Launch} (hL : LvA G RL plR) (x0 : Nat) (x1 : Nat) (x2 : Int32) (x3 : Int32) (h : Hp) : Ct id G RL l yJ27_getBytes (ws_ yJ27_getBytes cJ27_getBytes 4 none) 1 20 finV [vr x0, vr x1, .int x2, .int x3] h (g_String_getBytes x0 x1 x2 x3 h) := by
  refine Ct.of (Pl := plR) [(0, vr x0), (1, vr x1), (2, .int x2), (3, .int x3)] (by decide) hL rfl (Nat.le_of_ble_eq_true rfl) ?_
  intro E C e6 hf hlo e1 e2 e3 e4 e5
  subst e1; subst e2; subst e3
  replace C : Cx E cJ27_getBytes none RJ27 := C
  replace e6 : (eMe E).name = "getBytes" := e6
  unfold g_String_getBytes
  refine s_aload_n C dJ27_getBytes_0 0 rfl rfl ?_
  refine s_dk 4 finI [] (fun r1 h2 => ?_) (fun hk => s_dsp 28 (fun ht => c_V C 0 [] 28 RJ27 ro_28 (ct_g_String_coder hL x0 h) (lw_V q1117 q1118 q1119 q139 q1120) nd_J27_coder rfl (le_fr hf rfl) (le_fr hlo rfl) rfl (Nat.le_of_ble_eq_true rfl) dJ27_getBytes_1 hk ht) s_dsp0)
  refine s_iload_n C dJ27_getBytes_4 3 rfl rfl ?_
  refine s_icmp_ne C 28 dJ27_getBytes_5 (by decide) ?_ ?_
  · refine s_aload_n C dJ27_getBytes_28 0 rfl rfl ?_
    refine s_getR [28, 528] C (flc ⟨fo_J27_9_28, rfl⟩ (fl1 ⟨fo_J27_9_28, rfl⟩)) (pl_of e4 rfl) dJ27_getBytes_29 fun a3 => ?_
    refine s_iconst C (0 : Int32) dJ27_getBytes_32 (by decide) ?_
    refine s_aload_n C dJ27_getBytes_33 1 rfl rfl ?_
    refine s_iload_n C dJ27_getBytes_34 2 rfl rfl ?_
    refine s_aload_n C dJ27_getBytes_35 0 rfl rfl ?_
    refine s_getR [28, 528] C (flc ⟨fo_J27_9_28, rfl⟩ (fl1 ⟨fo_J27_9_28, rfl⟩)) (pl_of e4 rfl) dJ27_getBytes_36 fun a4 => ?_
    refine s_alen [201, 701] 1 C (flc rfl (fl1 rfl)) (pl_of e4 rfl) dJ27_getBytes_39 fun a5 => ?_
    exact sim_none
  · refine s_aload_n C dJ27_getBytes_8 0 rfl rfl ?_
    refine s_getR [28, 528] C (flc ⟨fo_J27_9_28, rfl⟩ (fl1 ⟨fo_J27_9_28, rfl⟩)) (pl_of e4 rfl) dJ27_getBytes_9 fun a6 => ?_
    refine s_iconst C (0 : Int32) dJ27_getBytes_12 (by decide) ?_
    refine s_aload_n C dJ27_getBytes_13 1 rfl rfl ?_
    refine s_iload_n C dJ27_getBytes_14 2 rfl rfl ?_
    refine s_iload_n C dJ27_getBytes_15 3 rfl rfl ?_
    refine s_ishl C (x3 &&& 31) dJ27_getBytes_16 rfl ?_
    refine s_aload_n C dJ27_getBytes_17 0 rfl rfl ?_
    refine s_getR [28, 528] C (flc ⟨fo_J27_9_28, rfl⟩ (fl1 ⟨fo_J27_9_28, rfl⟩)) (pl_of e4 rfl) dJ27_getBytes_18 fun a7 => ?_
    refine s_alen [201, 701] 1 C (flc rfl (fl1 rfl)) (pl_of e4 rfl) dJ27_getBytes_21 fun a8 => ?_
    exact sim_none

def g_AbstractStringBuilder_putStringAt (x0 : Nat) (x1 : Int32) (x2 : Nat) (h : Hp) : Option (Unit × Hp) :=
  bn (dsp (tg h x0 % 500) none [(29, g_AbstractStringBuilder_inflateIfNeededFor x0 x2 h)]) fun _ h1 =>
  (getR [29] 0 x0 h1).bind fun a2 =>
  (getI [29] 1 x0 h1).bind fun a3 =>
  bn (dsp (tg h1 x2 % 500) none [(28, g_String_getBytes x2 a2 x1 a3 h1)]) fun _ h4 =>
  some ((), h4)
theorem ct_g_AbstractStringBuilder_putStringAt {G : Gx} {RL : Lv} {l : Launch} (hL : LvA G RL plR) (x0 : Nat) (x1 : Int32) (x2 : Nat) (h : Hp) : Ct id G RL l yJ32_putStringAt (ws_ yJ32_putStringAt cJ32_putStringAt 3 none) 2 43 finV [vr x0, .int x1, vr x2] h (g_AbstractStringBuilder_putStringAt x0 x1 x2 h) := by
  refine Ct.of (Pl := plR) [(0, vr x0), (1, .int x1), (2, vr x2)] (by decide) hL rfl (Nat.le_of_ble_eq_true rfl) ?_
  intro E C e6 hf hlo e1 e2 e3 e4 e5
  subst e1; subst e2; subst e3
  replace C : Cx E cJ32_putStringAt none RJ32 := C
  replace e6 : (eMe E).name = "putStringAt" := e6
  unfold g_AbstractStringBuilder_putStringAt
  refine s_aload_n C dJ32_putStringAt_0 0 rfl rfl ?_
  refine s_aload_n C dJ32_putStringAt_1 2 rfl rfl ?_
  refine s_dk 5 finV [] (fun _ h1 => ?_) (fun hk => s_dsp 29 (fun ht => c_P C 1 [] 29 "java/lang/StringBuilder" ro_29 (ct_g_AbstractStringBuilder_inflateIfNeededFor hL x0 x2 h) (lw_meth q1823) q150 q1820 q1822 (List.mem_of_getElem? (i := 9) rfl) nd_J32_inflateIfNeededFor.2 rfl (le_fr hf rfl) (le_fr hlo rfl) rfl (Nat.le_of_ble_eq_true rfl) dJ32_putStringAt_2 hk ht) s_dsp0)
  refine s_aload_n C dJ32_putStringAt_5 2 rfl rfl ?_
  refine s_aload_n C dJ32_putStringAt_6 0 rfl rfl ?_
  refine s_getR [29] C (fl1 ⟨fo_J32_15_29, rfl⟩) (pl_of e4 rfl) dJ32_putStringAt_7 fun a2 => ?_
  refine s_iload_n C dJ32_putStringAt_10 1 rfl rfl ?_
  refine s_aload_n C dJ32_putStringAt_11 0 rfl rfl ?_
  refine s_getI [29] C (fl1 ⟨fo_J32_22_29, rfl⟩) (pl_of e4 rfl) dJ32_putStringAt_12 fun a3 => ?_
  refine s_dk 18 finV [] (fun _ h4 => ?_) (fun hk => s_dsp 28 (fun ht => c_V C 3 [] 28 RJ27 ro_28 (ct_g_String_getBytes hL x2 a2 x1 a3 h1) (lw_V q1825 q1826 q1827 q139 q1828) nd_J27_getBytes rfl (le_fr hf rfl) (le_fr hlo rfl) rfl (Nat.le_of_ble_eq_true rfl) dJ32_putStringAt_15 hk ht) s_dsp0)
  exact s_vret C rfl dJ32_putStringAt_18

def g_String_length (x0 : Nat) (h : Hp) : Option (Int32 × Hp) :=
  (getR [28, 528] 0 x0 h).bind fun a1 =>
  (alen [201, 701] a1 h).bind fun a2 =>
  bn (dsp (tg h x0 % 500) none [(28, g_String_coder x0 h)]) fun r3 h4 =>
  some ((a2 >>> (r3 &&& 31)), h4)
theorem ct_g_String_length {G : Gx} {RL : Lv} {l : Launch} (hL : LvA G RL plR) (x0 : Nat) (h : Hp) : Ct id G RL l yJ27_length (ws_ yJ27_length cJ27_length 1 (some .int)) 1 20 finI [vr x0] h (g_String_length x0 h) := by
  refine Ct.of (Pl := plR) [(0, vr x0)] (by decide) hL rfl (Nat.le_of_ble_eq_true rfl) ?_
  intro E C e6 hf hlo e1 e2 e3 e4 e5
  subst e1; subst e2; subst e3
  replace C : Cx E cJ27_length (some .int) RJ27 := C
  replace e6 : (eMe E).name = "length" := e6
  unfold g_String_length
  refine s_aload_n C dJ27_length_0 0 rfl rfl ?_
  refine s_getR [28, 528] C (flc ⟨fo_J27_9_28, rfl⟩ (fl1 ⟨fo_J27_9_28, rfl⟩)) (pl_of e4 rfl) dJ27_length_1 fun a1 => ?_
  refine s_alen [201, 701] 1 C (flc rfl (fl1 rfl)) (pl_of e4 rfl) dJ27_length_4 fun a2 => ?_
  refine s_aload_n C dJ27_length_5 0 rfl rfl ?_
  refine s_dk 9 finI [.int a2] (fun r3 h4 => ?_) (fun hk => s_dsp 28 (fun ht => c_V C 0 [.int a2] 28 RJ27 ro_28 (ct_g_String_coder hL x0 h) (lw_V q1117 q1118 q1119 q139 q1120) nd_J27_coder rfl (le_fr hf rfl) (le_fr hlo rfl) rfl (Nat.le_of_ble_eq_true rfl) dJ27_length_6 hk ht) s_dsp0)
  refine s_ishr C (r3 &&& 31) dJ27_length_9 rfl ?_
  exact s_iret C rfl dJ27_length_10

def g_AbstractStringBuilder_append3 (x0 : Nat) (x1 : Nat) (h : Hp) : Option (Nat × Hp) :=
  if x1 = 0 then
    none
  else
    bn (dsp (tg h x1 % 500) none [(28, g_String_length x1 h)]) fun r1 h2 =>
    (getI [29] 3 x0 h2).bind fun a3 =>
    bn (dsp (tg h2 x0 % 500) none [(29, g_AbstractStringBuilder_ensureCapacityInternal x0 (a3 + r1) h2)]) fun _ h4 =>
    (getI [29] 3 x0 h4).bind fun a5 =>
    bn (dsp (tg h4 x0 % 500) none [(29, g_AbstractStringBuilder_putStringAt x0 a5 x1 h4)]) fun _ h6 =>
    (getI [29] 3 x0 h6).bind fun a7 =>
    (putI [29] 0 3 x0 (a7 + r1) h6).bind fun h8 =>
    some (x0, h8)
theorem ct_g_AbstractStringBuilder_append3 {G : Gx} {RL : Lv} {l : Launch} (hL : LvA G RL plR) (x0 : Nat) (x1 : Nat) (h : Hp) : Ct id G RL l yJ32_append_2 (ws_ yJ32_append_2 cJ32_append_2 3 (some (.object "java/lang/AbstractStringBuilder"))) 4 99 finR [vr x0, vr x1] h (g_AbstractStringBuilder_append3 x0 x1 h) := by
  refine Ct.of (Pl := plR) [(0, vr x0), (1, vr x1)] (by decide) hL rfl (Nat.le_of_ble_eq_true rfl) ?_
  intro E C e6 hf hlo e1 e2 e3 e4 e5
  subst e1; subst e2; subst e3
  replace C : Cx E cJ32_append_2 (some (.object "java/lang/AbstractStringBuilder")) RJ32 := C
  replace e6 : (eMe E).name = "append" := e6
  unfold g_AbstractStringBuilder_append3
  refine s_aload_n C dJ32_append_2_0 1 rfl rfl ?_
  refine s_ifnonnull C 9 dJ32_append_2_1 (by decide) ?_ ?_
  · refine s_aload_n C dJ32_append_2_9 1 rfl rfl ?_
    refine s_dk 13 finI [] (fun r1 h2 => ?_) (fun hk => s_dsp 28 (fun ht => c_V C 0 [] 28 RJ27 ro_28 (ct_g_String_length hL x1 h) (lw_V q1812 q1813 q1814 q139 q1815) nd_J27_length rfl (le_fr hf rfl) (le_fr hlo rfl) rfl (Nat.le_of_ble_eq_true rfl) dJ32_append_2_10 hk ht) s_dsp0)
    refine s_istore_n (la' := [(2, .int r1), (0, vr x0), (1, vr x1)]) C 2 dJ32_append_2_13 rfl (lt_nl e5 rfl) rfl ?_
    refine s_aload_n C dJ32_append_2_14 1 rfl rfl ?_
    refine s_aload_n C dJ32_append_2_15 1 rfl rfl ?_
    refine s_getI [29] C (fl1 ⟨fo_J32_79_29, rfl⟩) (pl_of e4 rfl) dJ32_append_2_16 fun a3 => ?_
    refine s_iload_n C dJ32_append_2_19 0 rfl rfl ?_
    refine s_iadd C dJ32_append_2_20 ?_
    refine s_dk 24 finV [] (fun _ h4 => ?_) (fun hk => s_dsp 29 (fun ht => c_P C 1 [] 29 "java/lang/StringBuilder" ro_29 (ct_g_AbstractStringBuilder_ensureCapacityInternal hL x0 (a3 + r1) h2) (lw_meth q1610) q150 q1607 q1609 (List.mem_of_getElem? (i := 6) rfl) nd_J32_ensureCapacityInternal.2 rfl (le_fr hf rfl) (le_fr hlo rfl) rfl (Nat.le_of_ble_eq_true rfl) dJ32_append_2_21 hk ht) s_dsp0)
    refine s_aload_n C dJ32_append_2_24 1 rfl rfl ?_
    refine s_aload_n C dJ32_append_2_25 1 rfl rfl ?_
    refine s_getI [29] C (fl1 ⟨fo_J32_79_29, rfl⟩) (pl_of e4 rfl) dJ32_append_2_26 fun a5 => ?_
    refine s_aload_n C dJ32_append_2_29 2 rfl rfl ?_
    refine s_dk 33 finV [] (fun _ h6 => ?_) (fun hk => s_dsp 29 (fun ht => c_P C 2 [] 29 "java/lang/StringBuilder" ro_29 (ct_g_AbstractStringBuilder_putStringAt hL x0 a5 x1 h4) (lw_meth q1819) q150 q1816 q1818 (List.mem_of_getElem? (i := 8) rfl) nd_J32_putStringAt.2 rfl (le_fr hf rfl) (le_fr hlo rfl) rfl (Nat.le_of_ble_eq_true rfl) dJ32_append_2_30 hk ht) s_dsp0)
    refine s_aload_n C dJ32_append_2_33 1 rfl rfl ?_
    refine s_dup C dJ32_append_2_34 rfl ?_
    refine s_getI [29] C (fl1 ⟨fo_J32_79_29, rfl⟩) (pl_of e4 rfl) dJ32_append_2_35 fun a7 => ?_
    refine s_iload_n C dJ32_append_2_38 0 rfl rfl ?_
    refine s_iadd C dJ32_append_2_39 ?_
    refine s_putI [29] 0 C (by decide) (by decide) (fl1 ⟨⟨by decide, fo_J32_79_29, rfl⟩, rfl⟩) (pl_of e4 rfl) (fl1 (Or.inl rfl)) dJ32_append_2_40 fun h8 => ?_
    refine s_aload_n C dJ32_append_2_43 1 rfl rfl ?_
    exact s_aret C (Or.inl ⟨_, rfl⟩) rfl dJ32_append_2_44
  · refine s_aload_n C dJ32_append_2_4 0 rfl rfl ?_
    exact sim_none

def g_AbstractStringBuilder_getValue (x0 : Nat) (h : Hp) : Option (Nat × Hp) :=
  (getR [29] 0 x0 h).bind fun a1 =>
  some (a1, h)
theorem ct_g_AbstractStringBuilder_getValue {G : Gx} {RL : Lv} {l : Launch} (hL : LvA G RL plR) (x0 : Nat) (h : Hp) : Ct id G RL l yJ32_getValue (ws_ yJ32_getValue cJ32_getValue 1 (some (.array (.byte)))) 0 0 finR [vr x0] h (g_AbstractStringBuilder_getValue x0 h) := by
  refine Ct.of (Pl := plR) [(0, vr x0)] (by decide) hL rfl (Nat.le_of_ble_eq_true rfl) ?_
  intro E C e6 hf hlo e1 e2 e3 e4 e5
  subst e1; subst e2; subst e3
  replace C : Cx E cJ32_getValue (some (.array (.byte))) RJ32 := C
  replace e6 : (eMe E).name = "getValue" := e6
  unfold g_AbstractStringBuilder_getValue
  refine s_aload_n C dJ32_getValue_0 0 rfl rfl ?_
  refine s_getR [29] C (fl1 ⟨fo_J32_15_29, rfl⟩) (pl_of e4 rfl) dJ32_getValue_1 fun a1 => ?_
  exact s_aret C (Or.inr ⟨_, rfl⟩) rfl dJ32_getValue_4

def g_AbstractStringBuilder_length (x0 : Nat) (h : Hp) : Option (Int32 × Hp) :=
  (getI [29] 3 x0 h).bind fun a1 =>
  some (a1, h)
theorem ct_g_AbstractStringBuilder_length {G : Gx} {RL : Lv} {l : Launch} (hL : LvA G RL plR) (x0 : Nat) (h : Hp) : Ct id G RL l yJ32_length (ws_ yJ32_length cJ32_length 1 (some .int)) 0 0 finI [vr x0] h (g_AbstractStringBuilder_length x0 h) := by
  refine Ct.of (Pl := plR) [(0, vr x0)] (by decide) hL rfl (Nat.le_of_ble_eq_true rfl) ?_
  intro E C e6 hf hlo e1 e2 e3 e4 e5
  subst e1; subst e2; subst e3
  replace C : Cx E cJ32_length (some .int) RJ32 := C
  replace e6 : (eMe E).name = "length" := e6
  unfold g_AbstractStringBuilder_length
  refine s_aload_n C dJ32_length_0 0 rfl rfl ?_
  refine s_getI [29] C (fl1 ⟨fo_J32_79_29, rfl⟩) (pl_of e4 rfl) dJ32_length_1 fun a1 => ?_
  exact s_iret C rfl dJ32_length_4

def g_Exception_init (x0 : Nat) (h : Hp) : Option (Unit × Hp) :=
  none
theorem ct_g_Exception_init {G : Gx} {RL : Lv} {l : Launch} (hL : LvA G RL plR) (x0 : Nat) (h : Hp) : Ct id G RL l yJ13_init (ws_ yJ13_init cJ13_init 1 none) 0 0 finV [vr x0] h (g_Exception_init x0 h) := by
  refine Ct.of (Pl := plR) [(0, vr x0)] (by decide) hL rfl (Nat.le_of_ble_eq_true rfl) ?_
  intro E C e6 hf hlo e1 e2 e3 e4 e5
  subst e1; subst e2; subst e3
  replace C : Cx E cJ13_init none RJ13 := C
  replace e6 : (eMe E).name = "<init>" := e6
  unfold g_Exception_init
  refine s_aload_n C dJ13_init_0 0 rfl rfl ?_
  exact sim_none

def g_Float_isNaN_j11 (y0 : Int32) (h1 : Hp) : Option (Int32 × Hp) :=
  if nrw 2 y0 = y0 then some (y0, h1) else none
def g_Float_isNaN (x0 : UInt32) (h : Hp) : Option (Int32 × Hp) :=
  if (Op.cmpValue (FP.fcmp x0 x0) .l) = 0 then
    g_Float_isNaN_j11 (0 : Int32) h
  else
    g_Float_isNaN_j11 (1 : Int32) h
theorem ct_g_Float_isNaN {G : Gx} {RL : Lv} {l : Launch} (hL : LvA G RL plR) (x0 : UInt32) (h : Hp) : Ct id G RL l yJ8_isNaN (ws_ yJ8_isNaN cJ8_isNaN 1 (some .boolean)) 0 0 finI [.float x0] h (g_Float_isNaN x0 h) := by
  refine Ct.ofF (Pl := plR) [(0, .float x0)] (by decide +kernel) hL rfl (Nat.le_of_ble_eq_true rfl) ?_
  intro E C e6 hf hlo e1 e2 e3 e4 e5
  subst e1; subst e2; subst e3
  replace C : Cx E cJ8_isNaN (some .boolean) RJ8 := C
  replace e6 : (eMe E).name = "isNaN" := e6
  unfold g_Float_isNaN
  refine s_fload_n C dJ8_isNaN_0 0 rfl rfl ?_
  refine s_fload_n C dJ8_isNaN_1 0 rfl rfl ?_
  refine s_fcmp C dJ8_isNaN_2 ?_
  have hj11 : ∀ (y0 : Int32) (h1 : Hp), Sim id E (QM id E finI) h1 11 [] [.int y0] (g_Float_isNaN_j11 y0 h1) := by
    intro y0 h1
    exact s_zret 2 C (by decide) (by decide) rfl dJ8_isNaN_11
  refine s_if_eq C 10 dJ8_isNaN_3 (by decide) ?_ ?_
  · refine s_iconst C (0 : Int32) dJ8_isNaN_10 (by decide) ?_
    refine Sim.keep [] rfl ?_
    exact hj11 _ _
  · refine s_iconst C (1 : Int32) dJ8_isNaN_6 (by decide) ?_
    refine s_goto C 11 dJ8_isNaN_7 (by decide) ?_
    refine Sim.keep [] rfl ?_
    exact hj11 _ _

def g_Number_init (x0 : Nat) (h : Hp) : Option (Unit × Hp) :=
  if x0 = 0 then none else
  some ((), h)
theorem ct_g_Number_init {G : Gx} {RL : Lv} {l : Launch} (hL : LvA G RL plR) (x0 : Nat) (h : Hp) : Ct id G RL l yJ7_init (ws_ yJ7_init cJ7_init 1 none) 1 20 finV [vr x0] h (g_Number_init x0 h) := by
  refine Ct.of (Pl := plR) [(0, vr x0)] (by decide) hL rfl (Nat.le_of_ble_eq_true rfl) ?_
  intro E C e6 hf hlo e1 e2 e3 e4 e5
  subst e1; subst e2; subst e3
  replace C : Cx E cJ7_init none RJ7 := C
  replace e6 : (eMe E).name = "<init>" := e6
  unfold g_Number_init
  refine s_aload_n C dJ7_init_0 0 rfl rfl ?_
  refine s_nz fun z1 => ?_
  refine s_objI C z1 q1384 q177 q178 (le_fr hf rfl) (le_fr hlo rfl) (Nat.le_of_ble_eq_true rfl) dJ7_init_1 ?_
  exact s_vret C rfl dJ7_init_4

def g_Integer_init (x0 : Nat) (x1 : Int32) (h : Hp) : Option (Unit × Hp) :=
  if x0 = 0 then none else
  bn (g_Number_init x0 h) fun _ h1 =>
  (putI [35] 0 0 x0 x1 h1).bind fun h3 =>
  some ((), h3)
theorem ct_g_Integer_init {G : Gx} {RL : Lv} {l : Launch} (hL : LvA G RL plR) (x0 : Nat) (x1 : Int32) (h : Hp) : Ct id G RL l yJ9_init (ws_ yJ9_init cJ9_init 2 none) 2 40 finV [vr x0, .int x1] h (g_Integer_init x0 x1 h) := by
  refine Ct.of (Pl := plR) [(0, vr x0), (1, .int x1)] (by decide) hL rfl (Nat.le_of_ble_eq_true rfl) ?_
  intro E C e6 hf hlo e1 e2 e3 e4 e5
  subst e1; subst e2; subst e3
  replace C : Cx E cJ9_init none RJ9 := C
  replace e6 : (eMe E).name = "<init>" := e6
  unfold g_Integer_init
  refine s_aload_n C dJ9_init_0 0 rfl rfl ?_
  refine s_nz fun z2 => ?_
  refine c_I C 0 [] z2 (ct_g_Number_init hL x0 h) (lw_meth q1383) q117 q1381 q1382 rfl nd_J7_init.2 rfl (le_fr hf rfl) (le_fr hlo rfl) rfl (Nat.le_of_ble_eq_true rfl) dJ9_init_1 fun _ h1 => ?_
  refine s_aload_n C dJ9_init_4 0 rfl rfl ?_
  refine s_iload_n C dJ9_init_5 1 rfl rfl ?_
  refine s_putI [35] 0 C (by decide) (by decide) (fl1 ⟨⟨by decide, fo_J9_205_35, rfl⟩, rfl⟩) (pl_of e4 rfl) (fl1 (Or.inr ⟨e6, fx_J9_205_35⟩)) dJ9_init_6 fun h3 => ?_
  exact s_vret C rfl dJ9_init_9

def g_Integer_intValue (x0 : Nat) (h : Hp) : Option (Int32 × Hp) :=
  (getI [35, 535] 0 x0 h).bind fun a1 =>
  some (a1, h)
theorem ct_g_Integer_intValue {G : Gx} {RL : Lv} {l : Launch} (hL : LvA G RL plR) (x0 : Nat) (h : Hp) : Ct id G RL l yJ9_intValue (ws_ yJ9_intValue cJ9_intValue 1 (some .int)) 0 0 finI [vr x0] h (g_Integer_intValue x0 h) := by
  refine Ct.of (Pl := plR) [(0, vr x0)] (by decide) hL rfl (Nat.le_of_ble_eq_true rfl) ?_
  intro E C e6 hf hlo e1 e2 e3 e4 e5
  subst e1; subst e2; subst e3
  replace C : Cx E cJ9_intValue (some .int) RJ9 := C
  replace e6 : (eMe E).name = "intValue" := e6
  unfold g_Integer_intValue
  refine s_aload_n C dJ9_intValue_0 0 rfl rfl ?_
  refine s_getI [35, 535] C (flc ⟨fo_J9_205_35, rfl⟩ (fl1 ⟨fo_J9_205_35, rfl⟩)) (pl_of e4 rfl) dJ9_intValue_1 fun a1 => ?_
  exact s_iret C rfl dJ9_intValue_4

def g_Integer_equals_j26 (y0 : Int32) (h5 : Hp) : Option (Int32 × Hp) :=
  if nrw 2 y0 = y0 then some (y0, h5) else none
def g_Integer_equals (x0 : Nat) (x1 : Nat) (h : Hp) : Option (Int32 × Hp) :=
  (ins [35] [] x1 h).bind fun a1 =>
  if a1 = 0 then
    if nrw 2 (0 : Int32) = (0 : Int32) then some ((0 : Int32), h) else none
  else
    (getI [35, 535] 0 x0 h).bind fun a2 =>
    (cst [35] x1 h).bind fun _ =>
    bn (dsp (tg h x1 % 500) none [(35, g_Integer_intValue x1 h)]) fun r3 h4 =>
    if a2 = r3 then
      g_Integer_equals_j26 (1 : Int32) h4
    else
      g_Integer_equals_j26 (0 : Int32) h4
theorem ct_g_Integer_equals {G : Gx} {RL : Lv} {l : Launch} (hL : LvA G RL plR) (x0 : Nat) (x1 : Nat) (h : Hp) : Ct id G RL l yJ9_equals (ws_ yJ9_equals cJ9_equals 2 (some .boolean)) 1 20 finI [vr x0, vr x1] h (g_Integer_equals x0 x1 h) := by
  refine Ct.of (Pl := plR) [(0, vr x0), (1, vr x1)] (by decide) hL rfl (Nat.le_of_ble_eq_true rfl) ?_
  intro E C e6 hf hlo e1 e2 e3 e4 e5
  subst e1; subst e2; subst e3
  replace C : Cx E cJ9_equals (some .boolean) RJ9 := C
  replace e6 : (eMe E).name = "equals" := e6
  unfold g_Integer_equals
  refine s_aload_n C dJ9_equals_0 1 rfl rfl ?_
  refine s_ins [35] [] "java/lang/Integer" C q1051 (fl1 ao_java_lang_Integer_35) (fun _ h => by cases h) dJ9_equals_1 fun a1 => ?_
  refine s_if_eq C 27 dJ9_equals_4 (by decide) ?_ ?_
  · refine s_iconst C (0 : Int32) dJ9_equals_27 (by decide) ?_
    exact s_zret 2 C (by decide) (by decide) rfl dJ9_equals_28
  · refine s_aload_n C dJ9_equals_7 0 rfl rfl ?_
    refine s_getI [35, 535] C (flc ⟨fo_J9_205_35, rfl⟩ (fl1 ⟨fo_J9_205_35, rfl⟩)) (pl_of e4 rfl) dJ9_equals_8 fun a2 => ?_
    refine s_aload_n C dJ9_equals_11 1 rfl rfl ?_
    refine s_cast [35] "java/lang/Integer" C q1051 (fl1 ao_java_lang_Integer_35) dJ9_equals_12 ?_
    refine s_dk 18 finI [.int a2] (fun r3 h4 => ?_) (fun hk => s_dsp 35 (fun ht => c_V C 0 [.int a2] 35 RJ9 ro_35 (ct_g_Integer_intValue hL x1 h) (lw_V q1052 q1053 q1054 q119 q1055) nd_J9_intValue rfl (le_fr hf rfl) (le_fr hlo rfl) rfl (Nat.le_of_ble_eq_true rfl) dJ9_equals_15 hk ht) s_dsp0)
    have hj26 : ∀ (y0 : Int32) (h5 : Hp), Sim id E (QM id E finI) h5 26 [] [.int y0] (g_Integer_equals_j26 y0 h5) := by
      intro y0 h5
      exact s_zret 2 C (by decide) (by decide) rfl dJ9_equals_26
    refine s_icmp_ne C 25 dJ9_equals_18 (by decide) ?_ ?_
    · refine s_iconst C (0 : Int32) dJ9_equals_25 (by decide) ?_
      refine Sim.keep [] rfl ?_
      exact hj26 _ _
    · refine s_iconst C (1 : Int32) dJ9_equals_21 (by decide) ?_
      refine s_goto C 26 dJ9_equals_22 (by decide) ?_
      refine Sim.keep [] rfl ?_
      exact hj26 _ _

def g_Integer_hashCode (x0 : Int32) (h : Hp) : Option (Int32 × Hp) :=
  some (x0, h)
theorem ct_g_Integer_hashCode {G : Gx} {RL : Lv} {l : Launch} (hL : LvA G RL plR) (x0 : Int32) (h : Hp) : Ct id G RL l yJ9_hashCode_2 (ws_ yJ9_hashCode_2 cJ9_hashCode_2 1 (some .int)) 0 0 finI [.int x0] h (g_Integer_hashCode x0 h) := by
  refine Ct.of (Pl := plR) [(0, .int x0)] (by decide) hL rfl (Nat.le_of_ble_eq_true rfl) ?_
  intro E C e6 hf hlo e1 e2 e3 e4 e5
  subst e1; subst e2; subst e3
  replace C : Cx E cJ9_hashCode_2 (some .int) RJ9 := C
  replace e6 : (eMe E).name = "hashCode" := e6
  unfold g_Integer_hashCode
  refine s_iload_n C dJ9_hashCode_2_0 0 rfl rfl ?_
  exact s_iret C rfl dJ9_hashCode_2_1

def g_Integer_hashCode2 (x0 : Nat) (h : Hp) : Option (Int32 × Hp) :=
  (getI [35, 535] 0 x0 h).bind fun a1 =>
  bn (g_Integer_hashCode a1 h) fun r2 h3 =>
  some (r2, h3)
theorem ct_g_Integer_hashCode2 {G : Gx} {RL : Lv} {l : Launch} (hL : LvA G RL plR) (x0 : Nat) (h : Hp) : Ct id G RL l yJ9_hashCode (ws_ yJ9_hashCode cJ9_hashCode 1 (some .int)) 1 20 finI [vr x0] h (g_Integer_hashCode2 x0 h) := by
  refine Ct.of (Pl := plR) [(0, vr x0)] (by decide) hL rfl (Nat.le_of_ble_eq_true rfl) ?_
  intro E C e6 hf hlo e1 e2 e3 e4 e5
  subst e1; subst e2; subst e3
  replace C : Cx E cJ9_hashCode (some .int) RJ9 := C
  replace e6 : (eMe E).name = "hashCode" := e6
  unfold g_Integer_hashCode2
  refine s_aload_n C dJ9_hashCode_0 0 rfl rfl ?_
  refine s_getI [35, 535] C (flc ⟨fo_J9_205_35, rfl⟩ (fl1 ⟨fo_J9_205_35, rfl⟩)) (pl_of e4 rfl) dJ9_hashCode_1 fun a1 => ?_
  refine c_S C 1 [] (ct_g_Integer_hashCode hL a1 h) (lw_S q938 q939 q119 q940) nd_J9_hashCode_2.2 rfl (le_fr hf rfl) (le_fr hlo rfl) rfl (Nat.le_of_ble_eq_true rfl) dJ9_hashCode_4 fun r2 h3 => ?_
  exact s_iret C rfl dJ9_hashCode_7

def g_Integer_numberOfLeadingZeros_j73 (x0 : Int32) (x1 : Int32) (h4 : Hp) : Option (Int32 × Hp) :=
  some ((x1 - (x0.toUInt32 >>> (1 : UInt32)).toInt32), h4)
def g_Integer_numberOfLeadingZeros_j61 (x0 : Int32) (x1 : Int32) (h3 : Hp) : Option (Int32 × Hp) :=
  if x0 < (4 : Int32) then
    g_Integer_numberOfLeadingZeros_j73 x0 x1 h3
  else
    bd ((x0.toUInt32 >>> (2 : UInt32)).toInt32) fun a5 =>
    g_Integer_numberOfLeadingZeros_j73 a5 (x1 + (-2 : Int32)) h3
def g_Integer_numberOfLeadingZeros_j48 (x0 : Int32) (x1 : Int32) (h2 : Hp) : Option (Int32 × Hp) :=
  if x0 < (16 : Int32) then
    g_Integer_numberOfLeadingZeros_j61 x0 x1 h2
  else
    bd ((x0.toUInt32 >>> (4 : UInt32)).toInt32) fun a6 =>
    g_Integer_numberOfLeadingZeros_j61 a6 (x1 + (-4 : Int32)) h2
def g_Integer_numberOfLeadingZeros_j33 (x0 : Int32) (x1 : Int32) (h1 : Hp) : Option (Int32 × Hp) :=
  if x0 < (256 : Int32) then
    g_Integer_numberOfLeadingZeros_j48 x0 x1 h1
  else
    bd ((x0.toUInt32 >>> (8 : UInt32)).toInt32) fun a7 =>
    g_Integer_numberOfLeadingZeros_j48 a7 (x1 + (-8 : Int32)) h1
def g_Integer_numberOfLeadingZeros_j14 (y0 : Int32) (h9 : Hp) : Option (Int32 × Hp) :=
  some (y0, h9)
def g_Integer_numberOfLeadingZeros (x0 : Int32) (h : Hp) : Option (Int32 × Hp) :=
  if 0 < x0 then
    if x0 < (65536 : Int32) then
      g_Integer_numberOfLeadingZeros_j33 x0 (31 : Int32) h
    else
      bd ((x0.toUInt32 >>> (16 : UInt32)).toInt32) fun a8 =>
      g_Integer_numberOfLeadingZeros_j33 a8 ((31 : Int32) + (-16 : Int32)) h
  else
    if x0 = 0 then
      g_Integer_numberOfLeadingZeros_j14 (32 : Int32) h
    else
      g_Integer_numberOfLeadingZeros_j14 (0 : Int32) h
theorem ct_g_Integer_numberOfLeadingZeros {G : Gx} {RL : Lv} {l : Launch} (hL : LvA G RL plR) (x0 : Int32) (h : Hp) : Ct id G RL l yJ9_numberOfLeadingZeros (ws_ yJ9_numberOfLeadingZeros cJ9_numberOfLeadingZeros 2 (some .int)) 0 0 finI [.int x0] h (g_Integer_numberOfLeadingZeros x0 h) := by
  refine Ct.of (Pl := plR) [(0, .int x0)] (by decide) hL rfl (Nat.le_of_ble_eq_true rfl) ?_
  intro E C e6 hf hlo e1 e2 e3 e4 e5
  subst e1; subst e2; subst e3
  replace C : Cx E cJ9_numberOfLeadingZeros (some .int) RJ9 := C
  replace e6 : (eMe E).name = "numberOfLeadingZeros" := e6
  unfold g_Integer_numberOfLeadingZeros
  refine s_iload_n C dJ9_numberOfLeadingZeros_0 0 rfl rfl ?_
  refine s_if_gt C 15 dJ9_numberOfLeadingZeros_1 (by decide) ?_ ?_
  · refine s_bipush C (31 : Int32) dJ9_numberOfLeadingZeros_15 (by decide) ?_
    refine s_istore_n (la' := [(1, .int (31 : Int32)), (0, .int x0)]) C 1 dJ9_numberOfLeadingZeros_17 rfl (lt_nl e5 rfl) rfl ?_
    refine s_iload_n C dJ9_numberOfLeadingZeros_18 1 rfl rfl ?_
    refine s_ldcwi C q322 dJ9_numberOfLeadingZeros_19 ?_
    have hj33 : ∀ (x0 : Int32) (x1 : Int32) (h1 : Hp), Sim id E (QM id E finI) h1 33 [(0, .int x0), (1, .int x1)] [] (g_Integer_numberOfLeadingZeros_j33 x0 x1 h1) := by
      intro x0 x1 h1
      refine s_iload_n C dJ9_numberOfLeadingZeros_33 0 rfl rfl ?_
      refine s_sipush C (256 : Int32) dJ9_numberOfLeadingZeros_34 (by decide) ?_
      have hj48 : ∀ (x0 : Int32) (x1 : Int32) (h2 : Hp), Sim id E (QM id E finI) h2 48 [(0, .int x0), (1, .int x1)] [] (g_Integer_numberOfLeadingZeros_j48 x0 x1 h2) := by
        intro x0 x1 h2
        refine s_iload_n C dJ9_numberOfLeadingZeros_48 0 rfl rfl ?_
        refine s_bipush C (16 : Int32) dJ9_numberOfLeadingZeros_49 (by decide) ?_
        have hj61 : ∀ (x0 : Int32) (x1 : Int32) (h3 : Hp), Sim id E (QM id E finI) h3 61 [(0, .int x0), (1, .int x1)] [] (g_Integer_numberOfLeadingZeros_j61 x0 x1 h3) := by
          intro x0 x1 h3
          refine s_iload_n C dJ9_numberOfLeadingZeros_61 0 rfl rfl ?_
          refine s_iconst C (4 : Int32) dJ9_numberOfLeadingZeros_62 (by decide) ?_
          have hj73 : ∀ (x0 : Int32) (x1 : Int32) (h4 : Hp), Sim id E (QM id E finI) h4 73 [(0, .int x0), (1, .int x1)] [] (g_Integer_numberOfLeadingZeros_j73 x0 x1 h4) := by
            intro x0 x1 h4
            refine s_iload_n C dJ9_numberOfLeadingZeros_73 1 rfl rfl ?_
            refine s_iload_n C dJ9_numberOfLeadingZeros_74 0 rfl rfl ?_
            refine s_iconst C (1 : Int32) dJ9_numberOfLeadingZeros_75 (by decide) ?_
            refine s_iushr C (1 : UInt32) dJ9_numberOfLeadingZeros_76 (by decide) ?_
            refine s_isub C dJ9_numberOfLeadingZeros_77 ?_
            exact s_iret C rfl dJ9_numberOfLeadingZeros_78
          refine s_icmp_lt C 73 dJ9_numberOfLeadingZeros_63 (by decide) ?_ ?_
          · exact hj73 _ _ _
          · refine s_iinc (la' := [(1, .int (x1 + (-2 : Int32))), (0, .int x0)]) C 1 dJ9_numberOfLeadingZeros_66 rfl rfl (lt_nl e5 rfl) rfl ?_
            refine s_iload_n C dJ9_numberOfLeadingZeros_69 1 rfl rfl ?_
            refine s_iconst C (2 : Int32) dJ9_numberOfLeadingZeros_70 (by decide) ?_
            refine s_iushr C (2 : UInt32) dJ9_numberOfLeadingZeros_71 (by decide) ?_
            refine s_bdi fun a5 => ?_
            refine s_istore_n (la' := [(0, .int a5), (1, .int (x1 + (-2 : Int32)))]) C 0 dJ9_numberOfLeadingZeros_72 rfl (lt_nl e5 rfl) rfl ?_
            exact hj73 _ _ _
        refine s_icmp_lt C 61 dJ9_numberOfLeadingZeros_51 (by decide) ?_ ?_
        · exact hj61 _ _ _
        · refine s_iinc (la' := [(1, .int (x1 + (-4 : Int32))), (0, .int x0)]) C 1 dJ9_numberOfLeadingZeros_54 rfl rfl (lt_nl e5 rfl) rfl ?_
          refine s_iload_n C dJ9_numberOfLeadingZeros_57 1 rfl rfl ?_
          refine s_iconst C (4 : Int32) dJ9_numberOfLeadingZeros_58 (by decide) ?_
          refine s_iushr C (4 : UInt32) dJ9_numberOfLeadingZeros_59 (by decide) ?_
          refine s_bdi fun a6 => ?_
          refine s_istore_n (la' := [(0, .int a6), (1, .int (x1 + (-4 : Int32)))]) C 0 dJ9_numberOfLeadingZeros_60 rfl (lt_nl e5 rfl) rfl ?_
          exact hj61 _ _ _
      refine s_icmp_lt C 48 dJ9_numberOfLeadingZeros_37 (by decide) ?_ ?_
      · exact hj48 _ _ _
      · refine s_iinc (la' := [(1, .int (x1 + (-8 : Int32))), (0, .int x0)]) C 1 dJ9_numberOfLeadingZeros_40 rfl rfl (lt_nl e5 rfl) rfl ?_
        refine s_iload_n C dJ9_numberOfLeadingZeros_43 1 rfl rfl ?_
        refine s_bipush C (8 : Int32) dJ9_numberOfLeadingZeros_44 (by decide) ?_
        refine s_iushr C (8 : UInt32) dJ9_numberOfLeadingZeros_46 (by decide) ?_
        refine s_bdi fun a7 => ?_
        refine s_istore_n (la' := [(0, .int a7), (1, .int (x1 + (-8 : Int32)))]) C 0 dJ9_numberOfLeadingZeros_47 rfl (lt_nl e5 rfl) rfl ?_
        exact hj48 _ _ _
    refine s_icmp_lt C 33 dJ9_numberOfLeadingZeros_22 (by decide) ?_ ?_
    · refine Sim.keep [1, 0] rfl ?_
      exact hj33 _ _ _
    · refine s_iinc (la' := [(1, .int ((31 : Int32) + (-16 : Int32))), (0, .int x0)]) C 0 dJ9_numberOfLeadingZeros_25 rfl rfl (lt_nl e5 rfl) rfl ?_
      refine s_iload_n C dJ9_numberOfLeadingZeros_28 1 rfl rfl ?_
      refine s_bipush C (16 : Int32) dJ9_numberOfLeadingZeros_29 (by decide) ?_
      refine s_iushr C (16 : UInt32) dJ9_numberOfLeadingZeros_31 (by decide) ?_
      refine s_bdi fun a8 => ?_
      refine s_istore_n (la' := [(0, .int a8), (1, .int ((31 : Int32) + (-16 : Int32)))]) C 0 dJ9_numberOfLeadingZeros_32 rfl (lt_nl e5 rfl) rfl ?_
      exact hj33 _ _ _
  · refine s_iload_n C dJ9_numberOfLeadingZeros_4 0 rfl rfl ?_
    have hj14 : ∀ (y0 : Int32) (h9 : Hp), Sim id E (QM id E finI) h9 14 [] [.int y0] (g_Integer_numberOfLeadingZeros_j14 y0 h9) := by
      intro y0 h9
      exact s_iret C rfl dJ9_numberOfLeadingZeros_14
    refine s_if_ne C 13 dJ9_numberOfLeadingZeros_5 (by decide) ?_ ?_
    · refine s_iconst C (0 : Int32) dJ9_numberOfLeadingZeros_13 (by decide) ?_
      refine Sim.keep [] rfl ?_
      exact hj14 _ _
    · refine s_bipush C (32 : Int32) dJ9_numberOfLeadingZeros_8 (by decide) ?_
      refine s_goto C 14 dJ9_numberOfLeadingZeros_10 (by decide) ?_
      refine Sim.keep [] rfl ?_
      exact hj14 _ _

def g_Integer_valueOf_j23 (x0 : Int32) (h1 : Hp) : Option (Nat × Hp) :=
  bn (newO 35 1 h1) fun o2 h3 =>
  bn (g_Integer_init o2 x0 h3) fun _ h4 =>
  some (o2, h4)
def g_Integer_valueOf (x0 : Int32) (h : Hp) : Option (Nat × Hp) :=
  if x0 < (-128 : Int32) then
    g_Integer_valueOf_j23 x0 h
  else
    if (127 : Int32) < x0 then
      g_Integer_valueOf_j23 x0 h
    else
      (aldR [209, 709] 3 (x0 + (128 : Int32)) h).bind fun a5 =>
      some (a5, h)
theorem ct_g_Integer_valueOf {G : Gx} {RL : Lv} {l : Launch} (hL : LvA G RL plR) (x0 : Int32) (h : Hp) : Ct id G RL l yJ9_valueOf (ws_ yJ9_valueOf cJ9_valueOf 1 (some (.object "java/lang/Integer"))) 3 61 finR [.int x0] h (g_Integer_valueOf x0 h) := by
  refine Ct.of (Pl := plR) [(0, .int x0)] (by decide) hL rfl (Nat.le_of_ble_eq_true rfl) ?_
  intro E C e6 hf hlo e1 e2 e3 e4 e5
  subst e1; subst e2; subst e3
  replace C : Cx E cJ9_valueOf (some (.object "java/lang/Integer")) RJ9 := C
  replace e6 : (eMe E).name = "valueOf" := e6
  unfold g_Integer_valueOf
  refine s_iload_n C dJ9_valueOf_0 0 rfl rfl ?_
  refine s_bipush C (-128 : Int32) dJ9_valueOf_1 (by decide) ?_
  have hj23 : ∀ (x0 : Int32) (h1 : Hp), Sim id E (QM id E finR) h1 23 [(0, .int x0)] [] (g_Integer_valueOf_j23 x0 h1) := by
    intro x0 h1
    refine s_newO 35 1 C no_J9_1 (pl_of1 e4 rfl) dJ9_valueOf_23 fun o2 h3 zo2 => ?_
    refine s_dup C dJ9_valueOf_26 rfl ?_
    refine s_iload_n C dJ9_valueOf_27 0 rfl rfl ?_
    refine c_I C 1 [vr o2] zo2 (ct_g_Integer_init hL o2 x0 h3) (lw_meth q1380) q119 q1378 q1379 rfl nd_J9_init.2 rfl (le_fr hf rfl) (le_fr hlo rfl) rfl (Nat.le_of_ble_eq_true rfl) dJ9_valueOf_28 fun _ h4 => ?_
    exact s_aret C (Or.inl ⟨_, rfl⟩) rfl dJ9_valueOf_31
  refine s_icmp_lt C 23 dJ9_valueOf_3 (by decide) ?_ ?_
  · exact hj23 _ _
  · refine s_iload_n C dJ9_valueOf_6 0 rfl rfl ?_
    refine s_gets (.int (127 : Int32)) C so_J9_191 st_int dJ9_valueOf_7 ?_
    refine s_icmp_gt C 23 dJ9_valueOf_10 (by decide) ?_ ?_
    · exact hj23 _ _
    · refine s_gets (vr 3) C so_J9_195 (st_ref C (by decide) (by decide)) dJ9_valueOf_13 ?_
      refine s_iload_n C dJ9_valueOf_16 0 rfl rfl ?_
      refine s_sipush C (128 : Int32) dJ9_valueOf_17 (by decide) ?_
      refine s_iadd C dJ9_valueOf_20 ?_
      refine s_aald [209, 709] 9 C (by decide) (flc rfl (fl1 rfl)) (pl_of e4 rfl) dJ9_valueOf_21 fun a5 => ?_
      exact s_aret C (Or.inl ⟨_, rfl⟩) rfl dJ9_valueOf_22

def g_RuntimeException_init (x0 : Nat) (h : Hp) : Option (Unit × Hp) :=
  if x0 = 0 then none else
  bn (g_Exception_init x0 h) fun _ h1 =>
  some ((), h1)
theorem ct_g_RuntimeException_init {G : Gx} {RL : Lv} {l : Launch} (hL : LvA G RL plR) (x0 : Nat) (h : Hp) : Ct id G RL l yJ14_init (ws_ yJ14_init cJ14_init 1 none) 1 20 finV [vr x0] h (g_RuntimeException_init x0 h) := by
  refine Ct.of (Pl := plR) [(0, vr x0)] (by decide) hL rfl (Nat.le_of_ble_eq_true rfl) ?_
  intro E C e6 hf hlo e1 e2 e3 e4 e5
  subst e1; subst e2; subst e3
  replace C : Cx E cJ14_init none RJ14 := C
  replace e6 : (eMe E).name = "<init>" := e6
  unfold g_RuntimeException_init
  refine s_aload_n C dJ14_init_0 0 rfl rfl ?_
  refine s_nz fun z2 => ?_
  refine c_I C 0 [] z2 (ct_g_Exception_init hL x0 h) (lw_meth q520) q123 q518 q519 rfl nd_J13_init.2 rfl (le_fr hf rfl) (le_fr hlo rfl) rfl (Nat.le_of_ble_eq_true rfl) dJ14_init_1 fun _ h1 => ?_
  exact s_vret C rfl dJ14_init_4

def g_StringBuilder_length (x0 : Nat) (h : Hp) : Option (Int32 × Hp) :=
  bn (dsp (tg h x0 % 500) none [(29, g_AbstractStringBuilder_length x0 h)]) fun r1 h2 =>
  some (r1, h2)
theorem ct_g_StringBuilder_length {G : Gx} {RL : Lv} {l : Launch} (hL : LvA G RL plR) (x0 : Nat) (h : Hp) : Ct id G RL l yJ33_length (ws_ yJ33_length cJ33_length 1 (some .int)) 1 20 finI [vr x0] h (g_StringBuilder_length x0 h) := by
  refine Ct.of (Pl := plR) [(0, vr x0)] (by decide) hL rfl (Nat.le_of_ble_eq_true rfl) ?_
  intro E C e6 hf hlo e1 e2 e3 e4 e5
  subst e1; subst e2; subst e3
  replace C : Cx E cJ33_length (some .int) RJ33 := C
  replace e6 : (eMe E).name = "length" := e6
  unfold g_StringBuilder_length
  refine s_aload_n C dJ33_length_0 0 rfl rfl ?_
  refine s_dk 4 finI [] (fun r1 h2 => ?_) (fun hk => s_dsp 29 (fun ht => c_SU C 0 [] 29 RJ33 ro_29 (ct_g_AbstractStringBuilder_length hL x0 h) (lw_SU q1686 q1682 q1266 q1681 q150 q1687) ⟨by decide +kernel, by decide +kernel⟩ rfl (le_fr hf rfl) (le_fr hlo rfl) rfl (Nat.le_of_ble_eq_true rfl) dJ33_length_1 rfl hk ht) s_dsp0)
  exact s_iret C rfl dJ33_length_4

def g_Arrays_copyOfRangeByte (x0 : Nat) (x1 : Int32) (x2 : Int32) (h : Hp) : Option (Nat × Hp) :=
  none
theorem ct_g_Arrays_copyOfRangeByte {G : Gx} {RL : Lv} {l : Launch} (hL : LvA G RL plR) (x0 : Nat) (x1 : Int32) (x2 : Int32) (h : Hp) : Ct id G RL l yJ18_copyOfRangeByte (ws_ yJ18_copyOfRangeByte cJ18_copyOfRangeByte 5 (some (.array (.byte)))) 0 0 finR [vr x0, .int x1, .int x2] h (g_Arrays_copyOfRangeByte x0 x1 x2 h) := by
  refine Ct.of (Pl := plR) [(0, vr x0), (1, .int x1), (2, .int x2)] (by decide) hL rfl (Nat.le_of_ble_eq_true rfl) ?_
  intro E C e6 hf hlo e1 e2 e3 e4 e5
  subst e1; subst e2; subst e3
  replace C : Cx E cJ18_copyOfRangeByte (some (.array (.byte))) RJ18 := C
  replace e6 : (eMe E).name = "copyOfRangeByte" := e6
  unfold g_Arrays_copyOfRangeByte
  refine s_iload_n C dJ18_copyOfRangeByte_0 1 rfl rfl ?_
  refine s_iload_n C dJ18_copyOfRangeByte_1 2 rfl rfl ?_
  exact sim_none

def g_Arrays_copyOfRange_j10 (x0 : Nat) (x1 : Int32) (x2 : Int32) (h1 : Hp) : Option (Nat × Hp) :=
  bn (g_Arrays_copyOfRangeByte x0 x1 x2 h1) fun r2 h3 =>
  some (r2, h3)
def g_Arrays_copyOfRange (x0 : Nat) (x1 : Int32) (x2 : Int32) (h : Hp) : Option (Nat × Hp) :=
  if x1 = 0 then
    (alen [201, 701] x0 h).bind fun a4 =>
    if x2 = a4 then
      none
    else
      g_Arrays_copyOfRange_j10 x0 x1 x2 h
  else
    g_Arrays_copyOfRange_j10 x0 x1 x2 h
theorem ct_g_Arrays_copyOfRange {G : Gx} {RL : Lv} {l : Launch} (hL : LvA G RL plR) (x0 : Nat) (x1 : Int32) (x2 : Int32) (h : Hp) : Ct id G RL l yJ18_copyOfRange (ws_ yJ18_copyOfRange cJ18_copyOfRange 3 (some (.array (.byte)))) 1 24 finR [vr x0, .int x1, .int x2] h (g_Arrays_copyOfRange x0 x1 x2 h) := by
  refine Ct.of (Pl := plR) [(0, vr x0), (1, .int x1), (2, .int x2)] (by decide) hL rfl (Nat.le_of_ble_eq_true rfl) ?_
  intro E C e6 hf hlo e1 e2 e3 e4 e5
  subst e1; subst e2; subst e3
  replace C : Cx E cJ18_copyOfRange (some (.array (.byte))) RJ18 := C
  replace e6 : (eMe E).name = "copyOfRange" := e6
  unfold g_Arrays_copyOfRange
  refine s_iload_n C dJ18_copyOfRange_0 1 rfl rfl ?_
  have hj10 : ∀ (x0 : Nat) (x1 : Int32) (x2 : Int32) (h1 : Hp), Sim id E (QM id E finR) h1 10 [(0, vr x0), (1, .int x1), (2, .int x2)] [] (g_Arrays_copyOfRange_j10 x0 x1 x2 h1) := by
    intro x0 x1 x2 h1
    refine s_aload_n C dJ18_copyOfRange_10 0 rfl rfl ?_
    refine s_iload_n C dJ18_copyOfRange_11 1 rfl rfl ?_
    refine s_iload_n C dJ18_copyOfRange_12 2 rfl rfl ?_
    refine c_S C 3 [] (ct_g_Arrays_copyOfRangeByte hL x0 x1 x2 h1) (lw_S q1692 q1693 q128 q1694) nd_J18_copyOfRangeByte.2 rfl (le_fr hf rfl) (le_fr hlo rfl) rfl (Nat.le_of_ble_eq_true rfl) dJ18_copyOfRange_13 fun r2 h3 => ?_
    exact s_aret C (Or.inr ⟨_, rfl⟩) rfl dJ18_copyOfRange_16
  refine s_if_ne C 10 dJ18_copyOfRange_1 (by decide) ?_ ?_
  · exact hj10 _ _ _ _
  · refine s_iload_n C dJ18_copyOfRange_4 2 rfl rfl ?_
    refine s_aload_n C dJ18_copyOfRange_5 0 rfl rfl ?_
    refine s_alen [201, 701] 1 C (flc rfl (fl1 rfl)) (pl_of e4 rfl) dJ18_copyOfRange_6 fun a4 => ?_
    refine s_icmp_eq C 17 dJ18_copyOfRange_7 (by decide) ?_ ?_
    · refine s_aload_n C dJ18_copyOfRange_17 0 rfl rfl ?_
      exact sim_none
    · exact hj10 _ _ _ _

def g_String_init_j97  (h8 : Hp) : Option (Unit × Hp) :=
  some ((), h8)
def g_String_init_j79 (x0 : Nat) (x3 : Nat) (x4 : Int32) (h9 : Hp) : Option (Unit × Hp) :=
  (putI [28] 1 1 x0 (1 : Int32) h9).bind fun h10 =>
  bn (g_Arrays_copyOfRange x3 (0 : Int32) (x4 <<< (1 : Int32)) h10) fun r11 h12 =>
  (putR [28] 0 x0 r11 h12).bind fun h13 =>
  g_String_init_j97 h13
def g_String_init (x0 : Nat) (x1 : Nat) (x2 : Nat) (h : Hp) : Option (Unit × Hp) :=
  if x0 = 0 then none else
  bn (dsp (tg h x1 % 500) none [(29, g_AbstractStringBuilder_getValue x1 h)]) fun r2 h3 =>
  bn (dsp (tg h3 x1 % 500) none [(29, g_StringBuilder_length x1 h3)]) fun r4 h5 =>
  bn (dsp (tg h5 x1 % 500) none [(29, g_AbstractStringBuilder_isLatin1 x1 h5)]) fun r6 h7 =>
  if r6 = 0 then
    if (1 : Int32) = 0 then
      g_String_init_j79 x0 r2 r4 h7
    else
      (getI [29] 2 x1 h7).bind fun a14 =>
      if a14 = 0 then
        g_String_init_j79 x0 r2 r4 h7
      else
        none
  else
    (putI [28] 1 1 x0 (0 : Int32) h7).bind fun h15 =>
    bn (g_Arrays_copyOfRange r2 (0 : Int32) r4 h15) fun r16 h17 =>
    (putR [28] 0 x0 r16 h17).bind fun h18 =>
    g_String_init_j97 h18
theorem ct_g_String_init {G : Gx} {RL : Lv} {l : Launch} (hL : LvA G RL plR) (x0 : Nat) (x1 : Nat) (x2 : Nat) (h : Hp) : Ct id G RL l yJ27_init_2 (ws_ yJ27_init_2 cJ27_init_2 5 none) 2 46 finV [vr x0, vr x1, vr x2] h (g_String_init x0 x1 x2 h) := by
  refine Ct.of (Pl := plR) [(0, vr x0), (1, vr x1), (2, vr x2)] (by decide) hL rfl (Nat.le_of_ble_eq_true rfl) ?_
  intro E C e6 hf hlo e1 e2 e3 e4 e5
  subst e1; subst e2; subst e3
  replace C : Cx E cJ27_init_2 none RJ27 := C
  replace e6 : (eMe E).name = "<init>" := e6
  unfold g_String_init
  refine s_aload_n C dJ27_init_2_0 0 rfl rfl ?_
  refine s_nz fun z1 => ?_
  refine s_objI C z1 q1674 q177 q178 (le_fr hf rfl) (le_fr hlo rfl) (Nat.le_of_ble_eq_true rfl) dJ27_init_2_1 ?_
  refine s_aload_n C dJ27_init_2_4 1 rfl rfl ?_
  refine s_dk 8 finR [] (fun r2 h3 => ?_) (fun hk => s_dsp 29 (fun ht => c_U C 0 [] 29 RJ33 _ ro_29 (ct_g_AbstractStringBuilder_getValue hL x1 h) (lw_U q1675 q1677 q1678 q1676 q150 q1679) rfl nd_J32_getValue.2 rfl (le_fr hf rfl) (le_fr hlo rfl) rfl (Nat.le_of_ble_eq_true rfl) dJ27_init_2_5 hk ht) s_dsp0)
  refine s_astore_n (la' := [(3, vr r2), (0, vr x0), (1, vr x1), (2, vr x2)]) C 3 dJ27_init_2_8 rfl (lt_nl e5 rfl) rfl ?_
  refine s_aload_n C dJ27_init_2_9 2 rfl rfl ?_
  refine s_dk 13 finI [] (fun r4 h5 => ?_) (fun hk => s_dsp 29 (fun ht => c_O C 0 [] 29 RJ33 _ ro_29 (ct_g_StringBuilder_length hL x1 h3) (lw_O q1680 q1682 q1681 q1683 q1684 q151 q1685) q1687 ⟨by decide +kernel, by decide +kernel, by decide +kernel⟩ rfl (le_fr hf rfl) (le_fr hlo rfl) rfl (Nat.le_of_ble_eq_true rfl) dJ27_init_2_10 hk ht) s_dsp0)
  refine s_istore (la' := [(4, .int r4), (3, vr r2), (0, vr x0), (1, vr x1), (2, vr x2)]) C dJ27_init_2_13 (lt_nl e5 rfl) rfl ?_
  refine s_aload_n C dJ27_init_2_15 3 rfl rfl ?_
  refine s_dk 19 finI [] (fun r6 h7 => ?_) (fun hk => s_dsp 29 (fun ht => c_U C 0 [] 29 RJ33 _ ro_29 (ct_g_AbstractStringBuilder_isLatin1 hL x1 h5) (lw_U q1688 q1271 q1272 q1270 q150 q1273) rfl nd_J32_isLatin1.2 rfl (le_fr hf rfl) (le_fr hlo rfl) rfl (Nat.le_of_ble_eq_true rfl) dJ27_init_2_16 hk ht) s_dsp0)
  have hj97 : ∀  (h8 : Hp), Sim id E (QM id E finV) h8 97 [] [] (g_String_init_j97 h8) := by
    intro h8
    exact s_vret C rfl dJ27_init_2_97
  refine s_if_eq C 41 dJ27_init_2_19 (by decide) ?_ ?_
  · refine s_gets (.int (1 : Int32)) C so_J27_38 st_int dJ27_init_2_41 ?_
    have hj79 : ∀ (x0 : Nat) (x3 : Nat) (x4 : Int32) (h9 : Hp), Sim id E (QM id E finV) h9 79 [(0, vr x0), (3, vr x3), (4, .int x4)] [] (g_String_init_j79 x0 x3 x4 h9) := by
      intro x0 x3 x4 h9
      refine s_aload_n C dJ27_init_2_79 0 rfl rfl ?_
      refine s_iconst C (1 : Int32) dJ27_init_2_80 (by decide) ?_
      refine s_putI [28] 1 C (by decide) (by decide) (fl1 ⟨⟨by decide, fo_J27_15_28, rfl⟩, rfl⟩) (pl_of e4 rfl) (fl1 (Or.inr ⟨e6, fx_J27_15_28⟩)) dJ27_init_2_81 fun h10 => ?_
      refine s_aload_n C dJ27_init_2_84 0 rfl rfl ?_
      refine s_aload_n C dJ27_init_2_85 1 rfl rfl ?_
      refine s_iconst C (0 : Int32) dJ27_init_2_86 (by decide) ?_
      refine s_iload C dJ27_init_2_87 2 rfl ?_
      refine s_iconst C (1 : Int32) dJ27_init_2_89 (by decide) ?_
      refine s_ishl C (1 : Int32) dJ27_init_2_90 (by decide) ?_
      refine c_S C 3 [vr x0] (ct_g_Arrays_copyOfRange hL x3 (0 : Int32) (x4 <<< (1 : Int32)) h10) (lw_S q1689 q1690 q128 q1691) nd_J18_copyOfRange.2 rfl (le_fr hf rfl) (le_fr hlo rfl) rfl (Nat.le_of_ble_eq_true rfl) dJ27_init_2_91 fun r11 h12 => ?_
      refine s_putR [28] C (fl1 ⟨by decide, fo_J27_9_28, rfl⟩) (pl_of e4 rfl) (fl1 (Or.inr ⟨e6, fx_J27_9_28⟩)) dJ27_init_2_94 fun h13 => ?_
      refine Sim.keep [] rfl ?_
      exact hj97 _
    refine s_if_eq C 79 dJ27_init_2_44 (by decide) ?_ ?_
    · refine Sim.keep [2, 1, 0] rfl ?_
      exact hj79 _ _ _ _
    · refine s_aload_n C dJ27_init_2_47 3 rfl rfl ?_
      refine s_getI [29] C (fl1 ⟨fo_J27_1048_29, rfl⟩) (pl_of e4 rfl) dJ27_init_2_48 fun a14 => ?_
      refine s_if_eq C 79 dJ27_init_2_51 (by decide) ?_ ?_
      · refine Sim.keep [2, 1, 0] rfl ?_
        exact hj79 _ _ _ _
      · refine s_aload_n C dJ27_init_2_54 2 rfl rfl ?_
        refine s_aload_n C dJ27_init_2_55 1 rfl rfl ?_
        refine s_iconst C (0 : Int32) dJ27_init_2_56 (by decide) ?_
        refine s_iload C dJ27_init_2_57 0 rfl ?_
        exact sim_none
  · refine s_aload_n C dJ27_init_2_22 2 rfl rfl ?_
    refine s_iconst C (0 : Int32) dJ27_init_2_23 (by decide) ?_
    refine s_putI [28] 1 C (by decide) (by decide) (fl1 ⟨⟨by decide, fo_J27_15_28, rfl⟩, rfl⟩) (pl_of e4 rfl) (fl1 (Or.inr ⟨e6, fx_J27_15_28⟩)) dJ27_init_2_24 fun h15 => ?_
    refine s_aload_n C dJ27_init_2_27 2 rfl rfl ?_
    refine s_aload_n C dJ27_init_2_28 1 rfl rfl ?_
    refine s_iconst C (0 : Int32) dJ27_init_2_29 (by decide) ?_
    refine s_iload C dJ27_init_2_30 0 rfl ?_
    refine c_S C 3 [vr x0] (ct_g_Arrays_copyOfRange hL r2 (0 : Int32) r4 h15) (lw_S q1689 q1690 q128 q1691) nd_J18_copyOfRange.2 rfl (le_fr hf rfl) (le_fr hlo rfl) rfl (Nat.le_of_ble_eq_true rfl) dJ27_init_2_32 fun r16 h17 => ?_
    refine s_putR [28] C (fl1 ⟨by decide, fo_J27_9_28, rfl⟩) (pl_of e4 rfl) (fl1 (Or.inr ⟨e6, fx_J27_9_28⟩)) dJ27_init_2_35 fun h18 => ?_
    refine s_goto C 97 dJ27_init_2_38 (by decide) ?_
    refine Sim.keep [] rfl ?_
    exact hj97 _

def g_String_init2 (x0 : Nat) (x1 : Nat) (h : Hp) : Option (Unit × Hp) :=
  if x0 = 0 then none else
  bn (g_String_init x0 x1 0 h) fun _ h1 =>
  some ((), h1)
theorem ct_g_String_init2 {G : Gx} {RL : Lv} {l : Launch} (hL : LvA G RL plR) (x0 : Nat) (x1 : Nat) (h : Hp) : Ct id G RL l yJ27_init (ws_ yJ27_init cJ27_init 2 none) 3 70 finV [vr x0, vr x1] h (g_String_init2 x0 x1 h) := by
  refine Ct.of (Pl := plR) [(0, vr x0), (1, vr x1)] (by decide) hL rfl (Nat.le_of_ble_eq_true rfl) ?_
  intro E C e6 hf hlo e1 e2 e3 e4 e5
  subst e1; subst e2; subst e3
  replace C : Cx E cJ27_init none RJ27 := C
  replace e6 : (eMe E).name = "<init>" := e6
  unfold g_String_init2
  refine s_aload_n C dJ27_init_0 0 rfl rfl ?_
  refine s_aload_n C dJ27_init_1 1 rfl rfl ?_
  refine s_null C dJ27_init_2 ?_
  refine s_nz fun z2 => ?_
  refine c_I C 2 [] z2 (ct_g_String_init hL x0 x1 0 h) (lw_meth q1673) q139 q1671 q1672 rfl nd_J27_init_2.2 rfl (le_fr hf rfl) (le_fr hlo rfl) rfl (Nat.le_of_ble_eq_true rfl) dJ27_init_3 fun _ h1 => ?_
  exact s_vret C rfl dJ27_init_6

def g_String_isLatin1_j18 (y0 : Int32) (h1 : Hp) : Option (Int32 × Hp) :=
  if nrw 2 y0 = y0 then some (y0, h1) else none
def g_String_isLatin1_j17  (h2 : Hp) : Option (Int32 × Hp) :=
  g_String_isLatin1_j18 (0 : Int32) h2
def g_String_isLatin1 (x0 : Nat) (h : Hp) : Option (Int32 × Hp) :=
  if (1 : Int32) = 0 then
    g_String_isLatin1_j17 h
  else
    (getI [28, 528] 1 x0 h).bind fun a3 =>
    if a3 = 0 then
      g_String_isLatin1_j18 (1 : Int32) h
    else
      g_String_isLatin1_j17 h
theorem ct_g_String_isLatin1 {G : Gx} {RL : Lv} {l : Launch} (hL : LvA G RL plR) (x0 : Nat) (h : Hp) : Ct id G RL l yJ27_isLatin1 (ws_ yJ27_isLatin1 cJ27_isLatin1 1 (some .boolean)) 0 0 finI [vr x0] h (g_String_isLatin1 x0 h) := by
  refine Ct.of (Pl := plR) [(0, vr x0)] (by decide) hL rfl (Nat.le_of_ble_eq_true rfl) ?_
  intro E C e6 hf hlo e1 e2 e3 e4 e5
  subst e1; subst e2; subst e3
  replace C : Cx E cJ27_isLatin1 (some .boolean) RJ27 := C
  replace e6 : (eMe E).name = "isLatin1" := e6
  unfold g_String_isLatin1
  refine s_gets (.int (1 : Int32)) C so_J27_38 st_int dJ27_isLatin1_0 ?_
  have hj18 : ∀ (y0 : Int32) (h1 : Hp), Sim id E (QM id E finI) h1 18 [] [.int y0] (g_String_isLatin1_j18 y0 h1) := by
    intro y0 h1
    exact s_zret 2 C (by decide) (by decide) rfl dJ27_isLatin1_18
  have hj17 : ∀  (h2 : Hp), Sim id E (QM id E finI) h2 17 [] [] (g_String_isLatin1_j17 h2) := by
    intro h2
    refine s_iconst C (0 : Int32) dJ27_isLatin1_17 (by decide) ?_
    exact hj18 _ _
  refine s_if_eq C 17 dJ27_isLatin1_3 (by decide) ?_ ?_
  · refine Sim.keep [] rfl ?_
    exact hj17 _
  · refine s_aload_n C dJ27_isLatin1_6 0 rfl rfl ?_
    refine s_getI [28, 528] C (flc ⟨fo_J27_15_28, rfl⟩ (fl1 ⟨fo_J27_15_28, rfl⟩)) (pl_of e4 rfl) dJ27_isLatin1_7 fun a3 => ?_
    refine s_if_ne C 17 dJ27_isLatin1_10 (by decide) ?_ ?_
    · refine Sim.keep [] rfl ?_
      exact hj17 _
    · refine s_iconst C (1 : Int32) dJ27_isLatin1_13 (by decide) ?_
      refine s_goto C 18 dJ27_isLatin1_14 (by decide) ?_
      refine Sim.keep [] rfl ?_
      exact hj18 _ _

def g_String_checkIndex (x0 : Int32) (x1 : Int32) (h : Hp) : Option (Unit × Hp) :=
  none
theorem ct_g_String_checkIndex {G : Gx} {RL : Lv} {l : Launch} (hL : LvA G RL plR) (x0 : Int32) (x1 : Int32) (h : Hp) : Ct id G RL l yJ27_checkIndex (ws_ yJ27_checkIndex cJ27_checkIndex 2 none) 0 0 finV [.int x0, .int x1] h (g_String_checkIndex x0 x1 h) := by
  refine Ct.of (Pl := plR) [(0, .int x0), (1, .int x1)] (by decide) hL rfl (Nat.le_of_ble_eq_true rfl) ?_
  intro E C e6 hf hlo e1 e2 e3 e4 e5
  subst e1; subst e2; subst e3
  replace C : Cx E cJ27_checkIndex none RJ27 := C
  replace e6 : (eMe E).name = "checkIndex" := e6
  unfold g_String_checkIndex
  refine s_iload_n C dJ27_checkIndex_0 0 rfl rfl ?_
  refine s_iload_n C dJ27_checkIndex_1 1 rfl rfl ?_
  exact sim_none

def g_StringLatin1_charAt (x0 : Nat) (x1 : Int32) (h : Hp) : Option (Int32 × Hp) :=
  (alen [201, 701] x0 h).bind fun a1 =>
  bn (g_String_checkIndex x1 a1 h) fun _ h2 =>
  (aldI [201, 701] x0 x1 h2).bind fun a3 =>
  if nrw 4 (((a3 &&& (255 : Int32)).toUInt32 % 65536).toInt32) = ((a3 &&& (255 : Int32)).toUInt32 % 65536).toInt32 then some (((a3 &&& (255 : Int32)).toUInt32 % 65536).toInt32, h2) else none
theorem ct_g_StringLatin1_charAt {G : Gx} {RL : Lv} {l : Launch} (hL : LvA G RL plR) (x0 : Nat) (x1 : Int32) (h : Hp) : Ct id G RL l yJ28_charAt (ws_ yJ28_charAt cJ28_charAt 2 (some .char)) 1 21 finI [vr x0, .int x1] h (g_StringLatin1_charAt x0 x1 h) := by
  refine Ct.of (Pl := plR) [(0, vr x0), (1, .int x1)] (by decide) hL rfl (Nat.le_of_ble_eq_true rfl) ?_
  intro E C e6 hf hlo e1 e2 e3 e4 e5
  subst e1; subst e2; subst e3
  replace C : Cx E cJ28_charAt (some .char) RJ28 := C
  replace e6 : (eMe E).name = "charAt" := e6
  unfold g_StringLatin1_charAt
  refine s_iload_n C dJ28_charAt_0 1 rfl rfl ?_
  refine s_aload_n C dJ28_charAt_1 0 rfl rfl ?_
  refine s_alen [201, 701] 1 C (flc rfl (fl1 rfl)) (pl_of e4 rfl) dJ28_charAt_2 fun a1 => ?_
  refine c_S C 2 [] (ct_g_String_checkIndex hL x1 a1 h) (lw_S q2503 q1659 q139 q1660) nd_J27_checkIndex.2 rfl (le_fr hf rfl) (le_fr hlo rfl) rfl (Nat.le_of_ble_eq_true rfl) dJ28_charAt_3 fun _ h2 => ?_
  refine s_aload_n C dJ28_charAt_6 0 rfl rfl ?_
  refine s_iload_n C dJ28_charAt_7 1 rfl rfl ?_
  refine s_bald [201, 701] C (flc rfl (fl1 rfl)) (pl_of e4 rfl) dJ28_charAt_8 fun a3 => ?_
  refine s_sipush C (255 : Int32) dJ28_charAt_9 (by decide) ?_
  refine s_iand C dJ28_charAt_12 ?_
  refine s_i2c C dJ28_charAt_13 ?_
  exact s_zret 4 C (by decide) (by decide) rfl dJ28_charAt_14

def g_String_charAt (x0 : Nat) (x1 : Int32) (h : Hp) : Option (Int32 × Hp) :=
  bn (dsp (tg h x0 % 500) none [(28, g_String_isLatin1 x0 h)]) fun r1 h2 =>
  if r1 = 0 then
    (getR [28, 528] 0 x0 h2).bind fun a3 =>
    none
  else
    (getR [28, 528] 0 x0 h2).bind fun a4 =>
    bn (g_StringLatin1_charAt a4 x1 h2) fun r5 h6 =>
    if nrw 4 r5 = r5 then some (r5, h6) else none
theorem ct_g_String_charAt {G : Gx} {RL : Lv} {l : Launch} (hL : LvA G RL plR) (x0 : Nat) (x1 : Int32) (h : Hp) : Ct id G RL l yJ27_charAt (ws_ yJ27_charAt cJ27_charAt 2 (some .char)) 2 42 finI [vr x0, .int x1] h (g_String_charAt x0 x1 h) := by
  refine Ct.of (Pl := plR) [(0, vr x0), (1, .int x1)] (by decide) hL rfl (Nat.le_of_ble_eq_true rfl) ?_
  intro E C e6 hf hlo e1 e2 e3 e4 e5
  subst e1; subst e2; subst e3
  replace C : Cx E cJ27_charAt (some .char) RJ27 := C
  replace e6 : (eMe E).name = "charAt" := e6
  unfold g_String_charAt
  refine s_aload_n C dJ27_charAt_0 0 rfl rfl ?_
  refine s_dk 4 finI [] (fun r1 h2 => ?_) (fun hk => s_dsp 28 (fun ht => c_V C 0 [] 28 RJ27 ro_28 (ct_g_String_isLatin1 hL x0 h) (lw_V q944 q945 q946 q139 q947) nd_J27_isLatin1 rfl (le_fr hf rfl) (le_fr hlo rfl) rfl (Nat.le_of_ble_eq_true rfl) dJ27_charAt_1 hk ht) s_dsp0)
  refine s_if_eq C 16 dJ27_charAt_4 (by decide) ?_ ?_
  · refine s_aload_n C dJ27_charAt_16 0 rfl rfl ?_
    refine s_getR [28, 528] C (flc ⟨fo_J27_9_28, rfl⟩ (fl1 ⟨fo_J27_9_28, rfl⟩)) (pl_of e4 rfl) dJ27_charAt_17 fun a3 => ?_
    refine s_iload_n C dJ27_charAt_20 1 rfl rfl ?_
    exact sim_none
  · refine s_aload_n C dJ27_charAt_7 0 rfl rfl ?_
    refine s_getR [28, 528] C (flc ⟨fo_J27_9_28, rfl⟩ (fl1 ⟨fo_J27_9_28, rfl⟩)) (pl_of e4 rfl) dJ27_charAt_8 fun a4 => ?_
    refine s_iload_n C dJ27_charAt_11 1 rfl rfl ?_
    refine c_S C 2 [] (ct_g_StringLatin1_charAt hL a4 x1 h2) (lw_S q2500 q2501 q140 q2502) nd_J28_charAt.2 rfl (le_fr hf rfl) (le_fr hlo rfl) rfl (Nat.le_of_ble_eq_true rfl) dJ27_charAt_12 fun r5 h6 => ?_
    exact s_zret 4 C (by decide) (by decide) rfl dJ27_charAt_15

def g_StringLatin1_getChar (x0 : Nat) (x1 : Int32) (h : Hp) : Option (Int32 × Hp) :=
  (aldI [201, 701] x0 x1 h).bind fun a1 =>
  if nrw 4 (((a1 &&& (255 : Int32)).toUInt32 % 65536).toInt32) = ((a1 &&& (255 : Int32)).toUInt32 % 65536).toInt32 then some (((a1 &&& (255 : Int32)).toUInt32 % 65536).toInt32, h) else none
theorem ct_g_StringLatin1_getChar {G : Gx} {RL : Lv} {l : Launch} (hL : LvA G RL plR) (x0 : Nat) (x1 : Int32) (h : Hp) : Ct id G RL l yJ28_getChar (ws_ yJ28_getChar cJ28_getChar 2 (some .char)) 0 0 finI [vr x0, .int x1] h (g_StringLatin1_getChar x0 x1 h) := by
  refine Ct.of (Pl := plR) [(0, vr x0), (1, .int x1)] (by decide) hL rfl (Nat.le_of_ble_eq_true rfl) ?_
  intro E C e6 hf hlo e1 e2 e3 e4 e5
  subst e1; subst e2; subst e3
  replace C : Cx E cJ28_getChar (some .char) RJ28 := C
  replace e6 : (eMe E).name = "getChar" := e6
  unfold g_StringLatin1_getChar
  refine s_aload_n C dJ28_getChar_0 0 rfl rfl ?_
  refine s_iload_n C dJ28_getChar_1 1 rfl rfl ?_
  refine s_bald [201, 701] C (flc rfl (fl1 rfl)) (pl_of e4 rfl) dJ28_getChar_2 fun a1 => ?_
  refine s_sipush C (255 : Int32) dJ28_getChar_3 (by decide) ?_
  refine s_iand C dJ28_getChar_6 ?_
  refine s_i2c C dJ28_getChar_7 ?_
  exact s_zret 4 C (by decide) (by decide) rfl dJ28_getChar_8

def g_ArraysSupport_mismatch_L49 (x0 : Nat) (x1 : Nat) (x2 : Int32) : Int32 → Hp → Option (Int32 × Hp) :=
  lp FU fun rec49 v49 h1 =>
    if x2 ≤ v49 then
      some ((-1 : Int32), h1)
    else
      (aldI [201, 701] x0 v49 h1).bind fun a2 =>
      (aldI [201, 701] x1 v49 h1).bind fun a3 =>
      if a2 = a3 then
        rec49 (v49 + (1 : Int32)) h1
      else
        some (v49, h1)
def g_ArraysSupport_mismatch (x0 : Nat) (x1 : Nat) (x2 : Int32) (h : Hp) : Option (Int32 × Hp) :=
  if x2 ≤ (7 : Int32) then
    g_ArraysSupport_mismatch_L49 x0 x1 x2 (0 : Int32) h
  else
    (aldI [201, 701] x0 (0 : Int32) h).bind fun a4 =>
    (aldI [201, 701] x1 (0 : Int32) h).bind fun a5 =>
    if a4 = a5 then
      none
    else
      some ((0 : Int32), h)
theorem ct_g_ArraysSupport_mismatch {G : Gx} {RL : Lv} {l : Launch} (hL : LvA G RL plR) (x0 : Nat) (x1 : Nat) (x2 : Int32) (h : Hp) : Ct id G RL l yJ16_mismatch (ws_ yJ16_mismatch cJ16_mismatch 4 (some .int)) 0 0 finI [vr x0, vr x1, .int x2] h (g_ArraysSupport_mismatch x0 x1 x2 h) := by
  refine Ct.of (Pl := plR) [(0, vr x0), (1, vr x1), (2, .int x2)] (by decide) hL rfl (Nat.le_of_ble_eq_true rfl) ?_
  intro E C e6 hf hlo e1 e2 e3 e4 e5
  subst e1; subst e2; subst e3
  replace C : Cx E cJ16_mismatch (some .int) RJ16 := C
  replace e6 : (eMe E).name = "mismatch" := e6
  unfold g_ArraysSupport_mismatch
  refine s_iconst C (0 : Int32) dJ16_mismatch_0 (by decide) ?_
  refine s_istore_n (la' := [(3, .int (0 : Int32)), (0, vr x0), (1, vr x1), (2, .int x2)]) C 3 dJ16_mismatch_1 rfl (lt_nl e5 rfl) rfl ?_
  refine s_iload_n C dJ16_mismatch_2 3 rfl rfl ?_
  refine s_bipush C (7 : Int32) dJ16_mismatch_3 (by decide) ?_
  have hL49 : ∀ (x0 : Nat) (x1 : Nat) (x2 : Int32) (v49 : Int32) (h1 : Hp), Sim id E (QM id E finI) h1 49 [(0, vr x0), (1, vr x1), (2, .int x2), (3, .int v49)] [] (g_ArraysSupport_mismatch_L49 x0 x1 x2 v49 h1) := by
    intro x0 x1 x2 v49 h1
    refine Sim.loop (fun v49 => [(0, vr x0), (1, vr x1), (2, .int x2), (3, .int v49)]) (fun _ => []) (fun rec49 hr49 v49 h1 => ?_) FU v49 h1
    refine s_iload_n C dJ16_mismatch_49 3 rfl rfl ?_
    refine s_iload_n C dJ16_mismatch_50 2 rfl rfl ?_
    refine s_icmp_ge C 71 dJ16_mismatch_51 (by decide) ?_ ?_
    · refine s_iconst C (-1 : Int32) dJ16_mismatch_71 (by decide) ?_
      exact s_iret C rfl dJ16_mismatch_72
    · refine s_aload_n C dJ16_mismatch_54 0 rfl rfl ?_
      refine s_iload_n C dJ16_mismatch_55 3 rfl rfl ?_
      refine s_bald [201, 701] C (flc rfl (fl1 rfl)) (pl_of e4 rfl) dJ16_mismatch_56 fun a2 => ?_
      refine s_aload_n C dJ16_mismatch_57 1 rfl rfl ?_
      refine s_iload_n C dJ16_mismatch_58 3 rfl rfl ?_
      refine s_bald [201, 701] C (flc rfl (fl1 rfl)) (pl_of e4 rfl) dJ16_mismatch_59 fun a3 => ?_
      refine s_icmp_eq C 65 dJ16_mismatch_60 (by decide) ?_ ?_
      · refine s_iinc (la' := [(3, .int (v49 + (1 : Int32))), (0, vr x0), (1, vr x1), (2, .int x2)]) C 3 dJ16_mismatch_65 rfl rfl (lt_nl e5 rfl) rfl ?_
        refine s_goto C 49 dJ16_mismatch_68 (by decide) ?_
        refine Sim.keep [1, 2, 3, 0] rfl ?_
        exact hr49 _ _
      · refine s_iload_n C dJ16_mismatch_63 3 rfl rfl ?_
        exact s_iret C rfl dJ16_mismatch_64
  refine s_icmp_le C 49 dJ16_mismatch_5 (by decide) ?_ ?_
  · refine Sim.keep [1, 2, 3, 0] rfl ?_
    exact hL49 _ _ _ _ _
  · refine s_aload_n C dJ16_mismatch_8 1 rfl rfl ?_
    refine s_iconst C (0 : Int32) dJ16_mismatch_9 (by decide) ?_
    refine s_bald [201, 701] C (flc rfl (fl1 rfl)) (pl_of e4 rfl) dJ16_mismatch_10 fun a4 => ?_
    refine s_aload_n C dJ16_mismatch_11 2 rfl rfl ?_
    refine s_iconst C (0 : Int32) dJ16_mismatch_12 (by decide) ?_
    refine s_bald [201, 701] C (flc rfl (fl1 rfl)) (pl_of e4 rfl) dJ16_mismatch_13 fun a5 => ?_
    refine s_icmp_eq C 19 dJ16_mismatch_14 (by decide) ?_ ?_
    · refine s_aload_n C dJ16_mismatch_19 1 rfl rfl ?_
      exact sim_none
    · refine s_iconst C (0 : Int32) dJ16_mismatch_17 (by decide) ?_
      exact s_iret C rfl dJ16_mismatch_18
