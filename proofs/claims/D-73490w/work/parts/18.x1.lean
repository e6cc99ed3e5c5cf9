/-! THE CLASSES' METHODS (printed by hgenapp.py): functions on a heap where the library's things are single cells; contracts -/
set_option maxRecDepth 100000
def g_FinalLinks_common_j15 (rec_X1_common : Int32 → Int32 → Hp → Option (Int32 × Hp)) (y0 : Int32) (h1 : Hp) : Option (Int32 × Hp) :=
  some (y0, h1)
def g_FinalLinks_common (rec_X1_common : Int32 → Int32 → Hp → Option (Int32 × Hp)) (x0 : Int32) (x1 : Int32) (h : Hp) : Option (Int32 × Hp) :=
  if x1 = 0 then
    g_FinalLinks_common_j15 rec_X1_common x0 h
  else
    if x1 = 0 then none else
    bn (rec_X1_common x1 (x0 - x0 / x1 * x1) h) fun r2 h3 =>
    g_FinalLinks_common_j15 rec_X1_common r2 h3
theorem ct_g_FinalLinks_common {G : Gx} {RL : Lv} {l : Launch} (hL : LvA G RL plA) (hJ : JK G RL l) (f0 l0 : Nat) (hf0 : 100 ≤ f0) (hl0 : 10000 ≤ l0) (rec_X1_common : Int32 → Int32 → Hp → Option (Int32 × Hp)) (hrec_X1_common : ∀ (x0 : Int32) (x1 : Int32) (h : Hp), Ct id G RL l yX1_common (ws_ yX1_common cX1_common 2 (some .int)) f0 l0 finI [.int x0, .int x1] h (rec_X1_common x0 x1 h)) (x0 : Int32) (x1 : Int32) (h : Hp) : Ct id G RL l yX1_common (ws_ yX1_common cX1_common 2 (some .int)) (f0 + 1) (l0 + 21) finI [.int x0, .int x1] h (g_FinalLinks_common rec_X1_common x0 x1 h) := by
  refine Ct.of (Pl := plA) [(0, .int x0), (1, .int x1)] (by decide) hL rfl (Nat.le_of_ble_eq_true rfl) ?_
  intro E C e6 hf hlo e1 e2 e3 e4 e5
  subst e1; subst e2; subst e3
  replace C : Cx E cX1_common (some .int) RX1 := C
  replace e6 : (eMe E).name = "common" := e6
  unfold g_FinalLinks_common
  refine s_iload_n C dX1_common_0 1 rfl rfl ?_
  have hj15 : ∀ (y0 : Int32) (h1 : Hp), Sim id E (QM id E finI) h1 15 [] [.int y0] (g_FinalLinks_common_j15 rec_X1_common y0 h1) := by
    intro y0 h1
    exact s_iret C rfl dX1_common_15
  refine s_if_ne C 8 dX1_common_1 (by decide) ?_ ?_
  · refine s_iload_n C dX1_common_8 1 rfl rfl ?_
    refine s_iload_n C dX1_common_9 0 rfl rfl ?_
    refine s_iload_n C dX1_common_10 1 rfl rfl ?_
    refine s_irem C dX1_common_11 ?_
    refine c_S C 2 [] (hrec_X1_common x1 (x0 - x0 / x1 * x1) h) (lw_S q2877 q2878 q107 q2879) nd_X1_common.2 rfl (by omega) (by omega) rfl (Nat.le_of_ble_eq_true rfl) dX1_common_12 fun r2 h3 => ?_
    refine Sim.keep [] rfl ?_
    exact hj15 _ _
  · refine s_iload_n C dX1_common_4 0 rfl rfl ?_
    refine s_goto C 15 dX1_common_5 (by decide) ?_
    refine Sim.keep [] rfl ?_
    exact hj15 _ _

def gR_common : Nat → Int32 → Int32 → Hp → Option (Int32 × Hp)
  | 0 => fun _ _ _ => none
  | n + 1 => g_FinalLinks_common (gR_common n)
theorem ctR_common {G : Gx} {RL : Lv} {l : Launch} (hL : LvA G RL plA) (hJ : JK G RL l) : ∀ n, ∀ (x0 : Int32) (x1 : Int32) (h : Hp), Ct id G RL l yX1_common (ws_ yX1_common cX1_common 2 (some .int)) (100 + 1 * n) (10000 + 21 * n) finI [.int x0, .int x1] h (gR_common n x0 x1 h) := by
  intro n
  induction n with
  | zero => intros; intro r h9 hx; cases hx
  | succ n ih =>
    rw [show 100 + 1 * (n + 1) = (100 + 1 * n) + 1 from by omega, show 10000 + 21 * (n + 1) = (10000 + 21 * n) + 21 from by omega]
    exact ct_g_FinalLinks_common hL hJ (100 + 1 * n) (10000 + 21 * n) (by omega) (by omega) (gR_common n) ih

def g_Reader_need_j29 (x0 : Nat) (y0 : Nat) (y1 : Nat) (y2 : Int32) (h4 : Hp) : Option (Except Nat Unit × Hp) :=
  (getI [7, 15, 16] 6 x0 h4).bind fun a5 =>
  if y1 = 0 then none else
  bn (g_Fault_init y1 y2 a5 h4) fun _ h6 =>
  if tg h6 y0 = 8 then some (.error y0, h6) else none
def g_Reader_need_j24 (x0 : Nat) (y0 : Nat) (y1 : Nat) (h8 : Hp) : Option (Except Nat Unit × Hp) :=
  g_Reader_need_j29 x0 y0 y1 (1 : Int32) h8
def g_Reader_need (x0 : Nat) (x1 : Int32) (x2 : Int32) (h : Hp) : Option (Except Nat Unit × Hp) :=
  if x1 = 0 then
    bn (newO 8 8 h) fun o1 h2 =>
    (getI [7, 15, 16] 5 x0 h2).bind fun a3 =>
    if a3 = (1 : Int32) then
      g_Reader_need_j24 x0 o1 o1 h2
    else
      (getI [7, 15, 16] 5 x0 h2).bind fun a9 =>
      if a9 = (5 : Int32) then
        g_Reader_need_j24 x0 o1 o1 h2
      else
        g_Reader_need_j29 x0 o1 o1 x2 h2
  else
    some (.ok (), h)
theorem ct_g_Reader_need {G : Gx} {RL : Lv} {l : Launch} (hL : LvA G RL plA) (hJ : JK G RL l) (x0 : Nat) (x1 : Int32) (x2 : Int32) (h : Hp) : CtX G RL l yX7_need (ws_ yX7_need cX7_need 3 none) 42 4046 finV [vr x0, .int x1, .int x2] h (g_Reader_need x0 x1 x2 h) := by
  refine CtX.of (Pl := plA) [(0, vr x0), (1, .int x1), (2, .int x2)] (by decide) hL rfl (Nat.le_of_ble_eq_true rfl) ?_
  intro E C e6 hf hlo e1 e2 e3 e4 e5 e7
  subst e1; subst e2; subst e3
  replace C : Cx E cX7_need none RX7 := C
  replace e6 : (eMe E).name = "need" := e6
  unfold g_Reader_need
  refine s_iload_n C dX7_need_0 1 rfl rfl ?_
  refine s_if_ne C 37 dX7_need_1 (by decide) ?_ ?_
  · exact Sim.okR (s_vret C rfl dX7_need_37)
  · refine s_newO 8 8 C no_X7_69 (pl_of1 e4 rfl) dX7_need_4 fun o1 h2 zo1 => ?_
    refine s_dup C dX7_need_7 rfl ?_
    refine s_aload_n C dX7_need_8 0 rfl rfl ?_
    refine s_getI [7, 15, 16] C (flc ⟨fo_X7_42_7, rfl⟩ (flc ⟨fo_X7_42_15, rfl⟩ (fl1 ⟨fo_X7_42_16, rfl⟩))) (pl_of e4 rfl) dX7_need_9 fun a3 => ?_
    refine s_iconst C (1 : Int32) dX7_need_12 (by decide) ?_
    have hj29 : ∀ (x0 : Nat) (y0 : Nat) (y1 : Nat) (y2 : Int32) (h4 : Hp), Sim id E (QMX E finV) h4 29 [(0, vr x0)] [.int y2, vr y1, vr y0] (g_Reader_need_j29 x0 y0 y1 y2 h4) := by
      intro x0 y0 y1 y2 h4
      unfold g_Reader_need_j29
      refine s_aload_n C dX7_need_29 0 rfl rfl ?_
      refine s_getI [7, 15, 16] C (flc ⟨fo_X7_39_7, rfl⟩ (flc ⟨fo_X7_39_15, rfl⟩ (fl1 ⟨fo_X7_39_16, rfl⟩))) (pl_of e4 rfl) dX7_need_30 fun a5 => ?_
      refine s_nz fun z7 => ?_
      refine c_I C 2 [vr y0] z7 (ct_g_Fault_init hL hJ y1 y2 a5 h4) (lw_meth q1750) q152 q1748 q1749 rfl nd_X9_init.2 rfl (le_fr hf rfl) (le_fr hlo rfl) rfl (Nat.le_of_ble_eq_true rfl) dX7_need_33 fun _ h6 => ?_
      exact s_athrow C e7 (pl_of1 e4 rfl) dX7_need_36
    have hj24 : ∀ (x0 : Nat) (y0 : Nat) (y1 : Nat) (h8 : Hp), Sim id E (QMX E finV) h8 24 [(0, vr x0)] [vr y1, vr y0] (g_Reader_need_j24 x0 y0 y1 h8) := by
      intro x0 y0 y1 h8
      unfold g_Reader_need_j24
      refine s_iconst C (1 : Int32) dX7_need_24 (by decide) ?_
      refine s_goto C 29 dX7_need_25 (by decide) ?_
      exact hj29 _ _ _ _ _
    refine s_icmp_eq C 24 dX7_need_13 (by decide) ?_ ?_
    · refine Sim.keep [0] rfl ?_
      exact hj24 _ _ _ _
    · refine s_aload_n C dX7_need_16 0 rfl rfl ?_
      refine s_getI [7, 15, 16] C (flc ⟨fo_X7_42_7, rfl⟩ (flc ⟨fo_X7_42_15, rfl⟩ (fl1 ⟨fo_X7_42_16, rfl⟩))) (pl_of e4 rfl) dX7_need_17 fun a9 => ?_
      refine s_iconst C (5 : Int32) dX7_need_20 (by decide) ?_
      refine s_icmp_ne C 28 dX7_need_21 (by decide) ?_ ?_
      · refine s_iload_n C dX7_need_28 2 rfl rfl ?_
        refine Sim.keep [0] rfl ?_
        exact hj29 _ _ _ _ _
      · refine Sim.keep [0] rfl ?_
        exact hj24 _ _ _ _

def g_Reader_named_j33 (x0 : Nat) (x2 : Int32) (y0 : Nat) (y1 : Int32) (h8 : Hp) : Option (Except Nat Int32 × Hp) :=
  bx (dsp (tg h8 y0 % 500) none [(7, g_Reader_need y0 y1 (3 : Int32) h8), (15, g_Reader_need y0 y1 (3 : Int32) h8), (16, g_Reader_need y0 y1 (3 : Int32) h8)]) fun _ h9 =>
  bn (dsp (tg h9 x0 % 500) none [(7, g_Reader_go x0 h9), (15, g_Reader_go x0 h9), (16, g_Reader_go x0 h9)]) fun _ h10 =>
  some (.ok x2, h10)
def g_Reader_named (x0 : Nat) (x1 : Int32) (h : Hp) : Option (Except Nat Int32 × Hp) :=
  bn (dsp (tg h x0 % 500) none [(7, g_Reader_isName x0 h), (15, g_Reader_isName x0 h), (16, g_Reader_isName x0 h)]) fun r1 h2 =>
  bx (dsp (tg h2 x0 % 500) none [(7, g_Reader_need x0 r1 (1 : Int32) h2), (15, g_Reader_need x0 r1 (1 : Int32) h2), (16, g_Reader_need x0 r1 (1 : Int32) h2)]) fun _ h3 =>
  (getR [7, 15, 16] 4 x0 h3).bind fun a4 =>
  (getR [7, 15, 16] 9 x0 h3).bind fun a5 =>
  bn (dsp (tg h3 a4 % 500) none [(2, g_Chain_find a4 a5 x1 h3)]) fun r6 h7 =>
  if r6 = (-1 : Int32) then
    g_Reader_named_j33 x0 r6 x0 (0 : Int32) h7
  else
    g_Reader_named_j33 x0 r6 x0 (1 : Int32) h7
theorem ct_g_Reader_named {G : Gx} {RL : Lv} {l : Launch} (hL : LvA G RL plA) (hJ : JK G RL l) (x0 : Nat) (x1 : Int32) (h : Hp) : CtX G RL l yX7_named (ws_ yX7_named cX7_named 3 (some .int)) 43 4068 finI [vr x0, .int x1] h (g_Reader_named x0 x1 h) := by
  refine CtX.of (Pl := plA) [(0, vr x0), (1, .int x1)] (by decide) hL rfl (Nat.le_of_ble_eq_true rfl) ?_
  intro E C e6 hf hlo e1 e2 e3 e4 e5 e7
  subst e1; subst e2; subst e3
  replace C : Cx E cX7_named (some .int) RX7 := C
  replace e6 : (eMe E).name = "named" := e6
  unfold g_Reader_named
  refine s_aload_n C dX7_named_0 0 rfl rfl ?_
  refine s_aload_n C dX7_named_1 0 rfl rfl ?_
  refine s_dk 5 finI [vr x0] (fun r1 h2 => ?_) (fun hk => s_dsp 7 (fun ht => c_U C 0 [vr x0] 7 RX8 _ ro_7 (ct_g_Reader_isName hL hJ x0 h) (lw_U q2078 q3567 q3569 q1788 q148 q1789) rfl nd_X7_isName.2 rfl (le_fr hf rfl) (le_fr hlo rfl) rfl (Nat.le_of_ble_eq_true rfl) dX7_named_2 hk ht) (s_dsp 15 (fun ht => c_U C 0 [vr x0] 15 RX17 _ ro_15 (ct_g_Reader_isName hL hJ x0 h) (lw_U q2078 q3567 q3568 q1788 q148 q1789) rfl nd_X7_isName.2 rfl (le_fr hf rfl) (le_fr hlo rfl) rfl (Nat.le_of_ble_eq_true rfl) dX7_named_2 hk ht) (s_dsp 16 (fun ht => c_U C 0 [vr x0] 16 RX18 _ ro_16 (ct_g_Reader_isName hL hJ x0 h) (lw_U q2078 q3567 q3570 q1788 q148 q1789) rfl nd_X7_isName.2 rfl (le_fr hf rfl) (le_fr hlo rfl) rfl (Nat.le_of_ble_eq_true rfl) dX7_named_2 hk ht) s_dsp0)))
  refine s_iconst C (1 : Int32) dX7_named_5 (by decide) ?_
  refine s_dkX 9 finV [] (fun _ _ => SimX.out C e7) (fun _ h3 => ?_) (fun hx hk => s_dspX 7 (fun ht => x_U C 2 [] 7 RX8 _ ro_7 (ct_g_Reader_need hL hJ x0 r1 (1 : Int32) h2) (lw_U q1773 q3554 q3556 q1737 q148 q1738) rfl nd_X7_need.2 rfl (le_fr hf rfl) (le_fr hlo rfl) rfl (Nat.le_of_ble_eq_true rfl) dX7_named_6 hx hk ht) (s_dspX 15 (fun ht => x_U C 2 [] 15 RX17 _ ro_15 (ct_g_Reader_need hL hJ x0 r1 (1 : Int32) h2) (lw_U q1773 q3554 q3555 q1737 q148 q1738) rfl nd_X7_need.2 rfl (le_fr hf rfl) (le_fr hlo rfl) rfl (Nat.le_of_ble_eq_true rfl) dX7_named_6 hx hk ht) (s_dspX 16 (fun ht => x_U C 2 [] 16 RX18 _ ro_16 (ct_g_Reader_need hL hJ x0 r1 (1 : Int32) h2) (lw_U q1773 q3554 q3557 q1737 q148 q1738) rfl nd_X7_need.2 rfl (le_fr hf rfl) (le_fr hlo rfl) rfl (Nat.le_of_ble_eq_true rfl) dX7_named_6 hx hk ht) s_dspX0)))
  refine s_aload_n C dX7_named_9 0 rfl rfl ?_
  refine s_getR [7, 15, 16] C (flc ⟨fo_X7_28_7, rfl⟩ (flc ⟨fo_X7_28_15, rfl⟩ (fl1 ⟨fo_X7_28_16, rfl⟩))) (pl_of e4 rfl) dX7_named_10 fun a4 => ?_
  refine s_aload_n C dX7_named_13 0 rfl rfl ?_
  refine s_getR [7, 15, 16] C (flc ⟨fo_X7_11_7, rfl⟩ (flc ⟨fo_X7_11_15, rfl⟩ (fl1 ⟨fo_X7_11_16, rfl⟩))) (pl_of e4 rfl) dX7_named_14 fun a5 => ?_
  refine s_iload_n C dX7_named_17 1 rfl rfl ?_
  refine s_dk 21 finI [] (fun r6 h7 => ?_) (fun hk => s_dsp 2 (fun ht => c_V C 2 [] 2 RX2 ro_2 (ct_g_Chain_find hL hJ a4 a5 x1 h3) (lw_V q2079 q2080 q2081 q108 q2082) nd_X2_find rfl (le_fr hf rfl) (le_fr hlo rfl) rfl (Nat.le_of_ble_eq_true rfl) dX7_named_18 hk ht) s_dsp0)
  refine s_istore_n (la' := [(2, .int r6), (0, vr x0), (1, .int x1)]) C 2 dX7_named_21 rfl (lt_nl e5 rfl) rfl ?_
  refine s_aload_n C dX7_named_22 1 rfl rfl ?_
  refine s_iload_n C dX7_named_23 0 rfl rfl ?_
  refine s_iconst C (-1 : Int32) dX7_named_24 (by decide) ?_
  have hj33 : ∀ (x0 : Nat) (x2 : Int32) (y0 : Nat) (y1 : Int32) (h8 : Hp), Sim id E (QMX E finI) h8 33 [(0, vr x0), (2, .int x2)] [.int y1, vr y0] (g_Reader_named_j33 x0 x2 y0 y1 h8) := by
    intro x0 x2 y0 y1 h8
    unfold g_Reader_named_j33
    refine s_iconst C (3 : Int32) dX7_named_33 (by decide) ?_
    refine s_dkX 37 finV [] (fun _ _ => SimX.out C e7) (fun _ h9 => ?_) (fun hx hk => s_dspX 7 (fun ht => x_U C 2 [] 7 RX8 _ ro_7 (ct_g_Reader_need hL hJ y0 y1 (3 : Int32) h8) (lw_U q1773 q3554 q3556 q1737 q148 q1738) rfl nd_X7_need.2 rfl (le_fr hf rfl) (le_fr hlo rfl) rfl (Nat.le_of_ble_eq_true rfl) dX7_named_34 hx hk ht) (s_dspX 15 (fun ht => x_U C 2 [] 15 RX17 _ ro_15 (ct_g_Reader_need hL hJ y0 y1 (3 : Int32) h8) (lw_U q1773 q3554 q3555 q1737 q148 q1738) rfl nd_X7_need.2 rfl (le_fr hf rfl) (le_fr hlo rfl) rfl (Nat.le_of_ble_eq_true rfl) dX7_named_34 hx hk ht) (s_dspX 16 (fun ht => x_U C 2 [] 16 RX18 _ ro_16 (ct_g_Reader_need hL hJ y0 y1 (3 : Int32) h8) (lw_U q1773 q3554 q3557 q1737 q148 q1738) rfl nd_X7_need.2 rfl (le_fr hf rfl) (le_fr hlo rfl) rfl (Nat.le_of_ble_eq_true rfl) dX7_named_34 hx hk ht) s_dspX0)))
    refine s_aload_n C dX7_named_37 0 rfl rfl ?_
    refine s_dk 41 finV [] (fun _ h10 => ?_) (fun hk => s_dsp 7 (fun ht => c_U C 0 [] 7 RX8 _ ro_7 (ct_g_Reader_go hL hJ x0 h9) (lw_U q1777 q3558 q3560 q1560 q148 q1561) rfl nd_X7_go.2 rfl (le_fr hf rfl) (le_fr hlo rfl) rfl (Nat.le_of_ble_eq_true rfl) dX7_named_38 hk ht) (s_dsp 15 (fun ht => c_U C 0 [] 15 RX17 _ ro_15 (ct_g_Reader_go hL hJ x0 h9) (lw_U q1777 q3558 q3559 q1560 q148 q1561) rfl nd_X7_go.2 rfl (le_fr hf rfl) (le_fr hlo rfl) rfl (Nat.le_of_ble_eq_true rfl) dX7_named_38 hk ht) (s_dsp 16 (fun ht => c_U C 0 [] 16 RX18 _ ro_16 (ct_g_Reader_go hL hJ x0 h9) (lw_U q1777 q3558 q3561 q1560 q148 q1561) rfl nd_X7_go.2 rfl (le_fr hf rfl) (le_fr hlo rfl) rfl (Nat.le_of_ble_eq_true rfl) dX7_named_38 hk ht) s_dsp0)))
    refine s_iload_n C dX7_named_41 1 rfl rfl ?_
    exact Sim.okR (s_iret C rfl dX7_named_42)
  refine s_icmp_eq C 32 dX7_named_25 (by decide) ?_ ?_
  · refine s_iconst C (0 : Int32) dX7_named_32 (by decide) ?_
    refine Sim.keep [1, 0] rfl ?_
    exact hj33 _ _ _ _ _
  · refine s_iconst C (1 : Int32) dX7_named_28 (by decide) ?_
    refine s_goto C 33 dX7_named_29 (by decide) ?_
    refine Sim.keep [1, 0] rfl ?_
    exact hj33 _ _ _ _ _

def g_Reader_block (x0 : Nat) (h : Hp) : Option (Except Nat Int32 × Hp) :=
  bx (dsp (tg h x0 % 500) none [(7, g_Reader_named x0 (100 : Int32) h), (15, g_Reader_named x0 (100 : Int32) h), (16, g_Reader_named x0 (100 : Int32) h)]) fun r1 h2 =>
  some (.ok r1, h2)
theorem ct_g_Reader_block {G : Gx} {RL : Lv} {l : Launch} (hL : LvA G RL plA) (hJ : JK G RL l) (x0 : Nat) (h : Hp) : CtX G RL l yX7_block (ws_ yX7_block cX7_block 1 (some .int)) 44 4090 finI [vr x0] h (g_Reader_block x0 h) := by
  refine CtX.of (Pl := plA) [(0, vr x0)] (by decide) hL rfl (Nat.le_of_ble_eq_true rfl) ?_
  intro E C e6 hf hlo e1 e2 e3 e4 e5 e7
  subst e1; subst e2; subst e3
  replace C : Cx E cX7_block (some .int) RX7 := C
  replace e6 : (eMe E).name = "block" := e6
  unfold g_Reader_block
  refine s_aload_n C dX7_block_0 0 rfl rfl ?_
  refine s_bipush C (100 : Int32) dX7_block_1 (by decide) ?_
  refine s_dkX 6 finI [] (fun _ _ => SimX.out C e7) (fun r1 h2 => ?_) (fun hx hk => s_dspX 7 (fun ht => x_P C 1 [] 7 "FinalLinks$ChainReader" ro_7 (ct_g_Reader_named hL hJ x0 (100 : Int32) h) (lw_meth q2077) q148 q2074 q2076 (List.mem_of_getElem? (i := 1) rfl) nd_X7_named.2 rfl (le_fr hf rfl) (le_fr hlo rfl) rfl (Nat.le_of_ble_eq_true rfl) dX7_block_3 hx hk ht) (s_dspX 15 (fun ht => x_P C 1 [] 15 "FinalLinks$BookReader" ro_15 (ct_g_Reader_named hL hJ x0 (100 : Int32) h) (lw_meth q2077) q148 q2074 q2076 (List.mem_of_getElem? (i := 3) rfl) nd_X7_named.2 rfl (le_fr hf rfl) (le_fr hlo rfl) rfl (Nat.le_of_ble_eq_true rfl) dX7_block_3 hx hk ht) (s_dspX 16 (fun ht => x_P C 1 [] 16 "FinalLinks$SentenceReader" ro_16 (ct_g_Reader_named hL hJ x0 (100 : Int32) h) (lw_meth q2077) q148 q2074 q2076 (List.mem_of_getElem? (i := 5) rfl) nd_X7_named.2 rfl (le_fr hf rfl) (le_fr hlo rfl) rfl (Nat.le_of_ble_eq_true rfl) dX7_block_3 hx hk ht) s_dspX0)))
  exact Sim.okR (s_iret C rfl dX7_block_6)

def g_Reader_number_j14 (x0 : Nat) (x1 : Int32) (x2 : Int32) (y0 : Nat) (y1 : Int32) (h2 : Hp) : Option (Except Nat Int32 × Hp) :=
  bx (dsp (tg h2 y0 % 500) none [(7, g_Reader_need y0 y1 (1 : Int32) h2), (15, g_Reader_need y0 y1 (1 : Int32) h2), (16, g_Reader_need y0 y1 (1 : Int32) h2)]) fun _ h3 =>
  (getI [7, 15, 16] 7 x0 h3).bind fun a4 =>
  bn (g_FinalLinks_isIn a4 x1 x2 h3) fun r5 h6 =>
  bx (dsp (tg h6 x0 % 500) none [(7, g_Reader_need x0 r5 (2 : Int32) h6), (15, g_Reader_need x0 r5 (2 : Int32) h6), (16, g_Reader_need x0 r5 (2 : Int32) h6)]) fun _ h7 =>
  (getI [7, 15, 16] 7 x0 h7).bind fun a8 =>
  bn (dsp (tg h7 x0 % 500) none [(7, g_Reader_go x0 h7), (15, g_Reader_go x0 h7), (16, g_Reader_go x0 h7)]) fun _ h9 =>
  some (.ok a8, h9)
def g_Reader_number (x0 : Nat) (x1 : Int32) (x2 : Int32) (h : Hp) : Option (Except Nat Int32 × Hp) :=
  (getI [7, 15, 16] 5 x0 h).bind fun a1 =>
  if a1 = (3 : Int32) then
    g_Reader_number_j14 x0 x1 x2 x0 (1 : Int32) h
  else
    g_Reader_number_j14 x0 x1 x2 x0 (0 : Int32) h
theorem ct_g_Reader_number {G : Gx} {RL : Lv} {l : Launch} (hL : LvA G RL plA) (hJ : JK G RL l) (x0 : Nat) (x1 : Int32) (x2 : Int32) (h : Hp) : CtX G RL l yX7_number (ws_ yX7_number cX7_number 4 (some .int)) 43 4068 finI [vr x0, .int x1, .int x2] h (g_Reader_number x0 x1 x2 h) := by
  refine CtX.of (Pl := plA) [(0, vr x0), (1, .int x1), (2, .int x2)] (by decide) hL rfl (Nat.le_of_ble_eq_true rfl) ?_
  intro E C e6 hf hlo e1 e2 e3 e4 e5 e7
  subst e1; subst e2; subst e3
  replace C : Cx E cX7_number (some .int) RX7 := C
  replace e6 : (eMe E).name = "number" := e6
  unfold g_Reader_number
  refine s_aload_n C dX7_number_0 0 rfl rfl ?_
  refine s_aload_n C dX7_number_1 0 rfl rfl ?_
  refine s_getI [7, 15, 16] C (flc ⟨fo_X7_42_7, rfl⟩ (flc ⟨fo_X7_42_15, rfl⟩ (fl1 ⟨fo_X7_42_16, rfl⟩))) (pl_of e4 rfl) dX7_number_2 fun a1 => ?_
  refine s_iconst C (3 : Int32) dX7_number_5 (by decide) ?_
  have hj14 : ∀ (x0 : Nat) (x1 : Int32) (x2 : Int32) (y0 : Nat) (y1 : Int32) (h2 : Hp), Sim id E (QMX E finI) h2 14 [(0, vr x0), (1, .int x1), (2, .int x2)] [.int y1, vr y0] (g_Reader_number_j14 x0 x1 x2 y0 y1 h2) := by
    intro x0 x1 x2 y0 y1 h2
    unfold g_Reader_number_j14
    refine s_iconst C (1 : Int32) dX7_number_14 (by decide) ?_
    refine s_dkX 18 finV [] (fun _ _ => SimX.out C e7) (fun _ h3 => ?_) (fun hx hk => s_dspX 7 (fun ht => x_U C 2 [] 7 RX8 _ ro_7 (ct_g_Reader_need hL hJ y0 y1 (1 : Int32) h2) (lw_U q1773 q3554 q3556 q1737 q148 q1738) rfl nd_X7_need.2 rfl (le_fr hf rfl) (le_fr hlo rfl) rfl (Nat.le_of_ble_eq_true rfl) dX7_number_15 hx hk ht) (s_dspX 15 (fun ht => x_U C 2 [] 15 RX17 _ ro_15 (ct_g_Reader_need hL hJ y0 y1 (1 : Int32) h2) (lw_U q1773 q3554 q3555 q1737 q148 q1738) rfl nd_X7_need.2 rfl (le_fr hf rfl) (le_fr hlo rfl) rfl (Nat.le_of_ble_eq_true rfl) dX7_number_15 hx hk ht) (s_dspX 16 (fun ht => x_U C 2 [] 16 RX18 _ ro_16 (ct_g_Reader_need hL hJ y0 y1 (1 : Int32) h2) (lw_U q1773 q3554 q3557 q1737 q148 q1738) rfl nd_X7_need.2 rfl (le_fr hf rfl) (le_fr hlo rfl) rfl (Nat.le_of_ble_eq_true rfl) dX7_number_15 hx hk ht) s_dspX0)))
    refine s_aload_n C dX7_number_18 0 rfl rfl ?_
    refine s_aload_n C dX7_number_19 0 rfl rfl ?_
    refine s_getI [7, 15, 16] C (flc ⟨fo_X7_55_7, rfl⟩ (flc ⟨fo_X7_55_15, rfl⟩ (fl1 ⟨fo_X7_55_16, rfl⟩))) (pl_of e4 rfl) dX7_number_20 fun a4 => ?_
    refine s_iload_n C dX7_number_23 1 rfl rfl ?_
    refine s_iload_n C dX7_number_24 2 rfl rfl ?_
    refine c_SN C 3 [vr x0] _ (ct_g_FinalLinks_isIn hL hJ a4 x1 x2 h3) (lw_meth q1776) q107 q1774 q1775 nd_X1_isIn.2 rfl (le_fr hf rfl) (le_fr hlo rfl) rfl (Nat.le_of_ble_eq_true rfl) dX7_number_25 fun r5 h6 => ?_
    refine s_iconst C (2 : Int32) dX7_number_28 (by decide) ?_
    refine s_dkX 32 finV [] (fun _ _ => SimX.out C e7) (fun _ h7 => ?_) (fun hx hk => s_dspX 7 (fun ht => x_U C 2 [] 7 RX8 _ ro_7 (ct_g_Reader_need hL hJ x0 r5 (2 : Int32) h6) (lw_U q1773 q3554 q3556 q1737 q148 q1738) rfl nd_X7_need.2 rfl (le_fr hf rfl) (le_fr hlo rfl) rfl (Nat.le_of_ble_eq_true rfl) dX7_number_29 hx hk ht) (s_dspX 15 (fun ht => x_U C 2 [] 15 RX17 _ ro_15 (ct_g_Reader_need hL hJ x0 r5 (2 : Int32) h6) (lw_U q1773 q3554 q3555 q1737 q148 q1738) rfl nd_X7_need.2 rfl (le_fr hf rfl) (le_fr hlo rfl) rfl (Nat.le_of_ble_eq_true rfl) dX7_number_29 hx hk ht) (s_dspX 16 (fun ht => x_U C 2 [] 16 RX18 _ ro_16 (ct_g_Reader_need hL hJ x0 r5 (2 : Int32) h6) (lw_U q1773 q3554 q3557 q1737 q148 q1738) rfl nd_X7_need.2 rfl (le_fr hf rfl) (le_fr hlo rfl) rfl (Nat.le_of_ble_eq_true rfl) dX7_number_29 hx hk ht) s_dspX0)))
    refine s_aload_n C dX7_number_32 0 rfl rfl ?_
    refine s_getI [7, 15, 16] C (flc ⟨fo_X7_55_7, rfl⟩ (flc ⟨fo_X7_55_15, rfl⟩ (fl1 ⟨fo_X7_55_16, rfl⟩))) (pl_of e4 rfl) dX7_number_33 fun a8 => ?_
    refine s_istore_n (la' := [(3, .int a8), (0, vr x0), (1, .int x1), (2, .int x2)]) C 3 dX7_number_36 rfl (lt_nl e5 rfl) rfl ?_
    refine s_aload_n C dX7_number_37 1 rfl rfl ?_
    refine s_dk 41 finV [] (fun _ h9 => ?_) (fun hk => s_dsp 7 (fun ht => c_U C 0 [] 7 RX8 _ ro_7 (ct_g_Reader_go hL hJ x0 h7) (lw_U q1777 q3558 q3560 q1560 q148 q1561) rfl nd_X7_go.2 rfl (le_fr hf rfl) (le_fr hlo rfl) rfl (Nat.le_of_ble_eq_true rfl) dX7_number_38 hk ht) (s_dsp 15 (fun ht => c_U C 0 [] 15 RX17 _ ro_15 (ct_g_Reader_go hL hJ x0 h7) (lw_U q1777 q3558 q3559 q1560 q148 q1561) rfl nd_X7_go.2 rfl (le_fr hf rfl) (le_fr hlo rfl) rfl (Nat.le_of_ble_eq_true rfl) dX7_number_38 hk ht) (s_dsp 16 (fun ht => c_U C 0 [] 16 RX18 _ ro_16 (ct_g_Reader_go hL hJ x0 h7) (lw_U q1777 q3558 q3561 q1560 q148 q1561) rfl nd_X7_go.2 rfl (le_fr hf rfl) (le_fr hlo rfl) rfl (Nat.le_of_ble_eq_true rfl) dX7_number_38 hk ht) s_dsp0)))
    refine s_iload_n C dX7_number_41 0 rfl rfl ?_
    exact Sim.okR (s_iret C rfl dX7_number_42)
  refine s_icmp_ne C 13 dX7_number_6 (by decide) ?_ ?_
  · refine s_iconst C (0 : Int32) dX7_number_13 (by decide) ?_
    exact hj14 _ _ _ _ _ _
  · refine s_iconst C (1 : Int32) dX7_number_9 (by decide) ?_
    refine s_goto C 14 dX7_number_10 (by decide) ?_
    exact hj14 _ _ _ _ _ _

def g_SentenceReader_than_j33 (x0 : Nat) (x1 : Int32) (y0 : Nat) (y1 : Int32) (h2 : Hp) : Option (Except Nat Nat × Hp) :=
  bx (dsp (tg h2 y0 % 500) none [(16, g_Reader_need y0 y1 (1 : Int32) h2)]) fun _ h3 =>
  (getI [7, 15, 16] 8 x0 h3).bind fun a4 =>
  bn (dsp (tg h3 x0 % 500) none [(16, g_Reader_go x0 h3)]) fun _ h5 =>
  bn (newO 20 3 h5) fun o6 h7 =>
  bx (dsp (tg h7 x0 % 500) none [(16, g_Reader_number x0 (0 : Int32) (999 : Int32) h7)]) fun r8 h9 =>
  bn (g_Than_init o6 x1 a4 r8 h9) fun _ h10 =>
  some (.ok o6, h10)
def g_SentenceReader_than_j32 (x0 : Nat) (x1 : Int32) (y0 : Nat) (h11 : Hp) : Option (Except Nat Nat × Hp) :=
  g_SentenceReader_than_j33 x0 x1 y0 (0 : Int32) h11
def g_SentenceReader_than (x0 : Nat) (x1 : Int32) (h : Hp) : Option (Except Nat Nat × Hp) :=
  (getI [7, 15, 16] 5 x0 h).bind fun a1 =>
  if a1 = (6 : Int32) then
    (getI [7, 15, 16] 8 x0 h).bind fun a12 =>
    if a12 = (40 : Int32) then
      g_SentenceReader_than_j32 x0 x1 x0 h
    else
      (getI [7, 15, 16] 8 x0 h).bind fun a13 =>
      if a13 = (41 : Int32) then
        g_SentenceReader_than_j32 x0 x1 x0 h
      else
        g_SentenceReader_than_j33 x0 x1 x0 (1 : Int32) h
  else
    g_SentenceReader_than_j32 x0 x1 x0 h
theorem ct_g_SentenceReader_than {G : Gx} {RL : Lv} {l : Launch} (hL : LvA G RL plA) (hJ : JK G RL l) (x0 : Nat) (x1 : Int32) (h : Hp) : CtX G RL l yX18_than (ws_ yX18_than cX18_than 3 (some (.object "FinalLinks$Cond"))) 44 4091 finR [vr x0, .int x1] h (g_SentenceReader_than x0 x1 h) := by
  refine CtX.of (Pl := plA) [(0, vr x0), (1, .int x1)] (by decide) hL rfl (Nat.le_of_ble_eq_true rfl) ?_
  intro E C e6 hf hlo e1 e2 e3 e4 e5 e7
  subst e1; subst e2; subst e3
  replace C : Cx E cX18_than (some (.object "FinalLinks$Cond")) RX18 := C
  replace e6 : (eMe E).name = "than" := e6
  unfold g_SentenceReader_than
  refine s_aload_n C dX18_than_0 0 rfl rfl ?_
  refine s_aload_n C dX18_than_1 0 rfl rfl ?_
  refine s_getI [7, 15, 16] C (flc ⟨fo_X18_19_7, rfl⟩ (flc ⟨fo_X18_19_15, rfl⟩ (fl1 ⟨fo_X18_19_16, rfl⟩))) (pl_of e4 rfl) dX18_than_2 fun a1 => ?_
  refine s_bipush C (6 : Int32) dX18_than_5 (by decide) ?_
  have hj33 : ∀ (x0 : Nat) (x1 : Int32) (y0 : Nat) (y1 : Int32) (h2 : Hp), Sim id E (QMX E finR) h2 33 [(0, vr x0), (1, .int x1)] [.int y1, vr y0] (g_SentenceReader_than_j33 x0 x1 y0 y1 h2) := by
    intro x0 x1 y0 y1 h2
    unfold g_SentenceReader_than_j33
    refine s_iconst C (1 : Int32) dX18_than_33 (by decide) ?_
    refine s_dkX 37 finV [] (fun _ _ => SimX.out C e7) (fun _ h3 => ?_) (fun hx hk => s_dspX 16 (fun ht => x_U C 2 [] 16 RX18 _ ro_16 (ct_g_Reader_need hL hJ y0 y1 (1 : Int32) h2) (lw_U q2694 q2695 q2696 q1737 q148 q1738) rfl nd_X7_need.2 rfl (le_fr hf rfl) (le_fr hlo rfl) rfl (Nat.le_of_ble_eq_true rfl) dX18_than_34 hx hk ht) s_dspX0)
    refine s_aload_n C dX18_than_37 0 rfl rfl ?_
    refine s_getI [7, 15, 16] C (flc ⟨fo_X18_62_7, rfl⟩ (flc ⟨fo_X18_62_15, rfl⟩ (fl1 ⟨fo_X18_62_16, rfl⟩))) (pl_of e4 rfl) dX18_than_38 fun a4 => ?_
    refine s_istore_n (la' := [(2, .int a4), (0, vr x0), (1, .int x1)]) C 2 dX18_than_41 rfl (lt_nl e5 rfl) rfl ?_
    refine s_aload_n C dX18_than_42 1 rfl rfl ?_
    refine s_dk 46 finV [] (fun _ h5 => ?_) (fun hk => s_dsp 16 (fun ht => c_U C 0 [] 16 RX18 _ ro_16 (ct_g_Reader_go hL hJ x0 h3) (lw_U q2657 q2658 q2659 q1560 q148 q1561) rfl nd_X7_go.2 rfl (le_fr hf rfl) (le_fr hlo rfl) rfl (Nat.le_of_ble_eq_true rfl) dX18_than_43 hk ht) s_dsp0)
    refine s_newO 20 3 C no_X18_105 (pl_of1 e4 rfl) dX18_than_46 fun o6 h7 zo6 => ?_
    refine s_dup C dX18_than_49 rfl ?_
    refine s_iload_n C dX18_than_50 2 rfl rfl ?_
    refine s_iload_n C dX18_than_51 0 rfl rfl ?_
    refine s_aload_n C dX18_than_52 1 rfl rfl ?_
    refine s_iconst C (0 : Int32) dX18_than_53 (by decide) ?_
    refine s_sipush C (999 : Int32) dX18_than_54 (by decide) ?_
    refine s_dkX 60 finI [.int a4, .int x1, vr o6, vr o6] (fun _ _ => SimX.out C e7) (fun r8 h9 => ?_) (fun hx hk => s_dspX 16 (fun ht => x_U C 2 [.int a4, .int x1, vr o6, vr o6] 16 RX18 _ ro_16 (ct_g_Reader_number hL hJ x0 (0 : Int32) (999 : Int32) h7) (lw_U q2743 q2744 q2745 q1771 q148 q1772) rfl nd_X7_number.2 rfl (le_fr hf rfl) (le_fr hlo rfl) rfl (Nat.le_of_ble_eq_true rfl) dX18_than_57 hx hk ht) s_dspX0)
    refine c_I C 3 [vr o6] zo6 (ct_g_Than_init hL hJ o6 x1 a4 r8 h9) (lw_meth q2748) q169 q2746 q2747 rfl nd_X23_init.2 rfl (le_fr hf rfl) (le_fr hlo rfl) rfl (Nat.le_of_ble_eq_true rfl) dX18_than_60 fun _ h10 => ?_
    exact Sim.okR (s_aret C (Or.inl ⟨_, rfl⟩) rfl dX18_than_63)
  have hj32 : ∀ (x0 : Nat) (x1 : Int32) (y0 : Nat) (h11 : Hp), Sim id E (QMX E finR) h11 32 [(0, vr x0), (1, .int x1)] [vr y0] (g_SentenceReader_than_j32 x0 x1 y0 h11) := by
    intro x0 x1 y0 h11
    unfold g_SentenceReader_than_j32
    refine s_iconst C (0 : Int32) dX18_than_32 (by decide) ?_
    exact hj33 _ _ _ _ _
  refine s_icmp_ne C 32 dX18_than_7 (by decide) ?_ ?_
  · exact hj32 _ _ _ _
  · refine s_aload_n C dX18_than_10 0 rfl rfl ?_
    refine s_getI [7, 15, 16] C (flc ⟨fo_X18_62_7, rfl⟩ (flc ⟨fo_X18_62_15, rfl⟩ (fl1 ⟨fo_X18_62_16, rfl⟩))) (pl_of e4 rfl) dX18_than_11 fun a12 => ?_
    refine s_bipush C (40 : Int32) dX18_than_14 (by decide) ?_
    refine s_icmp_eq C 32 dX18_than_16 (by decide) ?_ ?_
    · exact hj32 _ _ _ _
    · refine s_aload_n C dX18_than_19 0 rfl rfl ?_
      refine s_getI [7, 15, 16] C (flc ⟨fo_X18_62_7, rfl⟩ (flc ⟨fo_X18_62_15, rfl⟩ (fl1 ⟨fo_X18_62_16, rfl⟩))) (pl_of e4 rfl) dX18_than_20 fun a13 => ?_
      refine s_bipush C (41 : Int32) dX18_than_23 (by decide) ?_
      refine s_icmp_eq C 32 dX18_than_25 (by decide) ?_ ?_
      · exact hj32 _ _ _ _
      · refine s_iconst C (1 : Int32) dX18_than_28 (by decide) ?_
        refine s_goto C 33 dX18_than_29 (by decide) ?_
        exact hj33 _ _ _ _ _

def g_SentenceReader_and_L5 (rec_X18_says : Nat → Hp → Option (Except Nat Nat × Hp)) (x0 : Nat) : Nat → Hp → Option (Except Nat Nat × Hp) :=
  lp FU fun rec5 v5 h3 =>
    bn (dsp (tg h3 x0 % 500) none [(16, g_Reader_is x0 34 h3)]) fun r4 h5 =>
    if r4 = 0 then
      some (.ok v5, h5)
    else
      bn (dsp (tg h5 x0 % 500) none [(16, g_Reader_go x0 h5)]) fun _ h6 =>
      bn (newO 21 3 h6) fun o7 h8 =>
      bx (dsp (tg h8 x0 % 500) none [(16, rec_X18_says x0 h8)]) fun r9 h10 =>
      bn (g_Two_init o7 v5 r9 (1 : Int32) h10) fun _ h11 =>
      rec5 o7 h11
def g_SentenceReader_and (rec_X18_says : Nat → Hp → Option (Except Nat Nat × Hp)) (x0 : Nat) (h : Hp) : Option (Except Nat Nat × Hp) :=
  bx (dsp (tg h x0 % 500) none [(16, rec_X18_says x0 h)]) fun r1 h2 =>
  g_SentenceReader_and_L5 rec_X18_says x0 r1 h2
theorem ct_g_SentenceReader_and {G : Gx} {RL : Lv} {l : Launch} (hL : LvA G RL plA) (hJ : JK G RL l) (f0 l0 : Nat) (hf0 : 100 ≤ f0) (hl0 : 10000 ≤ l0) (rec_X18_says : Nat → Hp → Option (Except Nat Nat × Hp)) (hrec_X18_says : ∀ (x0 : Nat) (h : Hp), CtX G RL l yX18_says (ws_ yX18_says cX18_says 7 (some (.object "FinalLinks$Cond"))) f0 l0 finR [vr x0] h (rec_X18_says x0 h)) (x0 : Nat) (h : Hp) : CtX G RL l yX18_and (ws_ yX18_and cX18_and 2 (some (.object "FinalLinks$Cond"))) (f0 + 1) (l0 + 26) finR [vr x0] h (g_SentenceReader_and rec_X18_says x0 h) := by
  refine CtX.of (Pl := plA) [(0, vr x0)] (by decide) hL rfl (Nat.le_of_ble_eq_true rfl) ?_
  intro E C e6 hf hlo e1 e2 e3 e4 e5 e7
  subst e1; subst e2; subst e3
  replace C : Cx E cX18_and (some (.object "FinalLinks$Cond")) RX18 := C
  replace e6 : (eMe E).name = "and" := e6
  unfold g_SentenceReader_and
  refine s_aload_n C dX18_and_0 0 rfl rfl ?_
  refine s_dkX 4 finR [] (fun _ _ => SimX.out C e7) (fun r1 h2 => ?_) (fun hx hk => s_dspX 16 (fun ht => x_V C 0 [] 16 RX18 ro_16 (hrec_X18_says x0 h) (lw_V q2668 q2670 qs35 q164 q2671) nd_X18_says rfl (by omega) (by omega) rfl (Nat.le_of_ble_eq_true rfl) dX18_and_1 hx hk ht) s_dspX0)
  have hL5 : ∀ (x0 : Nat) (v5 : Nat) (h3 : Hp), Sim id E (QMX E finR) h3 5 [(0, vr x0), (1, vr v5)] [] (g_SentenceReader_and_L5 rec_X18_says x0 v5 h3) := by
    intro x0 v5 h3
    refine Sim.loop (fun v5 => [(0, vr x0), (1, vr v5)]) (fun _ => []) (fun rec5 hr5 v5 h3 => ?_) FU v5 h3
    refine s_aload_n C dX18_and_5 0 rfl rfl ?_
    refine s_ldcS C (List.mem_of_getElem? (i := 25) rfl) (by decide) (by decide) dX18_and_6 ?_
    refine s_dk 11 finI [] (fun r4 h5 => ?_) (fun hk => s_dsp 16 (fun ht => c_U C 1 [] 16 RX18 _ ro_16 (ct_g_Reader_is hL hJ x0 34 h3) (lw_U q2673 q2674 q2675 q1730 q148 q1731) rfl nd_X7_is.2 rfl (by omega) (by omega) rfl (Nat.le_of_ble_eq_true rfl) dX18_and_8 hk ht) s_dsp0)
    refine s_if_eq C 35 dX18_and_11 (by decide) ?_ ?_
    · refine s_aload_n C dX18_and_35 1 rfl rfl ?_
      exact Sim.okR (s_aret C (Or.inl ⟨_, rfl⟩) rfl dX18_and_36)
    · refine s_aload_n C dX18_and_14 0 rfl rfl ?_
      refine s_dk 18 finV [] (fun _ h6 => ?_) (fun hk => s_dsp 16 (fun ht => c_U C 0 [] 16 RX18 _ ro_16 (ct_g_Reader_go hL hJ x0 h5) (lw_U q2657 q2658 q2659 q1560 q148 q1561) rfl nd_X7_go.2 rfl (by omega) (by omega) rfl (Nat.le_of_ble_eq_true rfl) dX18_and_15 hk ht) s_dsp0)
      refine s_newO 21 3 C no_X18_35 (pl_of1 e4 rfl) dX18_and_18 fun o7 h8 zo7 => ?_
      refine s_dup C dX18_and_21 rfl ?_
      refine s_aload_n C dX18_and_22 1 rfl rfl ?_
      refine s_aload_n C dX18_and_23 0 rfl rfl ?_
      refine s_dkX 27 finR [vr v5, vr o7, vr o7] (fun _ _ => SimX.out C e7) (fun r9 h10 => ?_) (fun hx hk => s_dspX 16 (fun ht => x_V C 0 [vr v5, vr o7, vr o7] 16 RX18 ro_16 (hrec_X18_says x0 h8) (lw_V q2668 q2670 qs35 q164 q2671) nd_X18_says rfl (by omega) (by omega) rfl (Nat.le_of_ble_eq_true rfl) dX18_and_24 hx hk ht) s_dspX0)
      refine s_iconst C (1 : Int32) dX18_and_27 (by decide) ?_
      refine c_I C 3 [vr o7] zo7 (ct_g_Two_init hL hJ o7 v5 r9 (1 : Int32) h10) (lw_meth q2765) q170 q2763 q2764 rfl nd_X24_init.2 rfl (by omega) (by omega) rfl (Nat.le_of_ble_eq_true rfl) dX18_and_28 fun _ h11 => ?_
      refine s_astore_n (la' := [(1, vr o7), (0, vr x0)]) C 1 dX18_and_31 rfl (lt_nl e5 rfl) rfl ?_
      refine s_goto C 5 dX18_and_32 (by decide) ?_
      refine Sim.keep [1, 0] rfl ?_
      exact hr5 _ _
  refine s_astore_n (la' := [(1, vr r1), (0, vr x0)]) C 1 dX18_and_4 rfl (lt_nl e5 rfl) rfl ?_
  refine Sim.keep [1, 0] rfl ?_
  exact hL5 _ _ _

def g_SentenceReader_or_L5 (rec_X18_says : Nat → Hp → Option (Except Nat Nat × Hp)) (x0 : Nat) : Nat → Hp → Option (Except Nat Nat × Hp) :=
  lp FU fun rec5 v5 h3 =>
    bn (dsp (tg h3 x0 % 500) none [(16, g_Reader_is x0 35 h3)]) fun r4 h5 =>
    if r4 = 0 then
      some (.ok v5, h5)
    else
      bn (dsp (tg h5 x0 % 500) none [(16, g_Reader_go x0 h5)]) fun _ h6 =>
      bn (newO 21 3 h6) fun o7 h8 =>
      bx (dsp (tg h8 x0 % 500) none [(16, g_SentenceReader_and rec_X18_says x0 h8)]) fun r9 h10 =>
      bn (g_Two_init o7 v5 r9 (0 : Int32) h10) fun _ h11 =>
      rec5 o7 h11
def g_SentenceReader_or (rec_X18_says : Nat → Hp → Option (Except Nat Nat × Hp)) (x0 : Nat) (h : Hp) : Option (Except Nat Nat × Hp) :=
  bx (dsp (tg h x0 % 500) none [(16, g_SentenceReader_and rec_X18_says x0 h)]) fun r1 h2 =>
  g_SentenceReader_or_L5 rec_X18_says x0 r1 h2
theorem ct_g_SentenceReader_or {G : Gx} {RL : Lv} {l : Launch} (hL : LvA G RL plA) (hJ : JK G RL l) (f0 l0 : Nat) (hf0 : 100 ≤ f0) (hl0 : 10000 ≤ l0) (rec_X18_says : Nat → Hp → Option (Except Nat Nat × Hp)) (hrec_X18_says : ∀ (x0 : Nat) (h : Hp), CtX G RL l yX18_says (ws_ yX18_says cX18_says 7 (some (.object "FinalLinks$Cond"))) f0 l0 finR [vr x0] h (rec_X18_says x0 h)) (x0 : Nat) (h : Hp) : CtX G RL l yX18_or (ws_ yX18_or cX18_or 2 (some (.object "FinalLinks$Cond"))) (f0 + 2) (l0 + 47) finR [vr x0] h (g_SentenceReader_or rec_X18_says x0 h) := by
  refine CtX.of (Pl := plA) [(0, vr x0)] (by decide) hL rfl (Nat.le_of_ble_eq_true rfl) ?_
  intro E C e6 hf hlo e1 e2 e3 e4 e5 e7
  subst e1; subst e2; subst e3
  replace C : Cx E cX18_or (some (.object "FinalLinks$Cond")) RX18 := C
  replace e6 : (eMe E).name = "or" := e6
  unfold g_SentenceReader_or
  refine s_aload_n C dX18_or_0 0 rfl rfl ?_
  refine s_dkX 4 finR [] (fun _ _ => SimX.out C e7) (fun r1 h2 => ?_) (fun hx hk => s_dspX 16 (fun ht => x_V C 0 [] 16 RX18 ro_16 (ct_g_SentenceReader_and hL hJ f0 l0 hf0 hl0 rec_X18_says hrec_X18_says x0 h) (lw_V q2664 q2666 qs34 q164 q2667) nd_X18_and rfl (by omega) (by omega) rfl (Nat.le_of_ble_eq_true rfl) dX18_or_1 hx hk ht) s_dspX0)
  have hL5 : ∀ (x0 : Nat) (v5 : Nat) (h3 : Hp), Sim id E (QMX E finR) h3 5 [(0, vr x0), (1, vr v5)] [] (g_SentenceReader_or_L5 rec_X18_says x0 v5 h3) := by
    intro x0 v5 h3
    refine Sim.loop (fun v5 => [(0, vr x0), (1, vr v5)]) (fun _ => []) (fun rec5 hr5 v5 h3 => ?_) FU v5 h3
    refine s_aload_n C dX18_or_5 0 rfl rfl ?_
    refine s_ldcS C (List.mem_of_getElem? (i := 26) rfl) (by decide) (by decide) dX18_or_6 ?_
    refine s_dk 11 finI [] (fun r4 h5 => ?_) (fun hk => s_dsp 16 (fun ht => c_U C 1 [] 16 RX18 _ ro_16 (ct_g_Reader_is hL hJ x0 35 h3) (lw_U q2673 q2674 q2675 q1730 q148 q1731) rfl nd_X7_is.2 rfl (by omega) (by omega) rfl (Nat.le_of_ble_eq_true rfl) dX18_or_8 hk ht) s_dsp0)
    refine s_if_eq C 35 dX18_or_11 (by decide) ?_ ?_
    · refine s_aload_n C dX18_or_35 1 rfl rfl ?_
      exact Sim.okR (s_aret C (Or.inl ⟨_, rfl⟩) rfl dX18_or_36)
    · refine s_aload_n C dX18_or_14 0 rfl rfl ?_
      refine s_dk 18 finV [] (fun _ h6 => ?_) (fun hk => s_dsp 16 (fun ht => c_U C 0 [] 16 RX18 _ ro_16 (ct_g_Reader_go hL hJ x0 h5) (lw_U q2657 q2658 q2659 q1560 q148 q1561) rfl nd_X7_go.2 rfl (by omega) (by omega) rfl (Nat.le_of_ble_eq_true rfl) dX18_or_15 hk ht) s_dsp0)
      refine s_newO 21 3 C no_X18_35 (pl_of1 e4 rfl) dX18_or_18 fun o7 h8 zo7 => ?_
      refine s_dup C dX18_or_21 rfl ?_
      refine s_aload_n C dX18_or_22 1 rfl rfl ?_
      refine s_aload_n C dX18_or_23 0 rfl rfl ?_
      refine s_dkX 27 finR [vr v5, vr o7, vr o7] (fun _ _ => SimX.out C e7) (fun r9 h10 => ?_) (fun hx hk => s_dspX 16 (fun ht => x_V C 0 [vr v5, vr o7, vr o7] 16 RX18 ro_16 (ct_g_SentenceReader_and hL hJ f0 l0 hf0 hl0 rec_X18_says hrec_X18_says x0 h8) (lw_V q2664 q2666 qs34 q164 q2667) nd_X18_and rfl (by omega) (by omega) rfl (Nat.le_of_ble_eq_true rfl) dX18_or_24 hx hk ht) s_dspX0)
      refine s_iconst C (0 : Int32) dX18_or_27 (by decide) ?_
      refine c_I C 3 [vr o7] zo7 (ct_g_Two_init hL hJ o7 v5 r9 (0 : Int32) h10) (lw_meth q2765) q170 q2763 q2764 rfl nd_X24_init.2 rfl (by omega) (by omega) rfl (Nat.le_of_ble_eq_true rfl) dX18_or_28 fun _ h11 => ?_
      refine s_astore_n (la' := [(1, vr o7), (0, vr x0)]) C 1 dX18_or_31 rfl (lt_nl e5 rfl) rfl ?_
      refine s_goto C 5 dX18_or_32 (by decide) ?_
      refine Sim.keep [1, 0] rfl ?_
      exact hr5 _ _
  refine s_astore_n (la' := [(1, vr r1), (0, vr x0)]) C 1 dX18_or_4 rfl (lt_nl e5 rfl) rfl ?_
  refine Sim.keep [1, 0] rfl ?_
  exact hL5 _ _ _

def g_SentenceReader_bracket_j29 (rec_X18_says : Nat → Hp → Option (Except Nat Nat × Hp)) (x0 : Nat) (x1 : Nat) (y0 : Nat) (y1 : Int32) (h4 : Hp) : Option (Except Nat Nat × Hp) :=
  bx (dsp (tg h4 y0 % 500) none [(16, g_Reader_need y0 y1 (1 : Int32) h4)]) fun _ h5 =>
  bn (dsp (tg h5 x0 % 500) none [(16, g_Reader_go x0 h5)]) fun _ h6 =>
  some (.ok x1, h6)
def g_SentenceReader_bracket_j28 (rec_X18_says : Nat → Hp → Option (Except Nat Nat × Hp)) (x0 : Nat) (x1 : Nat) (y0 : Nat) (h7 : Hp) : Option (Except Nat Nat × Hp) :=
  g_SentenceReader_bracket_j29 rec_X18_says x0 x1 y0 (0 : Int32) h7
def g_SentenceReader_bracket (rec_X18_says : Nat → Hp → Option (Except Nat Nat × Hp)) (x0 : Nat) (h : Hp) : Option (Except Nat Nat × Hp) :=
  bx (dsp (tg h x0 % 500) none [(16, g_SentenceReader_or rec_X18_says x0 h)]) fun r1 h2 =>
  (getI [7, 15, 16] 5 x0 h2).bind fun a3 =>
  if a3 = (6 : Int32) then
    (getI [7, 15, 16] 8 x0 h2).bind fun a8 =>
    if a8 = (41 : Int32) then
      g_SentenceReader_bracket_j29 rec_X18_says x0 r1 x0 (1 : Int32) h2
    else
      g_SentenceReader_bracket_j28 rec_X18_says x0 r1 x0 h2
  else
    g_SentenceReader_bracket_j28 rec_X18_says x0 r1 x0 h2
theorem ct_g_SentenceReader_bracket {G : Gx} {RL : Lv} {l : Launch} (hL : LvA G RL plA) (hJ : JK G RL l) (f0 l0 : Nat) (hf0 : 100 ≤ f0) (hl0 : 10000 ≤ l0) (rec_X18_says : Nat → Hp → Option (Except Nat Nat × Hp)) (hrec_X18_says : ∀ (x0 : Nat) (h : Hp), CtX G RL l yX18_says (ws_ yX18_says cX18_says 7 (some (.object "FinalLinks$Cond"))) f0 l0 finR [vr x0] h (rec_X18_says x0 h)) (x0 : Nat) (h : Hp) : CtX G RL l yX18_bracket (ws_ yX18_bracket cX18_bracket 2 (some (.object "FinalLinks$Cond"))) (f0 + 3) (l0 + 68) finR [vr x0] h (g_SentenceReader_bracket rec_X18_says x0 h) := by
  refine CtX.of (Pl := plA) [(0, vr x0)] (by decide) hL rfl (Nat.le_of_ble_eq_true rfl) ?_
  intro E C e6 hf hlo e1 e2 e3 e4 e5 e7
  subst e1; subst e2; subst e3
  replace C : Cx E cX18_bracket (some (.object "FinalLinks$Cond")) RX18 := C
  replace e6 : (eMe E).name = "bracket" := e6
  unfold g_SentenceReader_bracket
  refine s_aload_n C dX18_bracket_0 0 rfl rfl ?_
  refine s_dkX 4 finR [] (fun _ _ => SimX.out C e7) (fun r1 h2 => ?_) (fun hx hk => s_dspX 16 (fun ht => x_V C 0 [] 16 RX18 ro_16 (ct_g_SentenceReader_or hL hJ f0 l0 hf0 hl0 rec_X18_says hrec_X18_says x0 h) (lw_V q2660 q2662 qs33 q164 q2663) nd_X18_or rfl (by omega) (by omega) rfl (Nat.le_of_ble_eq_true rfl) dX18_bracket_1 hx hk ht) s_dspX0)
  refine s_astore_n (la' := [(1, vr r1), (0, vr x0)]) C 1 dX18_bracket_4 rfl (lt_nl e5 rfl) rfl ?_
  refine s_aload_n C dX18_bracket_5 1 rfl rfl ?_
  refine s_aload_n C dX18_bracket_6 1 rfl rfl ?_
  refine s_getI [7, 15, 16] C (flc ⟨fo_X18_19_7, rfl⟩ (flc ⟨fo_X18_19_15, rfl⟩ (fl1 ⟨fo_X18_19_16, rfl⟩))) (pl_of e4 rfl) dX18_bracket_7 fun a3 => ?_
  refine s_bipush C (6 : Int32) dX18_bracket_10 (by decide) ?_
  have hj29 : ∀ (x0 : Nat) (x1 : Nat) (y0 : Nat) (y1 : Int32) (h4 : Hp), Sim id E (QMX E finR) h4 29 [(0, vr x0), (1, vr x1)] [.int y1, vr y0] (g_SentenceReader_bracket_j29 rec_X18_says x0 x1 y0 y1 h4) := by
    intro x0 x1 y0 y1 h4
    unfold g_SentenceReader_bracket_j29
    refine s_iconst C (1 : Int32) dX18_bracket_29 (by decide) ?_
    refine s_dkX 33 finV [] (fun _ _ => SimX.out C e7) (fun _ h5 => ?_) (fun hx hk => s_dspX 16 (fun ht => x_U C 2 [] 16 RX18 _ ro_16 (ct_g_Reader_need hL hJ y0 y1 (1 : Int32) h4) (lw_U q2694 q2695 q2696 q1737 q148 q1738) rfl nd_X7_need.2 rfl (by omega) (by omega) rfl (Nat.le_of_ble_eq_true rfl) dX18_bracket_30 hx hk ht) s_dspX0)
    refine s_aload_n C dX18_bracket_33 0 rfl rfl ?_
    refine s_dk 37 finV [] (fun _ h6 => ?_) (fun hk => s_dsp 16 (fun ht => c_U C 0 [] 16 RX18 _ ro_16 (ct_g_Reader_go hL hJ x0 h5) (lw_U q2657 q2658 q2659 q1560 q148 q1561) rfl nd_X7_go.2 rfl (by omega) (by omega) rfl (Nat.le_of_ble_eq_true rfl) dX18_bracket_34 hk ht) s_dsp0)
    refine s_aload_n C dX18_bracket_37 1 rfl rfl ?_
    exact Sim.okR (s_aret C (Or.inl ⟨_, rfl⟩) rfl dX18_bracket_38)
  have hj28 : ∀ (x0 : Nat) (x1 : Nat) (y0 : Nat) (h7 : Hp), Sim id E (QMX E finR) h7 28 [(0, vr x0), (1, vr x1)] [vr y0] (g_SentenceReader_bracket_j28 rec_X18_says x0 x1 y0 h7) := by
    intro x0 x1 y0 h7
    unfold g_SentenceReader_bracket_j28
    refine s_iconst C (0 : Int32) dX18_bracket_28 (by decide) ?_
    exact hj29 _ _ _ _ _
  refine s_icmp_ne C 28 dX18_bracket_12 (by decide) ?_ ?_
  · refine Sim.keep [1, 0] rfl ?_
    exact hj28 _ _ _ _
  · refine s_aload_n C dX18_bracket_15 1 rfl rfl ?_
    refine s_getI [7, 15, 16] C (flc ⟨fo_X18_62_7, rfl⟩ (flc ⟨fo_X18_62_15, rfl⟩ (fl1 ⟨fo_X18_62_16, rfl⟩))) (pl_of e4 rfl) dX18_bracket_16 fun a8 => ?_
    refine s_bipush C (41 : Int32) dX18_bracket_19 (by decide) ?_
    refine s_icmp_ne C 28 dX18_bracket_21 (by decide) ?_ ?_
    · refine Sim.keep [1, 0] rfl ?_
      exact hj28 _ _ _ _
    · refine s_iconst C (1 : Int32) dX18_bracket_24 (by decide) ?_
      refine s_goto C 29 dX18_bracket_25 (by decide) ?_
      refine Sim.keep [1, 0] rfl ?_
      exact hj29 _ _ _ _ _

def g_SentenceReader_says_j207 (rec_X18_says : Nat → Hp → Option (Except Nat Nat × Hp)) (x0 : Nat) (y0 : Nat) (h21 : Hp) : Option (Except Nat Nat × Hp) :=
  (getI [16] 11 x0 h21).bind fun a22 =>
  (putI [16] 0 11 x0 (a22 - (1 : Int32)) h21).bind fun h23 =>
  some (.ok y0, h23)
def g_SentenceReader_says_j108 (rec_X18_says : Nat → Hp → Option (Except Nat Nat × Hp)) (x0 : Nat) (x1 : Int32) (x2 : Int32) (x3 : Int32) (x4 : Int32) (x5 : Int32) (y0 : Nat) (y1 : Int32) (h14 : Hp) : Option (Except Nat Nat × Hp) :=
  bx (dsp (tg h14 y0 % 500) none [(16, g_Reader_need y0 y1 (4 : Int32) h14)]) fun _ h15 =>
  (getI [16] 10 x0 h15).bind fun a16 =>
  (putI [16] 0 10 x0 (a16 + (1 : Int32)) h15).bind fun h17 =>
  (getI [16] 11 x0 h17).bind fun a18 =>
  (putI [16] 0 11 x0 (a18 + (1 : Int32)) h17).bind fun h19 =>
  bn (dsp (tg h19 x0 % 500) none [(16, g_Reader_go x0 h19)]) fun _ h20 =>
  if x1 = 0 then
    if x2 = 0 then
      if x3 = 0 then
        if x4 = (-1 : Int32) then
          bx (dsp (tg h20 x0 % 500) none [(16, g_SentenceReader_than x0 x5 h20)]) fun r24 h25 =>
          g_SentenceReader_says_j207 rec_X18_says x0 r24 h25
        else
          bn (newO 19 1 h20) fun o26 h27 =>
          bn (g_What_init o26 x4 h27) fun _ h28 =>
          g_SentenceReader_says_j207 rec_X18_says x0 o26 h28
      else
        bn (newO 18 1 h20) fun o29 h30 =>
        bx (dsp (tg h30 x0 % 500) none [(16, g_Reader_block x0 h30)]) fun r31 h32 =>
        bn (g_Under_init o29 r31 h32) fun _ h33 =>
        g_SentenceReader_says_j207 rec_X18_says x0 o29 h33
    else
      bn (newO 17 1 h20) fun o34 h35 =>
      bx (dsp (tg h35 x0 % 500) none [(16, rec_X18_says x0 h35)]) fun r36 h37 =>
      bn (g_Not_init o34 r36 h37) fun _ h38 =>
      g_SentenceReader_says_j207 rec_X18_says x0 o34 h38
  else
    bx (dsp (tg h20 x0 % 500) none [(16, g_SentenceReader_bracket rec_X18_says x0 h20)]) fun r39 h40 =>
    g_SentenceReader_says_j207 rec_X18_says x0 r39 h40
def g_SentenceReader_says_j107 (rec_X18_says : Nat → Hp → Option (Except Nat Nat × Hp)) (x0 : Nat) (x1 : Int32) (x2 : Int32) (x3 : Int32) (x4 : Int32) (x5 : Int32) (y0 : Nat) (h41 : Hp) : Option (Except Nat Nat × Hp) :=
  g_SentenceReader_says_j108 rec_X18_says x0 x1 x2 x3 x4 x5 y0 (0 : Int32) h41
def g_SentenceReader_says_j80 (rec_X18_says : Nat → Hp → Option (Except Nat Nat × Hp)) (x0 : Nat) (x1 : Int32) (x2 : Int32) (x3 : Int32) (x4 : Int32) (x5 : Int32) (y0 : Nat) (y1 : Int32) (h11 : Hp) : Option (Except Nat Nat × Hp) :=
  bx (dsp (tg h11 y0 % 500) none [(16, g_Reader_need y0 y1 (1 : Int32) h11)]) fun _ h12 =>
  (getI [16] 10 x0 h12).bind fun a13 =>
  if (20 : Int32) ≤ a13 then
    g_SentenceReader_says_j107 rec_X18_says x0 x1 x2 x3 x4 x5 x0 h12
  else
    (getI [16] 11 x0 h12).bind fun a42 =>
    if (8 : Int32) ≤ a42 then
      g_SentenceReader_says_j107 rec_X18_says x0 x1 x2 x3 x4 x5 x0 h12
    else
      g_SentenceReader_says_j108 rec_X18_says x0 x1 x2 x3 x4 x5 x0 (1 : Int32) h12
def g_SentenceReader_says_j75 (rec_X18_says : Nat → Hp → Option (Except Nat Nat × Hp)) (x0 : Nat) (x1 : Int32) (x2 : Int32) (x3 : Int32) (x4 : Int32) (x5 : Int32) (y0 : Nat) (h43 : Hp) : Option (Except Nat Nat × Hp) :=
  g_SentenceReader_says_j80 rec_X18_says x0 x1 x2 x3 x4 x5 y0 (1 : Int32) h43
def g_SentenceReader_says_j23 (rec_X18_says : Nat → Hp → Option (Except Nat Nat × Hp)) (x0 : Nat) (y0 : Int32) (h2 : Hp) : Option (Except Nat Nat × Hp) :=
  bn (dsp (tg h2 x0 % 500) none [(16, g_Reader_is x0 23 h2)]) fun r3 h4 =>
  bn (dsp (tg h4 x0 % 500) none [(16, g_Reader_is x0 24 h4)]) fun r5 h6 =>
  bn (dsp (tg h6 x0 % 500) none [(16, g_SentenceReader_plain x0 h6)]) fun r7 h8 =>
  bn (dsp (tg h8 x0 % 500) none [(16, g_SentenceReader_numbered x0 h8)]) fun r9 h10 =>
  if y0 = 0 then
    if r3 = 0 then
      if r5 = 0 then
        if r7 = (-1 : Int32) then
          if r9 = (-1 : Int32) then
            g_SentenceReader_says_j80 rec_X18_says x0 y0 r3 r5 r7 r9 x0 (0 : Int32) h10
          else
            g_SentenceReader_says_j75 rec_X18_says x0 y0 r3 r5 r7 r9 x0 h10
        else
          g_SentenceReader_says_j75 rec_X18_says x0 y0 r3 r5 r7 r9 x0 h10
      else
        g_SentenceReader_says_j75 rec_X18_says x0 y0 r3 r5 r7 r9 x0 h10
    else
      g_SentenceReader_says_j75 rec_X18_says x0 y0 r3 r5 r7 r9 x0 h10
  else
    g_SentenceReader_says_j75 rec_X18_says x0 y0 r3 r5 r7 r9 x0 h10
def g_SentenceReader_says_j22 (rec_X18_says : Nat → Hp → Option (Except Nat Nat × Hp)) (x0 : Nat) (h44 : Hp) : Option (Except Nat Nat × Hp) :=
  g_SentenceReader_says_j23 rec_X18_says x0 (0 : Int32) h44
def g_SentenceReader_says (rec_X18_says : Nat → Hp → Option (Except Nat Nat × Hp)) (x0 : Nat) (h : Hp) : Option (Except Nat Nat × Hp) :=
  (getI [7, 15, 16] 5 x0 h).bind fun a1 =>
  if a1 = (6 : Int32) then
    (getI [7, 15, 16] 8 x0 h).bind fun a45 =>
    if a45 = (40 : Int32) then
      g_SentenceReader_says_j23 rec_X18_says x0 (1 : Int32) h
    else
      g_SentenceReader_says_j22 rec_X18_says x0 h
  else
    g_SentenceReader_says_j22 rec_X18_says x0 h
theorem ct_g_SentenceReader_says {G : Gx} {RL : Lv} {l : Launch} (hL : LvA G RL plA) (hJ : JK G RL l) (f0 l0 : Nat) (hf0 : 100 ≤ f0) (hl0 : 10000 ≤ l0) (rec_X18_says : Nat → Hp → Option (Except Nat Nat × Hp)) (hrec_X18_says : ∀ (x0 : Nat) (h : Hp), CtX G RL l yX18_says (ws_ yX18_says cX18_says 7 (some (.object "FinalLinks$Cond"))) f0 l0 finR [vr x0] h (rec_X18_says x0 h)) (x0 : Nat) (h : Hp) : CtX G RL l yX18_says (ws_ yX18_says cX18_says 7 (some (.object "FinalLinks$Cond"))) (f0 + 4) (l0 + 89) finR [vr x0] h (g_SentenceReader_says rec_X18_says x0 h) := by
  refine CtX.of (Pl := plA) [(0, vr x0)] (by decide) hL rfl (Nat.le_of_ble_eq_true rfl) ?_
  intro E C e6 hf hlo e1 e2 e3 e4 e5 e7
  subst e1; subst e2; subst e3
  replace C : Cx E cX18_says (some (.object "FinalLinks$Cond")) RX18 := C
  replace e6 : (eMe E).name = "says" := e6
  unfold g_SentenceReader_says
  refine s_aload_n C dX18_says_0 0 rfl rfl ?_
  refine s_getI [7, 15, 16] C (flc ⟨fo_X18_19_7, rfl⟩ (flc ⟨fo_X18_19_15, rfl⟩ (fl1 ⟨fo_X18_19_16, rfl⟩))) (pl_of e4 rfl) dX18_says_1 fun a1 => ?_
  refine s_bipush C (6 : Int32) dX18_says_4 (by decide) ?_
  have hj23 : ∀ (x0 : Nat) (y0 : Int32) (h2 : Hp), Sim id E (QMX E finR) h2 23 [(0, vr x0)] [.int y0] (g_SentenceReader_says_j23 rec_X18_says x0 y0 h2) := by
    intro x0 y0 h2
    unfold g_SentenceReader_says_j23
    refine s_istore_n (la' := [(1, .int y0), (0, vr x0)]) C 1 dX18_says_23 rfl (lt_nl e5 rfl) rfl ?_
    refine s_aload_n C dX18_says_24 1 rfl rfl ?_
    refine s_ldcS C (List.mem_of_getElem? (i := 14) rfl) (by decide) (by decide) dX18_says_25 ?_
    refine s_dk 30 finI [] (fun r3 h4 => ?_) (fun hk => s_dsp 16 (fun ht => c_U C 1 [] 16 RX18 _ ro_16 (ct_g_Reader_is hL hJ x0 23 h2) (lw_U q2673 q2674 q2675 q1730 q148 q1731) rfl nd_X7_is.2 rfl (by omega) (by omega) rfl (Nat.le_of_ble_eq_true rfl) dX18_says_27 hk ht) s_dsp0)
    refine s_istore_n (la' := [(2, .int r3), (1, .int y0), (0, vr x0)]) C 2 dX18_says_30 rfl (lt_nl e5 rfl) rfl ?_
    refine s_aload_n C dX18_says_31 2 rfl rfl ?_
    refine s_ldcS C (List.mem_of_getElem? (i := 15) rfl) (by decide) (by decide) dX18_says_32 ?_
    refine s_dk 37 finI [] (fun r5 h6 => ?_) (fun hk => s_dsp 16 (fun ht => c_U C 1 [] 16 RX18 _ ro_16 (ct_g_Reader_is hL hJ x0 24 h4) (lw_U q2673 q2674 q2675 q1730 q148 q1731) rfl nd_X7_is.2 rfl (by omega) (by omega) rfl (Nat.le_of_ble_eq_true rfl) dX18_says_34 hk ht) s_dsp0)
    refine s_istore_n (la' := [(3, .int r5), (2, .int r3), (1, .int y0), (0, vr x0)]) C 3 dX18_says_37 rfl (lt_nl e5 rfl) rfl ?_
    refine s_aload_n C dX18_says_38 3 rfl rfl ?_
    refine s_dk 42 finI [] (fun r7 h8 => ?_) (fun hk => s_dsp 16 (fun ht => c_V C 0 [] 16 RX18 ro_16 (ct_g_SentenceReader_plain hL hJ x0 h6) (lw_V q2677 q2679 qs36 q164 q2680) nd_X18_plain rfl (by omega) (by omega) rfl (Nat.le_of_ble_eq_true rfl) dX18_says_39 hk ht) s_dsp0)
    refine s_istore (la' := [(4, .int r7), (3, .int r5), (2, .int r3), (1, .int y0), (0, vr x0)]) C dX18_says_42 (lt_nl e5 rfl) rfl ?_
    refine s_aload_n C dX18_says_44 4 rfl rfl ?_
    refine s_dk 48 finI [] (fun r9 h10 => ?_) (fun hk => s_dsp 16 (fun ht => c_V C 0 [] 16 RX18 ro_16 (ct_g_SentenceReader_numbered hL hJ x0 h8) (lw_V q2686 q2688 qs37 q164 q2689) nd_X18_numbered rfl (by omega) (by omega) rfl (Nat.le_of_ble_eq_true rfl) dX18_says_45 hk ht) s_dsp0)
    refine s_istore (la' := [(5, .int r9), (4, .int r7), (3, .int r5), (2, .int r3), (1, .int y0), (0, vr x0)]) C dX18_says_48 (lt_nl e5 rfl) rfl ?_
    refine s_aload_n C dX18_says_50 5 rfl rfl ?_
    refine s_iload_n C dX18_says_51 4 rfl rfl ?_
    have hj80 : ∀ (x0 : Nat) (x1 : Int32) (x2 : Int32) (x3 : Int32) (x4 : Int32) (x5 : Int32) (y0 : Nat) (y1 : Int32) (h11 : Hp), Sim id E (QMX E finR) h11 80 [(0, vr x0), (1, .int x1), (2, .int x2), (3, .int x3), (4, .int x4), (5, .int x5)] [.int y1, vr y0] (g_SentenceReader_says_j80 rec_X18_says x0 x1 x2 x3 x4 x5 y0 y1 h11) := by
      intro x0 x1 x2 x3 x4 x5 y0 y1 h11
      unfold g_SentenceReader_says_j80
      refine s_iconst C (1 : Int32) dX18_says_80 (by decide) ?_
      refine s_dkX 84 finV [] (fun _ _ => SimX.out C e7) (fun _ h12 => ?_) (fun hx hk => s_dspX 16 (fun ht => x_U C 2 [] 16 RX18 _ ro_16 (ct_g_Reader_need hL hJ y0 y1 (1 : Int32) h11) (lw_U q2694 q2695 q2696 q1737 q148 q1738) rfl nd_X7_need.2 rfl (by omega) (by omega) rfl (Nat.le_of_ble_eq_true rfl) dX18_says_81 hx hk ht) s_dspX0)
      refine s_aload_n C dX18_says_84 0 rfl rfl ?_
      refine s_aload_n C dX18_says_85 0 rfl rfl ?_
      refine s_getI [16] C (fl1 ⟨fo_X18_76_16, rfl⟩) (pl_of e4 rfl) dX18_says_86 fun a13 => ?_
      refine s_bipush C (20 : Int32) dX18_says_89 (by decide) ?_
      have hj108 : ∀ (x0 : Nat) (x1 : Int32) (x2 : Int32) (x3 : Int32) (x4 : Int32) (x5 : Int32) (y0 : Nat) (y1 : Int32) (h14 : Hp), Sim id E (QMX E finR) h14 108 [(0, vr x0), (1, .int x1), (2, .int x2), (3, .int x3), (4, .int x4), (5, .int x5)] [.int y1, vr y0] (g_SentenceReader_says_j108 rec_X18_says x0 x1 x2 x3 x4 x5 y0 y1 h14) := by
        intro x0 x1 x2 x3 x4 x5 y0 y1 h14
        unfold g_SentenceReader_says_j108
        refine s_iconst C (4 : Int32) dX18_says_108 (by decide) ?_
        refine s_dkX 112 finV [] (fun _ _ => SimX.out C e7) (fun _ h15 => ?_) (fun hx hk => s_dspX 16 (fun ht => x_U C 2 [] 16 RX18 _ ro_16 (ct_g_Reader_need hL hJ y0 y1 (4 : Int32) h14) (lw_U q2694 q2695 q2696 q1737 q148 q1738) rfl nd_X7_need.2 rfl (by omega) (by omega) rfl (Nat.le_of_ble_eq_true rfl) dX18_says_109 hx hk ht) s_dspX0)
        refine s_aload_n C dX18_says_112 0 rfl rfl ?_
        refine s_dup C dX18_says_113 rfl ?_
        refine s_getI [16] C (fl1 ⟨fo_X18_76_16, rfl⟩) (pl_of e4 rfl) dX18_says_114 fun a16 => ?_
        refine s_iconst C (1 : Int32) dX18_says_117 (by decide) ?_
        refine s_iadd C dX18_says_118 ?_
        refine s_putI [16] 0 C (by decide) (by decide) (fl1 ⟨⟨by decide, fo_X18_76_16, rfl⟩, rfl⟩) (pl_of e4 rfl) (fl1 (Or.inl rfl)) dX18_says_119 fun h17 => ?_
        refine s_aload_n C dX18_says_122 0 rfl rfl ?_
        refine s_dup C dX18_says_123 rfl ?_
        refine s_getI [16] C (fl1 ⟨fo_X18_79_16, rfl⟩) (pl_of e4 rfl) dX18_says_124 fun a18 => ?_
        refine s_iconst C (1 : Int32) dX18_says_127 (by decide) ?_
        refine s_iadd C dX18_says_128 ?_
        refine s_putI [16] 0 C (by decide) (by decide) (fl1 ⟨⟨by decide, fo_X18_79_16, rfl⟩, rfl⟩) (pl_of e4 rfl) (fl1 (Or.inl rfl)) dX18_says_129 fun h19 => ?_
        refine s_aload_n C dX18_says_132 0 rfl rfl ?_
        refine s_dk 136 finV [] (fun _ h20 => ?_) (fun hk => s_dsp 16 (fun ht => c_U C 0 [] 16 RX18 _ ro_16 (ct_g_Reader_go hL hJ x0 h19) (lw_U q2657 q2658 q2659 q1560 q148 q1561) rfl nd_X7_go.2 rfl (by omega) (by omega) rfl (Nat.le_of_ble_eq_true rfl) dX18_says_133 hk ht) s_dsp0)
        refine s_iload_n C dX18_says_136 1 rfl rfl ?_
        have hj207 : ∀ (x0 : Nat) (y0 : Nat) (h21 : Hp), Sim id E (QMX E finR) h21 207 [(0, vr x0)] [vr y0] (g_SentenceReader_says_j207 rec_X18_says x0 y0 h21) := by
          intro x0 y0 h21
          unfold g_SentenceReader_says_j207
          refine s_astore (la' := [(6, vr y0), (0, vr x0)]) C dX18_says_207 (lt_nl e5 rfl) rfl ?_
          refine s_aload_n C dX18_says_209 1 rfl rfl ?_
          refine s_dup C dX18_says_210 rfl ?_
          refine s_getI [16] C (fl1 ⟨fo_X18_79_16, rfl⟩) (pl_of e4 rfl) dX18_says_211 fun a22 => ?_
          refine s_iconst C (1 : Int32) dX18_says_214 (by decide) ?_
          refine s_isub C dX18_says_215 ?_
          refine s_putI [16] 0 C (by decide) (by decide) (fl1 ⟨⟨by decide, fo_X18_79_16, rfl⟩, rfl⟩) (pl_of e4 rfl) (fl1 (Or.inl rfl)) dX18_says_216 fun h23 => ?_
          refine s_aload C dX18_says_219 0 rfl ?_
          exact Sim.okR (s_aret C (Or.inl ⟨_, rfl⟩) rfl dX18_says_221)
        refine s_if_eq C 147 dX18_says_137 (by decide) ?_ ?_
        · refine s_iload_n C dX18_says_147 2 rfl rfl ?_
          refine s_if_eq C 165 dX18_says_148 (by decide) ?_ ?_
          · refine s_iload_n C dX18_says_165 3 rfl rfl ?_
            refine s_if_eq C 183 dX18_says_166 (by decide) ?_ ?_
            · refine s_iload C dX18_says_183 4 rfl ?_
              refine s_iconst C (-1 : Int32) dX18_says_185 (by decide) ?_
              refine s_icmp_eq C 201 dX18_says_186 (by decide) ?_ ?_
              · refine s_aload_n C dX18_says_201 0 rfl rfl ?_
                refine s_iload C dX18_says_202 5 rfl ?_
                refine s_dkX 207 finR [] (fun _ _ => SimX.out C e7) (fun r24 h25 => ?_) (fun hx hk => s_dspX 16 (fun ht => x_V C 1 [] 16 RX18 ro_16 (ct_g_SentenceReader_than hL hJ x0 x5 h20) (lw_V q2737 q2739 qs39 q164 q2740) nd_X18_than rfl (by omega) (by omega) rfl (Nat.le_of_ble_eq_true rfl) dX18_says_204 hx hk ht) s_dspX0)
                refine Sim.keep [0] rfl ?_
                exact hj207 _ _ _
              · refine s_newO 19 1 C no_X18_98 (pl_of1 e4 rfl) dX18_says_189 fun o26 h27 zo26 => ?_
                refine s_dup C dX18_says_192 rfl ?_
                refine s_iload C dX18_says_193 4 rfl ?_
                refine c_I C 1 [vr o26] zo26 (ct_g_What_init hL hJ o26 x4 h27) (lw_meth q2731) q168 q2729 q2730 rfl nd_X22_init.2 rfl (by omega) (by omega) rfl (Nat.le_of_ble_eq_true rfl) dX18_says_195 fun _ h28 => ?_
                refine s_goto C 207 dX18_says_198 (by decide) ?_
                refine Sim.keep [0] rfl ?_
                exact hj207 _ _ _
            · refine s_newO 18 1 C no_X18_90 (pl_of1 e4 rfl) dX18_says_169 fun o29 h30 zo29 => ?_
              refine s_dup C dX18_says_172 rfl ?_
              refine s_aload_n C dX18_says_173 0 rfl rfl ?_
              refine s_dkX 177 finI [vr o29, vr o29] (fun _ _ => SimX.out C e7) (fun r31 h32 => ?_) (fun hx hk => s_dspX 16 (fun ht => x_U C 0 [vr o29, vr o29] 16 RX18 _ ro_16 (ct_g_Reader_block hL hJ x0 h30) (lw_U q2716 q2717 q2718 q2072 q148 q2073) rfl nd_X7_block.2 rfl (by omega) (by omega) rfl (Nat.le_of_ble_eq_true rfl) dX18_says_174 hx hk ht) s_dspX0)
              refine c_I C 1 [vr o29] zo29 (ct_g_Under_init hL hJ o29 r31 h32) (lw_meth q2721) q167 q2719 q2720 rfl nd_X21_init.2 rfl (by omega) (by omega) rfl (Nat.le_of_ble_eq_true rfl) dX18_says_177 fun _ h33 => ?_
              refine s_goto C 207 dX18_says_180 (by decide) ?_
              refine Sim.keep [0] rfl ?_
              exact hj207 _ _ _
          · refine s_newO 17 1 C no_X18_85 (pl_of1 e4 rfl) dX18_says_151 fun o34 h35 zo34 => ?_
            refine s_dup C dX18_says_154 rfl ?_
            refine s_aload_n C dX18_says_155 0 rfl rfl ?_
            refine s_dkX 159 finR [vr o34, vr o34] (fun _ _ => SimX.out C e7) (fun r36 h37 => ?_) (fun hx hk => s_dspX 16 (fun ht => x_V C 0 [vr o34, vr o34] 16 RX18 ro_16 (hrec_X18_says x0 h35) (lw_V q2668 q2670 qs35 q164 q2671) nd_X18_says rfl (by omega) (by omega) rfl (Nat.le_of_ble_eq_true rfl) dX18_says_156 hx hk ht) s_dspX0)
            refine c_I C 1 [vr o34] zo34 (ct_g_Not_init hL hJ o34 r36 h37) (lw_meth q2705) q166 q2703 q2704 rfl nd_X20_init.2 rfl (by omega) (by omega) rfl (Nat.le_of_ble_eq_true rfl) dX18_says_159 fun _ h38 => ?_
            refine s_goto C 207 dX18_says_162 (by decide) ?_
            refine Sim.keep [0] rfl ?_
            exact hj207 _ _ _
        · refine s_aload_n C dX18_says_140 0 rfl rfl ?_
          refine s_dkX 144 finR [] (fun _ _ => SimX.out C e7) (fun r39 h40 => ?_) (fun hx hk => s_dspX 16 (fun ht => x_V C 0 [] 16 RX18 ro_16 (ct_g_SentenceReader_bracket hL hJ f0 l0 hf0 hl0 rec_X18_says hrec_X18_says x0 h20) (lw_V q2697 q2699 qs38 q164 q2700) nd_X18_bracket rfl (by omega) (by omega) rfl (Nat.le_of_ble_eq_true rfl) dX18_says_141 hx hk ht) s_dspX0)
          refine s_goto C 207 dX18_says_144 (by decide) ?_
          refine Sim.keep [0] rfl ?_
          exact hj207 _ _ _
      have hj107 : ∀ (x0 : Nat) (x1 : Int32) (x2 : Int32) (x3 : Int32) (x4 : Int32) (x5 : Int32) (y0 : Nat) (h41 : Hp), Sim id E (QMX E finR) h41 107 [(0, vr x0), (1, .int x1), (2, .int x2), (3, .int x3), (4, .int x4), (5, .int x5)] [vr y0] (g_SentenceReader_says_j107 rec_X18_says x0 x1 x2 x3 x4 x5 y0 h41) := by
        intro x0 x1 x2 x3 x4 x5 y0 h41
        unfold g_SentenceReader_says_j107
        refine s_iconst C (0 : Int32) dX18_says_107 (by decide) ?_
        exact hj108 _ _ _ _ _ _ _ _ _
      refine s_icmp_ge C 107 dX18_says_91 (by decide) ?_ ?_
      · exact hj107 _ _ _ _ _ _ _ _
      · refine s_aload_n C dX18_says_94 0 rfl rfl ?_
        refine s_getI [16] C (fl1 ⟨fo_X18_79_16, rfl⟩) (pl_of e4 rfl) dX18_says_95 fun a42 => ?_
        refine s_bipush C (8 : Int32) dX18_says_98 (by decide) ?_
        refine s_icmp_ge C 107 dX18_says_100 (by decide) ?_ ?_
        · exact hj107 _ _ _ _ _ _ _ _
        · refine s_iconst C (1 : Int32) dX18_says_103 (by decide) ?_
          refine s_goto C 108 dX18_says_104 (by decide) ?_
          exact hj108 _ _ _ _ _ _ _ _ _
    have hj75 : ∀ (x0 : Nat) (x1 : Int32) (x2 : Int32) (x3 : Int32) (x4 : Int32) (x5 : Int32) (y0 : Nat) (h43 : Hp), Sim id E (QMX E finR) h43 75 [(0, vr x0), (1, .int x1), (2, .int x2), (3, .int x3), (4, .int x4), (5, .int x5)] [vr y0] (g_SentenceReader_says_j75 rec_X18_says x0 x1 x2 x3 x4 x5 y0 h43) := by
      intro x0 x1 x2 x3 x4 x5 y0 h43
      unfold g_SentenceReader_says_j75
      refine s_iconst C (1 : Int32) dX18_says_75 (by decide) ?_
      refine s_goto C 80 dX18_says_76 (by decide) ?_
      exact hj80 _ _ _ _ _ _ _ _ _
    refine s_if_ne C 75 dX18_says_52 (by decide) ?_ ?_
    · refine Sim.keep [5, 4, 3, 2, 1, 0] rfl ?_
      exact hj75 _ _ _ _ _ _ _ _
    · refine s_iload_n C dX18_says_55 3 rfl rfl ?_
      refine s_if_ne C 75 dX18_says_56 (by decide) ?_ ?_
      · refine Sim.keep [5, 4, 3, 2, 1, 0] rfl ?_
        exact hj75 _ _ _ _ _ _ _ _
      · refine s_iload_n C dX18_says_59 2 rfl rfl ?_
        refine s_if_ne C 75 dX18_says_60 (by decide) ?_ ?_
        · refine Sim.keep [5, 4, 3, 2, 1, 0] rfl ?_
          exact hj75 _ _ _ _ _ _ _ _
        · refine s_iload C dX18_says_63 1 rfl ?_
          refine s_iconst C (-1 : Int32) dX18_says_65 (by decide) ?_
          refine s_icmp_ne C 75 dX18_says_66 (by decide) ?_ ?_
          · refine Sim.keep [5, 4, 3, 2, 1, 0] rfl ?_
            exact hj75 _ _ _ _ _ _ _ _
          · refine s_iload C dX18_says_69 0 rfl ?_
            refine s_iconst C (-1 : Int32) dX18_says_71 (by decide) ?_
            refine s_icmp_eq C 79 dX18_says_72 (by decide) ?_ ?_
            · refine s_iconst C (0 : Int32) dX18_says_79 (by decide) ?_
              refine Sim.keep [5, 4, 3, 2, 1, 0] rfl ?_
              exact hj80 _ _ _ _ _ _ _ _ _
            · refine Sim.keep [5, 4, 3, 2, 1, 0] rfl ?_
              exact hj75 _ _ _ _ _ _ _ _
  have hj22 : ∀ (x0 : Nat) (h44 : Hp), Sim id E (QMX E finR) h44 22 [(0, vr x0)] [] (g_SentenceReader_says_j22 rec_X18_says x0 h44) := by
    intro x0 h44
    unfold g_SentenceReader_says_j22
    refine s_iconst C (0 : Int32) dX18_says_22 (by decide) ?_
    exact hj23 _ _ _
  refine s_icmp_ne C 22 dX18_says_6 (by decide) ?_ ?_
  · exact hj22 _ _
  · refine s_aload_n C dX18_says_9 0 rfl rfl ?_
    refine s_getI [7, 15, 16] C (flc ⟨fo_X18_62_7, rfl⟩ (flc ⟨fo_X18_62_15, rfl⟩ (fl1 ⟨fo_X18_62_16, rfl⟩))) (pl_of e4 rfl) dX18_says_10 fun a45 => ?_
    refine s_bipush C (40 : Int32) dX18_says_13 (by decide) ?_
    refine s_icmp_ne C 22 dX18_says_15 (by decide) ?_ ?_
    · exact hj22 _ _
    · refine s_iconst C (1 : Int32) dX18_says_18 (by decide) ?_
      refine s_goto C 23 dX18_says_19 (by decide) ?_
      exact hj23 _ _ _

def gR_says : Nat → Nat → Hp → Option (Except Nat Nat × Hp)
  | 0 => fun _ _ => none
  | n + 1 => g_SentenceReader_says (gR_says n)
theorem ctR_says {G : Gx} {RL : Lv} {l : Launch} (hL : LvA G RL plA) (hJ : JK G RL l) : ∀ n, ∀ (x0 : Nat) (h : Hp), CtX G RL l yX18_says (ws_ yX18_says cX18_says 7 (some (.object "FinalLinks$Cond"))) (100 + 4 * n) (10000 + 89 * n) finR [vr x0] h (gR_says n x0 h) := by
  intro n
  induction n with
  | zero => intros; intro r h9 hx; cases hx
  | succ n ih =>
    rw [show 100 + 4 * (n + 1) = (100 + 4 * n) + 4 from by omega, show 10000 + 89 * (n + 1) = (10000 + 89 * n) + 89 from by omega]
    exact ct_g_SentenceReader_says hL hJ (100 + 4 * n) (10000 + 89 * n) (by omega) (by omega) (gR_says n) ih

def g_Not_holds_j17 (rec_X20_holds : Nat → Nat → Int32 → Hp → Option (Int32 × Hp)) (rec_X24_holds : Nat → Nat → Int32 → Hp → Option (Int32 × Hp)) (y0 : Int32) (h4 : Hp) : Option (Int32 × Hp) :=
  if nrw 2 y0 = y0 then some (y0, h4) else none
def g_Not_holds (rec_X20_holds : Nat → Nat → Int32 → Hp → Option (Int32 × Hp)) (rec_X24_holds : Nat → Nat → Int32 → Hp → Option (Int32 × Hp)) (x0 : Nat) (x1 : Nat) (x2 : Int32) (h : Hp) : Option (Int32 × Hp) :=
  (getR [17] 0 x0 h).bind fun a1 =>
  bn (dsp (tg h a1 % 500) none [(17, rec_X20_holds a1 x1 x2 h), (18, g_Under_holds a1 x1 x2 h), (19, g_What_holds a1 x1 x2 h), (20, g_Than_holds a1 x1 x2 h), (21, rec_X24_holds a1 x1 x2 h)]) fun r2 h3 =>
  if r2 = 0 then
    g_Not_holds_j17 rec_X20_holds rec_X24_holds (1 : Int32) h3
  else
    g_Not_holds_j17 rec_X20_holds rec_X24_holds (0 : Int32) h3
theorem ct_g_Not_holds {G : Gx} {RL : Lv} {l : Launch} (hL : LvA G RL plA) (hJ : JK G RL l) (f0 l0 : Nat) (hf0 : 100 ≤ f0) (hl0 : 10000 ≤ l0) (rec_X20_holds : Nat → Nat → Int32 → Hp → Option (Int32 × Hp)) (hrec_X20_holds : ∀ (x0 : Nat) (x1 : Nat) (x2 : Int32) (h : Hp), Ct id G RL l yX20_holds (ws_ yX20_holds cX20_holds 3 (some .boolean)) f0 l0 finI [vr x0, vr x1, .int x2] h (rec_X20_holds x0 x1 x2 h)) (rec_X24_holds : Nat → Nat → Int32 → Hp → Option (Int32 × Hp)) (hrec_X24_holds : ∀ (x0 : Nat) (x1 : Nat) (x2 : Int32) (h : Hp), Ct id G RL l yX24_holds (ws_ yX24_holds cX24_holds 3 (some .boolean)) f0 l0 finI [vr x0, vr x1, .int x2] h (rec_X24_holds x0 x1 x2 h)) (x0 : Nat) (x1 : Nat) (x2 : Int32) (h : Hp) : Ct id G RL l yX20_holds (ws_ yX20_holds cX20_holds 3 (some .boolean)) (f0 + 1) (l0 + 22) finI [vr x0, vr x1, .int x2] h (g_Not_holds rec_X20_holds rec_X24_holds x0 x1 x2 h) := by
  refine Ct.of (Pl := plA) [(0, vr x0), (1, vr x1), (2, .int x2)] (by decide) hL rfl (Nat.le_of_ble_eq_true rfl) ?_
  intro E C e6 hf hlo e1 e2 e3 e4 e5
  subst e1; subst e2; subst e3
  replace C : Cx E cX20_holds (some .boolean) RX20 := C
  replace e6 : (eMe E).name = "holds" := e6
  unfold g_Not_holds
  refine s_aload_n C dX20_holds_0 0 rfl rfl ?_
  refine s_getR [17] C (fl1 ⟨fo_X20_7_17, rfl⟩) (pl_of e4 rfl) dX20_holds_1 fun a1 => ?_
  refine s_aload_n C dX20_holds_4 1 rfl rfl ?_
  refine s_iload_n C dX20_holds_5 2 rfl rfl ?_
  refine s_dk 9 finI [] (fun r2 h3 => ?_) (fun hk => s_dsp 17 (fun ht => c_A C 2 [] 17 RX20 "FinalLinks$Cond" ro_17 (hrec_X20_holds a1 x1 x2 h) (lw_U q2788 q2784 q2785 q2786 q166 q2787) q2783 ⟨by decide +kernel, by decide +kernel, by decide +kernel⟩ rfl (by omega) (by omega) rfl (Nat.le_of_ble_eq_true rfl) dX20_holds_6 hk ht) (s_dsp 18 (fun ht => c_A C 2 [] 18 RX21 "FinalLinks$Cond" ro_18 (ct_g_Under_holds hL hJ a1 x1 x2 h) (lw_U q2788 q2784 q2812 q2797 q167 q2798) q2783 ⟨by decide +kernel, by decide +kernel, by decide +kernel⟩ rfl (by omega) (by omega) rfl (Nat.le_of_ble_eq_true rfl) dX20_holds_6 hk ht) (s_dsp 19 (fun ht => c_A C 2 [] 19 RX22 "FinalLinks$Cond" ro_19 (ct_g_What_holds hL hJ a1 x1 x2 h) (lw_U q2788 q2784 q2813 q2800 q168 q2801) q2783 ⟨by decide +kernel, by decide +kernel, by decide +kernel⟩ rfl (by omega) (by omega) rfl (Nat.le_of_ble_eq_true rfl) dX20_holds_6 hk ht) (s_dsp 20 (fun ht => c_A C 2 [] 20 RX23 "FinalLinks$Cond" ro_20 (ct_g_Than_holds hL hJ a1 x1 x2 h) (lw_U q2788 q2784 q2810 q2789 q169 q2790) q2783 ⟨by decide +kernel, by decide +kernel, by decide +kernel⟩ rfl (by omega) (by omega) rfl (Nat.le_of_ble_eq_true rfl) dX20_holds_6 hk ht) (s_dsp 21 (fun ht => c_A C 2 [] 21 RX24 "FinalLinks$Cond" ro_21 (hrec_X24_holds a1 x1 x2 h) (lw_U q2788 q2784 q2811 q2794 q170 q2795) q2783 ⟨by decide +kernel, by decide +kernel, by decide +kernel⟩ rfl (by omega) (by omega) rfl (Nat.le_of_ble_eq_true rfl) dX20_holds_6 hk ht) s_dsp0)))))
  have hj17 : ∀ (y0 : Int32) (h4 : Hp), Sim id E (QM id E finI) h4 17 [] [.int y0] (g_Not_holds_j17 rec_X20_holds rec_X24_holds y0 h4) := by
    intro y0 h4
    exact s_zret 2 C (by decide) (by decide) rfl dX20_holds_17
  refine s_if_ne C 16 dX20_holds_9 (by decide) ?_ ?_
  · refine s_iconst C (0 : Int32) dX20_holds_16 (by decide) ?_
    refine Sim.keep [] rfl ?_
    exact hj17 _ _
  · refine s_iconst C (1 : Int32) dX20_holds_12 (by decide) ?_
    refine s_goto C 17 dX20_holds_13 (by decide) ?_
    refine Sim.keep [] rfl ?_
    exact hj17 _ _

def g_Two_holds_j68 (rec_X20_holds : Nat → Nat → Int32 → Hp → Option (Int32 × Hp)) (rec_X24_holds : Nat → Nat → Int32 → Hp → Option (Int32 × Hp)) (y0 : Int32) (h2 : Hp) : Option (Int32 × Hp) :=
  if nrw 2 y0 = y0 then some (y0, h2) else none
def g_Two_holds_j63 (rec_X20_holds : Nat → Nat → Int32 → Hp → Option (Int32 × Hp)) (rec_X24_holds : Nat → Nat → Int32 → Hp → Option (Int32 × Hp)) (h6 : Hp) : Option (Int32 × Hp) :=
  g_Two_holds_j68 rec_X20_holds rec_X24_holds (1 : Int32) h6
def g_Two_holds_j35 (rec_X20_holds : Nat → Nat → Int32 → Hp → Option (Int32 × Hp)) (rec_X24_holds : Nat → Nat → Int32 → Hp → Option (Int32 × Hp)) (h13 : Hp) : Option (Int32 × Hp) :=
  g_Two_holds_j68 rec_X20_holds rec_X24_holds (0 : Int32) h13
def g_Two_holds (rec_X20_holds : Nat → Nat → Int32 → Hp → Option (Int32 × Hp)) (rec_X24_holds : Nat → Nat → Int32 → Hp → Option (Int32 × Hp)) (x0 : Nat) (x1 : Nat) (x2 : Int32) (h : Hp) : Option (Int32 × Hp) :=
  (getI [21] 2 x0 h).bind fun a1 =>
  if a1 = 0 then
    (getR [21] 0 x0 h).bind fun a3 =>
    bn (dsp (tg h a3 % 500) none [(17, rec_X20_holds a3 x1 x2 h), (18, g_Under_holds a3 x1 x2 h), (19, g_What_holds a3 x1 x2 h), (20, g_Than_holds a3 x1 x2 h), (21, rec_X24_holds a3 x1 x2 h)]) fun r4 h5 =>
    if r4 = 0 then
      (getR [21] 1 x0 h5).bind fun a7 =>
      bn (dsp (tg h5 a7 % 500) none [(17, rec_X20_holds a7 x1 x2 h5), (18, g_Under_holds a7 x1 x2 h5), (19, g_What_holds a7 x1 x2 h5), (20, g_Than_holds a7 x1 x2 h5), (21, rec_X24_holds a7 x1 x2 h5)]) fun r8 h9 =>
      if r8 = 0 then
        g_Two_holds_j68 rec_X20_holds rec_X24_holds (0 : Int32) h9
      else
        g_Two_holds_j63 rec_X20_holds rec_X24_holds h9
    else
      g_Two_holds_j63 rec_X20_holds rec_X24_holds h5
  else
    (getR [21] 0 x0 h).bind fun a10 =>
    bn (dsp (tg h a10 % 500) none [(17, rec_X20_holds a10 x1 x2 h), (18, g_Under_holds a10 x1 x2 h), (19, g_What_holds a10 x1 x2 h), (20, g_Than_holds a10 x1 x2 h), (21, rec_X24_holds a10 x1 x2 h)]) fun r11 h12 =>
    if r11 = 0 then
      g_Two_holds_j35 rec_X20_holds rec_X24_holds h12
    else
      (getR [21] 1 x0 h12).bind fun a14 =>
      bn (dsp (tg h12 a14 % 500) none [(17, rec_X20_holds a14 x1 x2 h12), (18, g_Under_holds a14 x1 x2 h12), (19, g_What_holds a14 x1 x2 h12), (20, g_Than_holds a14 x1 x2 h12), (21, rec_X24_holds a14 x1 x2 h12)]) fun r15 h16 =>
      if r15 = 0 then
        g_Two_holds_j35 rec_X20_holds rec_X24_holds h16
      else
        g_Two_holds_j68 rec_X20_holds rec_X24_holds (1 : Int32) h16
theorem ct_g_Two_holds {G : Gx} {RL : Lv} {l : Launch} (hL : LvA G RL plA) (hJ : JK G RL l) (f0 l0 : Nat) (hf0 : 100 ≤ f0) (hl0 : 10000 ≤ l0) (rec_X20_holds : Nat → Nat → Int32 → Hp → Option (Int32 × Hp)) (hrec_X20_holds : ∀ (x0 : Nat) (x1 : Nat) (x2 : Int32) (h : Hp), Ct id G RL l yX20_holds (ws_ yX20_holds cX20_holds 3 (some .boolean)) f0 l0 finI [vr x0, vr x1, .int x2] h (rec_X20_holds x0 x1 x2 h)) (rec_X24_holds : Nat → Nat → Int32 → Hp → Option (Int32 × Hp)) (hrec_X24_holds : ∀ (x0 : Nat) (x1 : Nat) (x2 : Int32) (h : Hp), Ct id G RL l yX24_holds (ws_ yX24_holds cX24_holds 3 (some .boolean)) f0 l0 finI [vr x0, vr x1, .int x2] h (rec_X24_holds x0 x1 x2 h)) (x0 : Nat) (x1 : Nat) (x2 : Int32) (h : Hp) : Ct id G RL l yX24_holds (ws_ yX24_holds cX24_holds 3 (some .boolean)) (f0 + 1) (l0 + 22) finI [vr x0, vr x1, .int x2] h (g_Two_holds rec_X20_holds rec_X24_holds x0 x1 x2 h) := by
  refine Ct.of (Pl := plA) [(0, vr x0), (1, vr x1), (2, .int x2)] (by decide) hL rfl (Nat.le_of_ble_eq_true rfl) ?_
  intro E C e6 hf hlo e1 e2 e3 e4 e5
  subst e1; subst e2; subst e3
  replace C : Cx E cX24_holds (some .boolean) RX24 := C
  replace e6 : (eMe E).name = "holds" := e6
  unfold g_Two_holds
  refine s_aload_n C dX24_holds_0 0 rfl rfl ?_
  refine s_getI [21] C (fl1 ⟨fo_X24_16_21, rfl⟩) (pl_of e4 rfl) dX24_holds_1 fun a1 => ?_
  have hj68 : ∀ (y0 : Int32) (h2 : Hp), Sim id E (QM id E finI) h2 68 [] [.int y0] (g_Two_holds_j68 rec_X20_holds rec_X24_holds y0 h2) := by
    intro y0 h2
    exact s_zret 2 C (by decide) (by decide) rfl dX24_holds_68
  refine s_if_eq C 39 dX24_holds_4 (by decide) ?_ ?_
  · refine s_aload_n C dX24_holds_39 0 rfl rfl ?_
    refine s_getR [21] C (fl1 ⟨fo_X24_7_21, rfl⟩) (pl_of e4 rfl) dX24_holds_40 fun a3 => ?_
    refine s_aload_n C dX24_holds_43 1 rfl rfl ?_
    refine s_iload_n C dX24_holds_44 2 rfl rfl ?_
    refine s_dk 48 finI [] (fun r4 h5 => ?_) (fun hk => s_dsp 17 (fun ht => c_A C 2 [] 17 RX20 "FinalLinks$Cond" ro_17 (hrec_X20_holds a3 x1 x2 h) (lw_U q2796 q2784 q2785 q2786 q166 q2787) q2783 ⟨by decide +kernel, by decide +kernel, by decide +kernel⟩ rfl (by omega) (by omega) rfl (Nat.le_of_ble_eq_true rfl) dX24_holds_45 hk ht) (s_dsp 18 (fun ht => c_A C 2 [] 18 RX21 "FinalLinks$Cond" ro_18 (ct_g_Under_holds hL hJ a3 x1 x2 h) (lw_U q2796 q2784 q2812 q2797 q167 q2798) q2783 ⟨by decide +kernel, by decide +kernel, by decide +kernel⟩ rfl (by omega) (by omega) rfl (Nat.le_of_ble_eq_true rfl) dX24_holds_45 hk ht) (s_dsp 19 (fun ht => c_A C 2 [] 19 RX22 "FinalLinks$Cond" ro_19 (ct_g_What_holds hL hJ a3 x1 x2 h) (lw_U q2796 q2784 q2813 q2800 q168 q2801) q2783 ⟨by decide +kernel, by decide +kernel, by decide +kernel⟩ rfl (by omega) (by omega) rfl (Nat.le_of_ble_eq_true rfl) dX24_holds_45 hk ht) (s_dsp 20 (fun ht => c_A C 2 [] 20 RX23 "FinalLinks$Cond" ro_20 (ct_g_Than_holds hL hJ a3 x1 x2 h) (lw_U q2796 q2784 q2810 q2789 q169 q2790) q2783 ⟨by decide +kernel, by decide +kernel, by decide +kernel⟩ rfl (by omega) (by omega) rfl (Nat.le_of_ble_eq_true rfl) dX24_holds_45 hk ht) (s_dsp 21 (fun ht => c_A C 2 [] 21 RX24 "FinalLinks$Cond" ro_21 (hrec_X24_holds a3 x1 x2 h) (lw_U q2796 q2784 q2811 q2794 q170 q2795) q2783 ⟨by decide +kernel, by decide +kernel, by decide +kernel⟩ rfl (by omega) (by omega) rfl (Nat.le_of_ble_eq_true rfl) dX24_holds_45 hk ht) s_dsp0)))))
    have hj63 : ∀  (h6 : Hp), Sim id E (QM id E finI) h6 63 [] [] (g_Two_holds_j63 rec_X20_holds rec_X24_holds h6) := by
      intro h6
      refine s_iconst C (1 : Int32) dX24_holds_63 (by decide) ?_
      refine s_goto C 68 dX24_holds_64 (by decide) ?_
      exact hj68 _ _
    refine s_if_ne C 63 dX24_holds_48 (by decide) ?_ ?_
    · refine Sim.keep [] rfl ?_
      exact hj63 _
    · refine s_aload_n C dX24_holds_51 0 rfl rfl ?_
      refine s_getR [21] C (fl1 ⟨fo_X24_13_21, rfl⟩) (pl_of e4 rfl) dX24_holds_52 fun a7 => ?_
      refine s_aload_n C dX24_holds_55 1 rfl rfl ?_
      refine s_iload_n C dX24_holds_56 2 rfl rfl ?_
      refine s_dk 60 finI [] (fun r8 h9 => ?_) (fun hk => s_dsp 17 (fun ht => c_A C 2 [] 17 RX20 "FinalLinks$Cond" ro_17 (hrec_X20_holds a7 x1 x2 h5) (lw_U q2796 q2784 q2785 q2786 q166 q2787) q2783 ⟨by decide +kernel, by decide +kernel, by decide +kernel⟩ rfl (by omega) (by omega) rfl (Nat.le_of_ble_eq_true rfl) dX24_holds_57 hk ht) (s_dsp 18 (fun ht => c_A C 2 [] 18 RX21 "FinalLinks$Cond" ro_18 (ct_g_Under_holds hL hJ a7 x1 x2 h5) (lw_U q2796 q2784 q2812 q2797 q167 q2798) q2783 ⟨by decide +kernel, by decide +kernel, by decide +kernel⟩ rfl (by omega) (by omega) rfl (Nat.le_of_ble_eq_true rfl) dX24_holds_57 hk ht) (s_dsp 19 (fun ht => c_A C 2 [] 19 RX22 "FinalLinks$Cond" ro_19 (ct_g_What_holds hL hJ a7 x1 x2 h5) (lw_U q2796 q2784 q2813 q2800 q168 q2801) q2783 ⟨by decide +kernel, by decide +kernel, by decide +kernel⟩ rfl (by omega) (by omega) rfl (Nat.le_of_ble_eq_true rfl) dX24_holds_57 hk ht) (s_dsp 20 (fun ht => c_A C 2 [] 20 RX23 "FinalLinks$Cond" ro_20 (ct_g_Than_holds hL hJ a7 x1 x2 h5) (lw_U q2796 q2784 q2810 q2789 q169 q2790) q2783 ⟨by decide +kernel, by decide +kernel, by decide +kernel⟩ rfl (by omega) (by omega) rfl (Nat.le_of_ble_eq_true rfl) dX24_holds_57 hk ht) (s_dsp 21 (fun ht => c_A C 2 [] 21 RX24 "FinalLinks$Cond" ro_21 (hrec_X24_holds a7 x1 x2 h5) (lw_U q2796 q2784 q2811 q2794 q170 q2795) q2783 ⟨by decide +kernel, by decide +kernel, by decide +kernel⟩ rfl (by omega) (by omega) rfl (Nat.le_of_ble_eq_true rfl) dX24_holds_57 hk ht) s_dsp0)))))
      refine s_if_eq C 67 dX24_holds_60 (by decide) ?_ ?_
      · refine s_iconst C (0 : Int32) dX24_holds_67 (by decide) ?_
        refine Sim.keep [] rfl ?_
        exact hj68 _ _
      · refine Sim.keep [] rfl ?_
        exact hj63 _
  · refine s_aload_n C dX24_holds_7 0 rfl rfl ?_
    refine s_getR [21] C (fl1 ⟨fo_X24_7_21, rfl⟩) (pl_of e4 rfl) dX24_holds_8 fun a10 => ?_
    refine s_aload_n C dX24_holds_11 1 rfl rfl ?_
    refine s_iload_n C dX24_holds_12 2 rfl rfl ?_
    refine s_dk 16 finI [] (fun r11 h12 => ?_) (fun hk => s_dsp 17 (fun ht => c_A C 2 [] 17 RX20 "FinalLinks$Cond" ro_17 (hrec_X20_holds a10 x1 x2 h) (lw_U q2796 q2784 q2785 q2786 q166 q2787) q2783 ⟨by decide +kernel, by decide +kernel, by decide +kernel⟩ rfl (by omega) (by omega) rfl (Nat.le_of_ble_eq_true rfl) dX24_holds_13 hk ht) (s_dsp 18 (fun ht => c_A C 2 [] 18 RX21 "FinalLinks$Cond" ro_18 (ct_g_Under_holds hL hJ a10 x1 x2 h) (lw_U q2796 q2784 q2812 q2797 q167 q2798) q2783 ⟨by decide +kernel, by decide +kernel, by decide +kernel⟩ rfl (by omega) (by omega) rfl (Nat.le_of_ble_eq_true rfl) dX24_holds_13 hk ht) (s_dsp 19 (fun ht => c_A C 2 [] 19 RX22 "FinalLinks$Cond" ro_19 (ct_g_What_holds hL hJ a10 x1 x2 h) (lw_U q2796 q2784 q2813 q2800 q168 q2801) q2783 ⟨by decide +kernel, by decide +kernel, by decide +kernel⟩ rfl (by omega) (by omega) rfl (Nat.le_of_ble_eq_true rfl) dX24_holds_13 hk ht) (s_dsp 20 (fun ht => c_A C 2 [] 20 RX23 "FinalLinks$Cond" ro_20 (ct_g_Than_holds hL hJ a10 x1 x2 h) (lw_U q2796 q2784 q2810 q2789 q169 q2790) q2783 ⟨by decide +kernel, by decide +kernel, by decide +kernel⟩ rfl (by omega) (by omega) rfl (Nat.le_of_ble_eq_true rfl) dX24_holds_13 hk ht) (s_dsp 21 (fun ht => c_A C 2 [] 21 RX24 "FinalLinks$Cond" ro_21 (hrec_X24_holds a10 x1 x2 h) (lw_U q2796 q2784 q2811 q2794 q170 q2795) q2783 ⟨by decide +kernel, by decide +kernel, by decide +kernel⟩ rfl (by omega) (by omega) rfl (Nat.le_of_ble_eq_true rfl) dX24_holds_13 hk ht) s_dsp0)))))
    have hj35 : ∀  (h13 : Hp), Sim id E (QM id E finI) h13 35 [] [] (g_Two_holds_j35 rec_X20_holds rec_X24_holds h13) := by
      intro h13
      refine s_iconst C (0 : Int32) dX24_holds_35 (by decide) ?_
      refine s_goto C 68 dX24_holds_36 (by decide) ?_
      exact hj68 _ _
    refine s_if_eq C 35 dX24_holds_16 (by decide) ?_ ?_
    · refine Sim.keep [] rfl ?_
      exact hj35 _
    · refine s_aload_n C dX24_holds_19 0 rfl rfl ?_
      refine s_getR [21] C (fl1 ⟨fo_X24_13_21, rfl⟩) (pl_of e4 rfl) dX24_holds_20 fun a14 => ?_
      refine s_aload_n C dX24_holds_23 1 rfl rfl ?_
      refine s_iload_n C dX24_holds_24 2 rfl rfl ?_
      refine s_dk 28 finI [] (fun r15 h16 => ?_) (fun hk => s_dsp 17 (fun ht => c_A C 2 [] 17 RX20 "FinalLinks$Cond" ro_17 (hrec_X20_holds a14 x1 x2 h12) (lw_U q2796 q2784 q2785 q2786 q166 q2787) q2783 ⟨by decide +kernel, by decide +kernel, by decide +kernel⟩ rfl (by omega) (by omega) rfl (Nat.le_of_ble_eq_true rfl) dX24_holds_25 hk ht) (s_dsp 18 (fun ht => c_A C 2 [] 18 RX21 "FinalLinks$Cond" ro_18 (ct_g_Under_holds hL hJ a14 x1 x2 h12) (lw_U q2796 q2784 q2812 q2797 q167 q2798) q2783 ⟨by decide +kernel, by decide +kernel, by decide +kernel⟩ rfl (by omega) (by omega) rfl (Nat.le_of_ble_eq_true rfl) dX24_holds_25 hk ht) (s_dsp 19 (fun ht => c_A C 2 [] 19 RX22 "FinalLinks$Cond" ro_19 (ct_g_What_holds hL hJ a14 x1 x2 h12) (lw_U q2796 q2784 q2813 q2800 q168 q2801) q2783 ⟨by decide +kernel, by decide +kernel, by decide +kernel⟩ rfl (by omega) (by omega) rfl (Nat.le_of_ble_eq_true rfl) dX24_holds_25 hk ht) (s_dsp 20 (fun ht => c_A C 2 [] 20 RX23 "FinalLinks$Cond" ro_20 (ct_g_Than_holds hL hJ a14 x1 x2 h12) (lw_U q2796 q2784 q2810 q2789 q169 q2790) q2783 ⟨by decide +kernel, by decide +kernel, by decide +kernel⟩ rfl (by omega) (by omega) rfl (Nat.le_of_ble_eq_true rfl) dX24_holds_25 hk ht) (s_dsp 21 (fun ht => c_A C 2 [] 21 RX24 "FinalLinks$Cond" ro_21 (hrec_X24_holds a14 x1 x2 h12) (lw_U q2796 q2784 q2811 q2794 q170 q2795) q2783 ⟨by decide +kernel, by decide +kernel, by decide +kernel⟩ rfl (by omega) (by omega) rfl (Nat.le_of_ble_eq_true rfl) dX24_holds_25 hk ht) s_dsp0)))))
      refine s_if_eq C 35 dX24_holds_28 (by decide) ?_ ?_
      · refine Sim.keep [] rfl ?_
        exact hj35 _
      · refine s_iconst C (1 : Int32) dX24_holds_31 (by decide) ?_
        refine s_goto C 68 dX24_holds_32 (by decide) ?_
        refine Sim.keep [] rfl ?_
        exact hj68 _ _

def gR_holds : Nat → (Nat → Nat → Int32 → Hp → Option (Int32 × Hp)) × (Nat → Nat → Int32 → Hp → Option (Int32 × Hp))
  | 0 => (fun _ _ _ _ => none, fun _ _ _ _ => none)
  | n + 1 => (g_Not_holds (gR_holds n).1 (gR_holds n).2, g_Two_holds (gR_holds n).1 (gR_holds n).2)
theorem ctR_holds {G : Gx} {RL : Lv} {l : Launch} (hL : LvA G RL plA) (hJ : JK G RL l) : ∀ n, (∀ (x0 : Nat) (x1 : Nat) (x2 : Int32) (h : Hp), Ct id G RL l yX20_holds (ws_ yX20_holds cX20_holds 3 (some .boolean)) (100 + 1 * n) (10000 + 22 * n) finI [vr x0, vr x1, .int x2] h ((gR_holds n).1 x0 x1 x2 h)) ∧ (∀ (x0 : Nat) (x1 : Nat) (x2 : Int32) (h : Hp), Ct id G RL l yX24_holds (ws_ yX24_holds cX24_holds 3 (some .boolean)) (100 + 1 * n) (10000 + 22 * n) finI [vr x0, vr x1, .int x2] h ((gR_holds n).2 x0 x1 x2 h)) := by
  intro n
  induction n with
  | zero => exact ⟨(by intros; intro r h9 hx; cases hx), (by intros; intro r h9 hx; cases hx)⟩
  | succ n ih =>
    rw [show 100 + 1 * (n + 1) = (100 + 1 * n) + 1 from by omega, show 10000 + 22 * (n + 1) = (10000 + 22 * n) + 22 from by omega]
    exact ⟨ct_g_Not_holds hL hJ (100 + 1 * n) (10000 + 22 * n) (by omega) (by omega) (gR_holds n).1 ih.1 (gR_holds n).2 ih.2, ct_g_Two_holds hL hJ (100 + 1 * n) (10000 + 22 * n) (by omega) (by omega) (gR_holds n).1 ih.1 (gR_holds n).2 ih.2⟩

def g_FinalLinks_need2 (x0 : Int32) (h : Hp) : Option (Except Nat Unit × Hp) :=
  if x0 = 0 then
    if h.2.1 + 7 ≤ LIM then some (.error 0, (h.1, h.2.1 + 7, h.2.2)) else none
  else
    some (.ok (), h)
theorem ct_g_FinalLinks_need2 {G : Gx} {RL : Lv} {l : Launch} (hL : LvA G RL plA) (hJ : JK G RL l) (x0 : Int32) (h : Hp) : CtX G RL l yX1_need_2 (ws_ yX1_need_2 cX1_need_2 1 none) 6 89 finV [.int x0] h (g_FinalLinks_need2 x0 h) := by
  refine CtX.of (Pl := plA) [(0, .int x0)] (by decide) hL rfl (Nat.le_of_ble_eq_true rfl) ?_
  intro E C e6 hf hlo e1 e2 e3 e4 e5 e7
  subst e1; subst e2; subst e3
  replace C : Cx E cX1_need_2 none RX1 := C
  replace e6 : (eMe E).name = "need" := e6
  unfold g_FinalLinks_need2
  refine s_iload_n C dX1_need_2_0 0 rfl rfl ?_
  refine s_if_ne C 12 dX1_need_2_1 (by decide) ?_ ?_
  · exact Sim.okR (s_vret C rfl dX1_need_2_12)
  · exact s_nse C e7 (jk_nse hJ).1 (jk_nse hJ).2 q2837 q125 (le_fr hf rfl) (le_fr hlo rfl) (Nat.le_of_ble_eq_true rfl) dX1_need_2_4 dX1_need_2_7 dX1_need_2_8 dX1_need_2_11

def g_FinalLinks_block_j109 (y0 : Int32) (h14 : Hp) : Option (Except Nat Int32 × Hp) :=
  some (.ok y0, h14)
def g_FinalLinks_block_j153 (y0 : Int32) (h29 : Hp) : Option (Except Nat Int32 × Hp) :=
  some (.ok y0, h29)
def g_FinalLinks_block_j170 (y0 : Int32) (h33 : Hp) : Option (Except Nat Int32 × Hp) :=
  some (.ok y0, h33)
def g_FinalLinks_block_j23 (x0 : Nat) (x1 : Int32) (x2 : Int32) (y0 : Int32) (h3 : Hp) : Option (Except Nat Int32 × Hp) :=
  bx (g_FinalLinks_need2 y0 h3) fun _ h4 =>
  swi x2 ((getR [1] 6 x0 h4).bind fun a34 =>
    (getR [4] 8 a34 h4).bind fun a35 =>
    (aldI [200] a35 x1 h4).bind fun a36 =>
    some (.ok a36, h4)) [
    ((0 : Int32), (getR [1] 4 x0 h4).bind fun a5 =>
    bn (dsp (tg h4 a5 % 500) none [(3, g_Tree_on a5 x1 h4)]) fun r6 h7 =>
    some (.ok r6, h7)),
    ((1 : Int32), (getR [1] 4 x0 h4).bind fun a8 =>
    bn (dsp (tg h4 a8 % 500) none [(3, g_Tree_height a8 x1 h4)]) fun r9 h10 =>
    some (.ok r9, h10)),
    ((2 : Int32), (getR [1] 4 x0 h4).bind fun a11 =>
    bn (dsp (tg h4 a11 % 500) none [(3, g_Tree_isPoint a11 x1 h4)]) fun r12 h13 =>
    if r12 = 0 then
      g_FinalLinks_block_j109 (-1 : Int32) h13
    else
      (getR [1] 4 x0 h13).bind fun a15 =>
      bn (dsp (tg h13 a15 % 500) none [(3, g_Tree_level a15 x1 h13)]) fun r16 h17 =>
      g_FinalLinks_block_j109 r16 h17),
    ((3 : Int32), (getR [1] 4 x0 h4).bind fun a18 =>
    bn (dsp (tg h4 a18 % 500) none [(3, g_Tree_over a18 x1 h4)]) fun r19 h20 =>
    some (.ok r19, h20)),
    ((4 : Int32), (getR [1] 4 x0 h4).bind fun a21 =>
    (getR [3] 1 a21 h4).bind fun a22 =>
    bn (dsp (tg h4 a22 % 500) none [(25, oAlGet a22 x1 h4)]) fun r23 h24 =>
    (cst [9] r23 h24).bind fun _ =>
    (getI [9] 2 r23 h24).bind fun a25 =>
    some (.ok a25, h24)),
    ((5 : Int32), (getR [1] 6 x0 h4).bind fun a26 =>
    bn (dsp (tg h4 a26 % 500) none [(4, g_Judged_isJust a26 x1 h4)]) fun r27 h28 =>
    if r27 = 0 then
      g_FinalLinks_block_j153 (0 : Int32) h28
    else
      g_FinalLinks_block_j153 (1 : Int32) h28),
    ((6 : Int32), (getR [1] 6 x0 h4).bind fun a30 =>
    bn (dsp (tg h4 a30 % 500) none [(4, g_Judged_isFinal a30 x1 h4)]) fun r31 h32 =>
    if r31 = 0 then
      g_FinalLinks_block_j170 (0 : Int32) h32
    else
      g_FinalLinks_block_j170 (1 : Int32) h32)]
def g_FinalLinks_block_j22 (x0 : Nat) (x1 : Int32) (x2 : Int32) (h37 : Hp) : Option (Except Nat Int32 × Hp) :=
  g_FinalLinks_block_j23 x0 x1 x2 (0 : Int32) h37
def g_FinalLinks_block (x0 : Nat) (x1 : Int32) (x2 : Int32) (h : Hp) : Option (Except Nat Int32 × Hp) :=
  bn (dsp (tg h x0 % 500) none [(1, g_FinalLinks_isBlock x0 x1 h)]) fun r1 h2 =>
  if r1 = 0 then
    g_FinalLinks_block_j22 x0 x1 x2 h2
  else
    bn (g_FinalLinks_isIn x2 (0 : Int32) (7 : Int32) h2) fun r38 h39 =>
    if r38 = 0 then
      g_FinalLinks_block_j22 x0 x1 x2 h39
    else
      g_FinalLinks_block_j23 x0 x1 x2 (1 : Int32) h39
theorem ct_g_FinalLinks_block {G : Gx} {RL : Lv} {l : Launch} (hL : LvA G RL plA) (hJ : JK G RL l) (x0 : Nat) (x1 : Int32) (x2 : Int32) (h : Hp) : CtX G RL l yX1_block (ws_ yX1_block cX1_block 3 (some .int)) 44 4082 finI [vr x0, .int x1, .int x2] h (g_FinalLinks_block x0 x1 x2 h) := by
  refine CtX.of (Pl := plA) [(0, vr x0), (1, .int x1), (2, .int x2)] (by decide) hL rfl (Nat.le_of_ble_eq_true rfl) ?_
  intro E C e6 hf hlo e1 e2 e3 e4 e5 e7
  subst e1; subst e2; subst e3
  replace C : Cx E cX1_block (some .int) RX1 := C
  replace e6 : (eMe E).name = "block" := e6
  unfold g_FinalLinks_block
  refine s_aload_n C dX1_block_0 0 rfl rfl ?_
  refine s_iload_n C dX1_block_1 1 rfl rfl ?_
  refine s_dk 5 finI [] (fun r1 h2 => ?_) (fun hk => s_dsp 1 (fun ht => c_V C 1 [] 1 RX1 ro_1 (ct_g_FinalLinks_isBlock hL hJ x0 x1 h) (lw_V q2135 q2137 qs20 q107 q2138) nd_X1_isBlock rfl (le_fr hf rfl) (le_fr hlo rfl) rfl (Nat.le_of_ble_eq_true rfl) dX1_block_2 hk ht) s_dsp0)
  have hj23 : ∀ (x0 : Nat) (x1 : Int32) (x2 : Int32) (y0 : Int32) (h3 : Hp), Sim id E (QMX E finI) h3 23 [(0, vr x0), (1, .int x1), (2, .int x2)] [.int y0] (g_FinalLinks_block_j23 x0 x1 x2 y0 h3) := by
    intro x0 x1 x2 y0 h3
    unfold g_FinalLinks_block_j23
    refine x_S C 1 [] (ct_g_FinalLinks_need2 hL hJ y0 h3) (lw_S q2834 q2835 q107 q2836) nd_X1_need_2.2 rfl (le_fr hf rfl) (le_fr hlo rfl) rfl (Nat.le_of_ble_eq_true rfl) dX1_block_23 (fun _ _ => SimX.out C e7) fun _ h4 => ?_
    refine s_iload_n C dX1_block_26 2 rfl rfl ?_
    refine s_tsw C 171 dX1_block_27 [(0 : Int32), (1 : Int32), (2 : Int32), (3 : Int32), (4 : Int32), (5 : Int32), (6 : Int32)] rfl (by decide +kernel) (by decide) (by decide) ⟨⟨68, by decide, ?_⟩, ⟨⟨77, by decide, ?_⟩, ⟨⟨86, by decide, ?_⟩, ⟨⟨110, by decide, ?_⟩, ⟨⟨119, by decide, ?_⟩, ⟨⟨137, by decide, ?_⟩, ⟨⟨154, by decide, ?_⟩, trivial⟩⟩⟩⟩⟩⟩⟩ ?_
    · refine s_aload_n C dX1_block_68 0 rfl rfl ?_
      refine s_getR [1] C (fl1 ⟨fo_X1_34_1, rfl⟩) (pl_of e4 rfl) dX1_block_69 fun a5 => ?_
      refine s_iload_n C dX1_block_72 1 rfl rfl ?_
      refine s_dk 76 finI [] (fun r6 h7 => ?_) (fun hk => s_dsp 3 (fun ht => c_V C 1 [] 3 RX3 ro_3 (ct_g_Tree_on hL hJ a5 x1 h4) (lw_V q2153 q1318 q1319 q114 q1320) nd_X3_on rfl (le_fr hf rfl) (le_fr hlo rfl) rfl (Nat.le_of_ble_eq_true rfl) dX1_block_73 hk ht) s_dsp0)
      exact Sim.okR (s_iret C rfl dX1_block_76)
    · refine s_aload_n C dX1_block_77 0 rfl rfl ?_
      refine s_getR [1] C (fl1 ⟨fo_X1_34_1, rfl⟩) (pl_of e4 rfl) dX1_block_78 fun a8 => ?_
      refine s_iload_n C dX1_block_81 1 rfl rfl ?_
      refine s_dk 85 finI [] (fun r9 h10 => ?_) (fun hk => s_dsp 3 (fun ht => c_V C 1 [] 3 RX3 ro_3 (ct_g_Tree_height hL hJ a8 x1 h4) (lw_V q2150 q758 q759 q114 q760) nd_X3_height rfl (le_fr hf rfl) (le_fr hlo rfl) rfl (Nat.le_of_ble_eq_true rfl) dX1_block_82 hk ht) s_dsp0)
      exact Sim.okR (s_iret C rfl dX1_block_85)
    · refine s_aload_n C dX1_block_86 0 rfl rfl ?_
      refine s_getR [1] C (fl1 ⟨fo_X1_34_1, rfl⟩) (pl_of e4 rfl) dX1_block_87 fun a11 => ?_
      refine s_iload_n C dX1_block_90 1 rfl rfl ?_
      refine s_dk 94 finI [] (fun r12 h13 => ?_) (fun hk => s_dsp 3 (fun ht => c_V C 1 [] 3 RX3 ro_3 (ct_g_Tree_isPoint hL hJ a11 x1 h4) (lw_V q2162 q2163 q2164 q114 q2165) nd_X3_isPoint rfl (le_fr hf rfl) (le_fr hlo rfl) rfl (Nat.le_of_ble_eq_true rfl) dX1_block_91 hk ht) s_dsp0)
      have hj109 : ∀ (y0 : Int32) (h14 : Hp), Sim id E (QMX E finI) h14 109 [] [.int y0] (g_FinalLinks_block_j109 y0 h14) := by
        intro y0 h14
        unfold g_FinalLinks_block_j109
        exact Sim.okR (s_iret C rfl dX1_block_109)
      refine s_if_eq C 108 dX1_block_94 (by decide) ?_ ?_
      · refine s_iconst C (-1 : Int32) dX1_block_108 (by decide) ?_
        refine Sim.keep [] rfl ?_
        exact hj109 _ _
      · refine s_aload_n C dX1_block_97 0 rfl rfl ?_
        refine s_getR [1] C (fl1 ⟨fo_X1_34_1, rfl⟩) (pl_of e4 rfl) dX1_block_98 fun a15 => ?_
        refine s_iload_n C dX1_block_101 1 rfl rfl ?_
        refine s_dk 105 finI [] (fun r16 h17 => ?_) (fun hk => s_dsp 3 (fun ht => c_V C 1 [] 3 RX3 ro_3 (ct_g_Tree_level hL hJ a15 x1 h13) (lw_V q2839 q754 q755 q114 q756) nd_X3_level rfl (le_fr hf rfl) (le_fr hlo rfl) rfl (Nat.le_of_ble_eq_true rfl) dX1_block_102 hk ht) s_dsp0)
        refine s_goto C 109 dX1_block_105 (by decide) ?_
        refine Sim.keep [] rfl ?_
        exact hj109 _ _
    · refine s_aload_n C dX1_block_110 0 rfl rfl ?_
      refine s_getR [1] C (fl1 ⟨fo_X1_34_1, rfl⟩) (pl_of e4 rfl) dX1_block_111 fun a18 => ?_
      refine s_iload_n C dX1_block_114 1 rfl rfl ?_
      refine s_dk 118 finI [] (fun r19 h20 => ?_) (fun hk => s_dsp 3 (fun ht => c_V C 1 [] 3 RX3 ro_3 (ct_g_Tree_over hL hJ a18 x1 h4) (lw_V q2840 q2841 q2842 q114 q2843) nd_X3_over rfl (le_fr hf rfl) (le_fr hlo rfl) rfl (Nat.le_of_ble_eq_true rfl) dX1_block_115 hk ht) s_dsp0)
      exact Sim.okR (s_iret C rfl dX1_block_118)
    · refine s_aload_n C dX1_block_119 0 rfl rfl ?_
      refine s_getR [1] C (fl1 ⟨fo_X1_34_1, rfl⟩) (pl_of e4 rfl) dX1_block_120 fun a21 => ?_
      refine s_getR [3] C (fl1 ⟨fo_X1_170_3, rfl⟩) (pl_of e4 rfl) dX1_block_123 fun a22 => ?_
      refine s_iload_n C dX1_block_126 1 rfl rfl ?_
      refine s_dk 130 finR [] (fun r23 h24 => ?_) (fun hk => s_dsp 25 (fun ht => c_V C 1 [] 25 RJ2 ro_25 (jk_14 hJ a22 x1 h4) (lw_V q2177 q735 q736 q111 q737) nd_J2_get rfl (le_fr hf rfl) (le_fr hlo rfl) rfl (Nat.le_of_ble_eq_true rfl) dX1_block_127 hk ht) s_dsp0)
      refine s_cast [9] "FinalLinks$Block" C q2844 (fl1 ao_FinalLinks_Block_9) dX1_block_130 ?_
      refine s_getI [9] C (fl1 ⟨fo_X1_179_9, rfl⟩) (pl_of e4 rfl) dX1_block_133 fun a25 => ?_
      exact Sim.okR (s_iret C rfl dX1_block_136)
    · refine s_aload_n C dX1_block_137 0 rfl rfl ?_
      refine s_getR [1] C (fl1 ⟨fo_X1_48_1, rfl⟩) (pl_of e4 rfl) dX1_block_138 fun a26 => ?_
      refine s_iload_n C dX1_block_141 1 rfl rfl ?_
      refine s_dk 145 finI [] (fun r27 h28 => ?_) (fun hk => s_dsp 4 (fun ht => c_V C 1 [] 4 RX4 ro_4 (ct_g_Judged_isJust hL hJ a26 x1 h4) (lw_V q2428 q1348 q1349 q130 q1350) nd_X4_isJust rfl (le_fr hf rfl) (le_fr hlo rfl) rfl (Nat.le_of_ble_eq_true rfl) dX1_block_142 hk ht) s_dsp0)
      have hj153 : ∀ (y0 : Int32) (h29 : Hp), Sim id E (QMX E finI) h29 153 [] [.int y0] (g_FinalLinks_block_j153 y0 h29) := by
        intro y0 h29
        unfold g_FinalLinks_block_j153
        exact Sim.okR (s_iret C rfl dX1_block_153)
      refine s_if_eq C 152 dX1_block_145 (by decide) ?_ ?_
      · refine s_iconst C (0 : Int32) dX1_block_152 (by decide) ?_
        refine Sim.keep [] rfl ?_
        exact hj153 _ _
      · refine s_iconst C (1 : Int32) dX1_block_148 (by decide) ?_
        refine s_goto C 153 dX1_block_149 (by decide) ?_
        refine Sim.keep [] rfl ?_
        exact hj153 _ _
    · refine s_aload_n C dX1_block_154 0 rfl rfl ?_
      refine s_getR [1] C (fl1 ⟨fo_X1_48_1, rfl⟩) (pl_of e4 rfl) dX1_block_155 fun a30 => ?_
      refine s_iload_n C dX1_block_158 1 rfl rfl ?_
      refine s_dk 162 finI [] (fun r31 h32 => ?_) (fun hk => s_dsp 4 (fun ht => c_V C 1 [] 4 RX4 ro_4 (ct_g_Judged_isFinal hL hJ a30 x1 h4) (lw_V q2845 q2447 q2448 q130 q2449) nd_X4_isFinal rfl (le_fr hf rfl) (le_fr hlo rfl) rfl (Nat.le_of_ble_eq_true rfl) dX1_block_159 hk ht) s_dsp0)
      have hj170 : ∀ (y0 : Int32) (h33 : Hp), Sim id E (QMX E finI) h33 170 [] [.int y0] (g_FinalLinks_block_j170 y0 h33) := by
        intro y0 h33
        unfold g_FinalLinks_block_j170
        exact Sim.okR (s_iret C rfl dX1_block_170)
      refine s_if_eq C 169 dX1_block_162 (by decide) ?_ ?_
      · refine s_iconst C (0 : Int32) dX1_block_169 (by decide) ?_
        refine Sim.keep [] rfl ?_
        exact hj170 _ _
      · refine s_iconst C (1 : Int32) dX1_block_165 (by decide) ?_
        refine s_goto C 170 dX1_block_166 (by decide) ?_
        refine Sim.keep [] rfl ?_
        exact hj170 _ _
    · refine s_aload_n C dX1_block_171 0 rfl rfl ?_
      refine s_getR [1] C (fl1 ⟨fo_X1_48_1, rfl⟩) (pl_of e4 rfl) dX1_block_172 fun a34 => ?_
      refine s_getR [4] C (fl1 ⟨fo_X1_188_4, rfl⟩) (pl_of e4 rfl) dX1_block_175 fun a35 => ?_
      refine s_iload_n C dX1_block_178 1 rfl rfl ?_
      refine s_iald [200] C (fl1 rfl) (pl_of e4 rfl) dX1_block_179 fun a36 => ?_
      exact Sim.okR (s_iret C rfl dX1_block_180)
  have hj22 : ∀ (x0 : Nat) (x1 : Int32) (x2 : Int32) (h37 : Hp), Sim id E (QMX E finI) h37 22 [(0, vr x0), (1, .int x1), (2, .int x2)] [] (g_FinalLinks_block_j22 x0 x1 x2 h37) := by
    intro x0 x1 x2 h37
    unfold g_FinalLinks_block_j22
    refine s_iconst C (0 : Int32) dX1_block_22 (by decide) ?_
    exact hj23 _ _ _ _ _
  refine s_if_eq C 22 dX1_block_5 (by decide) ?_ ?_
  · exact hj22 _ _ _ _
  · refine s_iload_n C dX1_block_8 2 rfl rfl ?_
    refine s_iconst C (0 : Int32) dX1_block_9 (by decide) ?_
    refine s_bipush C (7 : Int32) dX1_block_10 (by decide) ?_
    refine c_S C 3 [] (ct_g_FinalLinks_isIn hL hJ x2 (0 : Int32) (7 : Int32) h2) (lw_S q2171 q1775 q107 q1776) nd_X1_isIn.2 rfl (le_fr hf rfl) (le_fr hlo rfl) rfl (Nat.le_of_ble_eq_true rfl) dX1_block_12 fun r38 h39 => ?_
    refine s_if_eq C 22 dX1_block_15 (by decide) ?_ ?_
    · exact hj22 _ _ _ _
    · refine s_iconst C (1 : Int32) dX1_block_18 (by decide) ?_
      refine s_goto C 23 dX1_block_19 (by decide) ?_
      exact hj23 _ _ _ _ _

def g_Reader_voter (x0 : Nat) (h : Hp) : Option (Except Nat Int32 × Hp) :=
  bx (dsp (tg h x0 % 500) none [(7, g_Reader_named x0 (0 : Int32) h), (15, g_Reader_named x0 (0 : Int32) h), (16, g_Reader_named x0 (0 : Int32) h)]) fun r1 h2 =>
  some (.ok r1, h2)
theorem ct_g_Reader_voter {G : Gx} {RL : Lv} {l : Launch} (hL : LvA G RL plA) (hJ : JK G RL l) (x0 : Nat) (h : Hp) : CtX G RL l yX7_voter (ws_ yX7_voter cX7_voter 1 (some .int)) 44 4090 finI [vr x0] h (g_Reader_voter x0 h) := by
  refine CtX.of (Pl := plA) [(0, vr x0)] (by decide) hL rfl (Nat.le_of_ble_eq_true rfl) ?_
  intro E C e6 hf hlo e1 e2 e3 e4 e5 e7
  subst e1; subst e2; subst e3
  replace C : Cx E cX7_voter (some .int) RX7 := C
  replace e6 : (eMe E).name = "voter" := e6
  unfold g_Reader_voter
  refine s_aload_n C dX7_voter_0 0 rfl rfl ?_
  refine s_iconst C (0 : Int32) dX7_voter_1 (by decide) ?_
  refine s_dkX 5 finI [] (fun _ _ => SimX.out C e7) (fun r1 h2 => ?_) (fun hx hk => s_dspX 7 (fun ht => x_P C 1 [] 7 "FinalLinks$ChainReader" ro_7 (ct_g_Reader_named hL hJ x0 (0 : Int32) h) (lw_meth q2077) q148 q2074 q2076 (List.mem_of_getElem? (i := 1) rfl) nd_X7_named.2 rfl (le_fr hf rfl) (le_fr hlo rfl) rfl (Nat.le_of_ble_eq_true rfl) dX7_voter_2 hx hk ht) (s_dspX 15 (fun ht => x_P C 1 [] 15 "FinalLinks$BookReader" ro_15 (ct_g_Reader_named hL hJ x0 (0 : Int32) h) (lw_meth q2077) q148 q2074 q2076 (List.mem_of_getElem? (i := 3) rfl) nd_X7_named.2 rfl (le_fr hf rfl) (le_fr hlo rfl) rfl (Nat.le_of_ble_eq_true rfl) dX7_voter_2 hx hk ht) (s_dspX 16 (fun ht => x_P C 1 [] 16 "FinalLinks$SentenceReader" ro_16 (ct_g_Reader_named hL hJ x0 (0 : Int32) h) (lw_meth q2077) q148 q2074 q2076 (List.mem_of_getElem? (i := 5) rfl) nd_X7_named.2 rfl (le_fr hf rfl) (le_fr hlo rfl) rfl (Nat.le_of_ble_eq_true rfl) dX7_voter_2 hx hk ht) s_dspX0)))
  exact Sim.okR (s_iret C rfl dX7_voter_5)

def g_BookReader_act_j129 (y0 : Nat) (h18 : Hp) : Option (Except Nat Nat × Hp) :=
  some (.ok y0, h18)
def g_BookReader_act_j87 (x0 : Nat) (x2 : Int32) (h13 : Hp) : Option (Except Nat Nat × Hp) :=
  bx (dsp (tg h13 x0 % 500) none [(15, g_Reader_voter x0 h13)]) fun r14 h15 =>
  bx (dsp (tg h15 x0 % 500) none [(15, g_Reader_block x0 h15)]) fun r16 h17 =>
  if x2 = 0 then
    bn (newO 11 3 h17) fun o19 h20 =>
    bx (dsp (tg h20 x0 % 500) none [(15, g_Reader_block x0 h20)]) fun r21 h22 =>
    bn (g_Casts_init o19 r14 r16 r21 h22) fun _ h23 =>
    g_BookReader_act_j129 o19 h23
  else
    bn (newO 13 2 h17) fun o24 h25 =>
    bn (g_Looks_init o24 r14 r16 h25) fun _ h26 =>
    g_BookReader_act_j129 o24 h26
def g_BookReader_act_j59 (x0 : Nat) (x1 : Int32) (x2 : Int32) (y0 : Nat) (y1 : Int32) (h10 : Hp) : Option (Except Nat Nat × Hp) :=
  bx (dsp (tg h10 y0 % 500) none [(15, g_Reader_need y0 y1 (4 : Int32) h10)]) fun _ h11 =>
  bn (dsp (tg h11 x0 % 500) none [(15, g_Reader_go x0 h11)]) fun _ h12 =>
  if x1 = 0 then
    if x2 = 0 then
      bn (newO 14 1 h12) fun o27 h28 =>
      bx (dsp (tg h28 x0 % 500) none [(15, g_Reader_block x0 h28)]) fun r29 h30 =>
      bn (g_Grows_init o27 r29 h30) fun _ h31 =>
      some (.ok o27, h31)
    else
      g_BookReader_act_j87 x0 x2 h12
  else
    g_BookReader_act_j87 x0 x2 h12
def g_BookReader_act_j37 (x0 : Nat) (x1 : Int32) (x2 : Int32) (y0 : Nat) (y1 : Int32) (h5 : Hp) : Option (Except Nat Nat × Hp) :=
  bx (dsp (tg h5 y0 % 500) none [(15, g_Reader_need y0 y1 (1 : Int32) h5)]) fun _ h6 =>
  (getR [15] 10 x0 h6).bind fun a7 =>
  bn (dsp (tg h6 a7 % 500) none [(25, oAlSize a7 h6)]) fun r8 h9 =>
  if (40 : Int32) ≤ r8 then
    g_BookReader_act_j59 x0 x1 x2 x0 (0 : Int32) h9
  else
    g_BookReader_act_j59 x0 x1 x2 x0 (1 : Int32) h9
def g_BookReader_act_j32 (x0 : Nat) (x1 : Int32) (x2 : Int32) (y0 : Nat) (h32 : Hp) : Option (Except Nat Nat × Hp) :=
  g_BookReader_act_j37 x0 x1 x2 y0 (1 : Int32) h32
def g_BookReader_act (x0 : Nat) (h : Hp) : Option (Except Nat Nat × Hp) :=
  bn (dsp (tg h x0 % 500) none [(15, g_Reader_is x0 20 h)]) fun r1 h2 =>
  bn (dsp (tg h2 x0 % 500) none [(15, g_Reader_is x0 21 h2)]) fun r3 h4 =>
  if r1 = 0 then
    if r3 = 0 then
      bn (dsp (tg h4 x0 % 500) none [(15, g_Reader_is x0 22 h4)]) fun r33 h34 =>
      if r33 = 0 then
        g_BookReader_act_j37 x0 r1 r3 x0 (0 : Int32) h34
      else
        g_BookReader_act_j32 x0 r1 r3 x0 h34
    else
      g_BookReader_act_j32 x0 r1 r3 x0 h4
  else
    g_BookReader_act_j32 x0 r1 r3 x0 h4
theorem ct_g_BookReader_act {G : Gx} {RL : Lv} {l : Launch} (hL : LvA G RL plA) (hJ : JK G RL l) (x0 : Nat) (h : Hp) : CtX G RL l yX17_act (ws_ yX17_act cX17_act 5 (some (.object "FinalLinks$Act"))) 45 4110 finR [vr x0] h (g_BookReader_act x0 h) := by
  refine CtX.of (Pl := plA) [(0, vr x0)] (by decide) hL rfl (Nat.le_of_ble_eq_true rfl) ?_
  intro E C e6 hf hlo e1 e2 e3 e4 e5 e7
  subst e1; subst e2; subst e3
  replace C : Cx E cX17_act (some (.object "FinalLinks$Act")) RX17 := C
  replace e6 : (eMe E).name = "act" := e6
  unfold g_BookReader_act
  refine s_aload_n C dX17_act_0 0 rfl rfl ?_
  refine s_ldcS C (List.mem_of_getElem? (i := 11) rfl) (by decide) (by decide) dX17_act_1 ?_
  refine s_dk 6 finI [] (fun r1 h2 => ?_) (fun hk => s_dsp 15 (fun ht => c_U C 1 [] 15 RX17 _ ro_15 (ct_g_Reader_is hL hJ x0 20 h) (lw_U q2579 q2580 q2581 q1730 q148 q1731) rfl nd_X7_is.2 rfl (le_fr hf rfl) (le_fr hlo rfl) rfl (Nat.le_of_ble_eq_true rfl) dX17_act_3 hk ht) s_dsp0)
  refine s_istore_n (la' := [(1, .int r1), (0, vr x0)]) C 1 dX17_act_6 rfl (lt_nl e5 rfl) rfl ?_
  refine s_aload_n C dX17_act_7 1 rfl rfl ?_
  refine s_ldcS C (List.mem_of_getElem? (i := 12) rfl) (by decide) (by decide) dX17_act_8 ?_
  refine s_dk 13 finI [] (fun r3 h4 => ?_) (fun hk => s_dsp 15 (fun ht => c_U C 1 [] 15 RX17 _ ro_15 (ct_g_Reader_is hL hJ x0 21 h2) (lw_U q2579 q2580 q2581 q1730 q148 q1731) rfl nd_X7_is.2 rfl (le_fr hf rfl) (le_fr hlo rfl) rfl (Nat.le_of_ble_eq_true rfl) dX17_act_10 hk ht) s_dsp0)
  refine s_istore_n (la' := [(2, .int r3), (1, .int r1), (0, vr x0)]) C 2 dX17_act_13 rfl (lt_nl e5 rfl) rfl ?_
  refine s_aload_n C dX17_act_14 2 rfl rfl ?_
  refine s_iload_n C dX17_act_15 1 rfl rfl ?_
  have hj37 : ∀ (x0 : Nat) (x1 : Int32) (x2 : Int32) (y0 : Nat) (y1 : Int32) (h5 : Hp), Sim id E (QMX E finR) h5 37 [(0, vr x0), (1, .int x1), (2, .int x2)] [.int y1, vr y0] (g_BookReader_act_j37 x0 x1 x2 y0 y1 h5) := by
    intro x0 x1 x2 y0 y1 h5
    unfold g_BookReader_act_j37
    refine s_iconst C (1 : Int32) dX17_act_37 (by decide) ?_
    refine s_dkX 41 finV [] (fun _ _ => SimX.out C e7) (fun _ h6 => ?_) (fun hx hk => s_dspX 15 (fun ht => x_U C 2 [] 15 RX17 _ ro_15 (ct_g_Reader_need hL hJ y0 y1 (1 : Int32) h5) (lw_U q2584 q2585 q2586 q1737 q148 q1738) rfl nd_X7_need.2 rfl (le_fr hf rfl) (le_fr hlo rfl) rfl (Nat.le_of_ble_eq_true rfl) dX17_act_38 hx hk ht) s_dspX0)
    refine s_aload_n C dX17_act_41 0 rfl rfl ?_
    refine s_aload_n C dX17_act_42 0 rfl rfl ?_
    refine s_getR [15] C (fl1 ⟨fo_X17_14_15, rfl⟩) (pl_of e4 rfl) dX17_act_43 fun a7 => ?_
    refine s_dk 49 finI [vr x0] (fun r8 h9 => ?_) (fun hk => s_dsp 25 (fun ht => c_V C 0 [vr x0] 25 RJ2 ro_25 (jk_15 hJ a7 h6) (lw_V q2587 q731 q732 q111 q733) nd_J2_size rfl (le_fr hf rfl) (le_fr hlo rfl) rfl (Nat.le_of_ble_eq_true rfl) dX17_act_46 hk ht) s_dsp0)
    refine s_bipush C (40 : Int32) dX17_act_49 (by decide) ?_
    have hj59 : ∀ (x0 : Nat) (x1 : Int32) (x2 : Int32) (y0 : Nat) (y1 : Int32) (h10 : Hp), Sim id E (QMX E finR) h10 59 [(0, vr x0), (1, .int x1), (2, .int x2)] [.int y1, vr y0] (g_BookReader_act_j59 x0 x1 x2 y0 y1 h10) := by
      intro x0 x1 x2 y0 y1 h10
      unfold g_BookReader_act_j59
      refine s_iconst C (4 : Int32) dX17_act_59 (by decide) ?_
      refine s_dkX 63 finV [] (fun _ _ => SimX.out C e7) (fun _ h11 => ?_) (fun hx hk => s_dspX 15 (fun ht => x_U C 2 [] 15 RX17 _ ro_15 (ct_g_Reader_need hL hJ y0 y1 (4 : Int32) h10) (lw_U q2584 q2585 q2586 q1737 q148 q1738) rfl nd_X7_need.2 rfl (le_fr hf rfl) (le_fr hlo rfl) rfl (Nat.le_of_ble_eq_true rfl) dX17_act_60 hx hk ht) s_dspX0)
      refine s_aload_n C dX17_act_63 0 rfl rfl ?_
      refine s_dk 67 finV [] (fun _ h12 => ?_) (fun hk => s_dsp 15 (fun ht => c_U C 0 [] 15 RX17 _ ro_15 (ct_g_Reader_go hL hJ x0 h11) (lw_U q2571 q2572 q2573 q1560 q148 q1561) rfl nd_X7_go.2 rfl (le_fr hf rfl) (le_fr hlo rfl) rfl (Nat.le_of_ble_eq_true rfl) dX17_act_64 hk ht) s_dsp0)
      refine s_iload_n C dX17_act_67 1 rfl rfl ?_
      have hj87 : ∀ (x0 : Nat) (x2 : Int32) (h13 : Hp), Sim id E (QMX E finR) h13 87 [(0, vr x0), (2, .int x2)] [] (g_BookReader_act_j87 x0 x2 h13) := by
        intro x0 x2 h13
        unfold g_BookReader_act_j87
        refine s_aload_n C dX17_act_87 0 rfl rfl ?_
        refine s_dkX 91 finI [] (fun _ _ => SimX.out C e7) (fun r14 h15 => ?_) (fun hx hk => s_dspX 15 (fun ht => x_U C 0 [] 15 RX17 _ ro_15 (ct_g_Reader_voter hL hJ x0 h13) (lw_U q2593 q2594 q2595 q2093 q148 q2094) rfl nd_X7_voter.2 rfl (le_fr hf rfl) (le_fr hlo rfl) rfl (Nat.le_of_ble_eq_true rfl) dX17_act_88 hx hk ht) s_dspX0)
        refine s_istore_n (la' := [(3, .int r14), (0, vr x0), (2, .int x2)]) C 3 dX17_act_91 rfl (lt_nl e5 rfl) rfl ?_
        refine s_aload_n C dX17_act_92 1 rfl rfl ?_
        refine s_dkX 96 finI [] (fun _ _ => SimX.out C e7) (fun r16 h17 => ?_) (fun hx hk => s_dspX 15 (fun ht => x_U C 0 [] 15 RX17 _ ro_15 (ct_g_Reader_block hL hJ x0 h15) (lw_U q2589 q2590 q2591 q2072 q148 q2073) rfl nd_X7_block.2 rfl (le_fr hf rfl) (le_fr hlo rfl) rfl (Nat.le_of_ble_eq_true rfl) dX17_act_93 hx hk ht) s_dspX0)
        refine s_istore (la' := [(4, .int r16), (3, .int r14), (0, vr x0), (2, .int x2)]) C dX17_act_96 (lt_nl e5 rfl) rfl ?_
        refine s_iload_n C dX17_act_98 3 rfl rfl ?_
        have hj129 : ∀ (y0 : Nat) (h18 : Hp), Sim id E (QMX E finR) h18 129 [] [vr y0] (g_BookReader_act_j129 y0 h18) := by
          intro y0 h18
          unfold g_BookReader_act_j129
          exact Sim.okR (s_aret C (Or.inl ⟨_, rfl⟩) rfl dX17_act_129)
        refine s_if_eq C 115 dX17_act_99 (by decide) ?_ ?_
        · refine s_newO 11 3 C no_X17_72 (pl_of1 e4 rfl) dX17_act_115 fun o19 h20 zo19 => ?_
          refine s_dup C dX17_act_118 rfl ?_
          refine s_iload_n C dX17_act_119 1 rfl rfl ?_
          refine s_iload C dX17_act_120 0 rfl ?_
          refine s_aload_n C dX17_act_122 2 rfl rfl ?_
          refine s_dkX 126 finI [.int r16, .int r14, vr o19, vr o19] (fun _ _ => SimX.out C e7) (fun r21 h22 => ?_) (fun hx hk => s_dspX 15 (fun ht => x_U C 0 [.int r16, .int r14, vr o19, vr o19] 15 RX17 _ ro_15 (ct_g_Reader_block hL hJ x0 h20) (lw_U q2589 q2590 q2591 q2072 q148 q2073) rfl nd_X7_block.2 rfl (le_fr hf rfl) (le_fr hlo rfl) rfl (Nat.le_of_ble_eq_true rfl) dX17_act_123 hx hk ht) s_dspX0)
          refine c_I C 3 [vr o19] zo19 (ct_g_Casts_init hL hJ o19 r14 r16 r21 h22) (lw_meth q2205) q159 q2599 q2204 rfl nd_X13_init.2 rfl (le_fr hf rfl) (le_fr hlo rfl) rfl (Nat.le_of_ble_eq_true rfl) dX17_act_126 fun _ h23 => ?_
          refine Sim.keep [] rfl ?_
          exact hj129 _ _
        · refine s_newO 13 2 C no_X17_67 (pl_of1 e4 rfl) dX17_act_102 fun o24 h25 zo24 => ?_
          refine s_dup C dX17_act_105 rfl ?_
          refine s_iload_n C dX17_act_106 1 rfl rfl ?_
          refine s_iload C dX17_act_107 0 rfl ?_
          refine c_I C 2 [vr o24] zo24 (ct_g_Looks_init hL hJ o24 r14 r16 h25) (lw_meth q2342) q161 q2597 q2341 rfl nd_X15_init.2 rfl (le_fr hf rfl) (le_fr hlo rfl) rfl (Nat.le_of_ble_eq_true rfl) dX17_act_109 fun _ h26 => ?_
          refine s_goto C 129 dX17_act_112 (by decide) ?_
          refine Sim.keep [] rfl ?_
          exact hj129 _ _
      refine s_if_ne C 87 dX17_act_68 (by decide) ?_ ?_
      · refine Sim.keep [0, 2] rfl ?_
        exact hj87 _ _ _
      · refine s_iload_n C dX17_act_71 2 rfl rfl ?_
        refine s_if_ne C 87 dX17_act_72 (by decide) ?_ ?_
        · refine Sim.keep [0, 2] rfl ?_
          exact hj87 _ _ _
        · refine s_newO 14 1 C no_X17_56 (pl_of1 e4 rfl) dX17_act_75 fun o27 h28 zo27 => ?_
          refine s_dup C dX17_act_78 rfl ?_
          refine s_aload_n C dX17_act_79 0 rfl rfl ?_
          refine s_dkX 83 finI [vr o27, vr o27] (fun _ _ => SimX.out C e7) (fun r29 h30 => ?_) (fun hx hk => s_dspX 15 (fun ht => x_U C 0 [vr o27, vr o27] 15 RX17 _ ro_15 (ct_g_Reader_block hL hJ x0 h28) (lw_U q2589 q2590 q2591 q2072 q148 q2073) rfl nd_X7_block.2 rfl (le_fr hf rfl) (le_fr hlo rfl) rfl (Nat.le_of_ble_eq_true rfl) dX17_act_80 hx hk ht) s_dspX0)
          refine c_I C 1 [vr o27] zo27 (ct_g_Grows_init hL hJ o27 r29 h30) (lw_meth q2359) q162 q2592 q2358 rfl nd_X16_init.2 rfl (le_fr hf rfl) (le_fr hlo rfl) rfl (Nat.le_of_ble_eq_true rfl) dX17_act_83 fun _ h31 => ?_
          exact Sim.okR (s_aret C (Or.inl ⟨_, rfl⟩) rfl dX17_act_86)
    refine s_icmp_ge C 58 dX17_act_51 (by decide) ?_ ?_
    · refine s_iconst C (0 : Int32) dX17_act_58 (by decide) ?_
      exact hj59 _ _ _ _ _ _
    · refine s_iconst C (1 : Int32) dX17_act_54 (by decide) ?_
      refine s_goto C 59 dX17_act_55 (by decide) ?_
      exact hj59 _ _ _ _ _ _
  have hj32 : ∀ (x0 : Nat) (x1 : Int32) (x2 : Int32) (y0 : Nat) (h32 : Hp), Sim id E (QMX E finR) h32 32 [(0, vr x0), (1, .int x1), (2, .int x2)] [vr y0] (g_BookReader_act_j32 x0 x1 x2 y0 h32) := by
    intro x0 x1 x2 y0 h32
    unfold g_BookReader_act_j32
    refine s_iconst C (1 : Int32) dX17_act_32 (by decide) ?_
    refine s_goto C 37 dX17_act_33 (by decide) ?_
    exact hj37 _ _ _ _ _ _
  refine s_if_ne C 32 dX17_act_16 (by decide) ?_ ?_
  · refine Sim.keep [2, 1, 0] rfl ?_
    exact hj32 _ _ _ _ _
  · refine s_iload_n C dX17_act_19 0 rfl rfl ?_
    refine s_if_ne C 32 dX17_act_20 (by decide) ?_ ?_
    · refine Sim.keep [2, 1, 0] rfl ?_
      exact hj32 _ _ _ _ _
    · refine s_aload_n C dX17_act_23 2 rfl rfl ?_
      refine s_ldcS C (List.mem_of_getElem? (i := 13) rfl) (by decide) (by decide) dX17_act_24 ?_
      refine s_dk 29 finI [vr x0] (fun r33 h34 => ?_) (fun hk => s_dsp 15 (fun ht => c_U C 1 [vr x0] 15 RX17 _ ro_15 (ct_g_Reader_is hL hJ x0 22 h4) (lw_U q2579 q2580 q2581 q1730 q148 q1731) rfl nd_X7_is.2 rfl (le_fr hf rfl) (le_fr hlo rfl) rfl (Nat.le_of_ble_eq_true rfl) dX17_act_26 hk ht) s_dsp0)
      refine s_if_eq C 36 dX17_act_29 (by decide) ?_ ?_
      · refine s_iconst C (0 : Int32) dX17_act_36 (by decide) ?_
        refine Sim.keep [2, 1, 0] rfl ?_
        exact hj37 _ _ _ _ _ _
      · refine Sim.keep [2, 1, 0] rfl ?_
        exact hj32 _ _ _ _ _

def g_Reader_end_j14 (x0 : Nat) (y0 : Nat) (y1 : Int32) (h2 : Hp) : Option (Except Nat Unit × Hp) :=
  bx (dsp (tg h2 y0 % 500) none [(7, g_Reader_need y0 y1 (1 : Int32) h2), (15, g_Reader_need y0 y1 (1 : Int32) h2), (16, g_Reader_need y0 y1 (1 : Int32) h2)]) fun _ h3 =>
  bn (dsp (tg h3 x0 % 500) none [(7, g_Reader_go x0 h3), (15, g_Reader_go x0 h3), (16, g_Reader_go x0 h3)]) fun _ h4 =>
  some (.ok (), h4)
def g_Reader_end (x0 : Nat) (h : Hp) : Option (Except Nat Unit × Hp) :=
  (getI [7, 15, 16] 5 x0 h).bind fun a1 =>
  if a1 = (4 : Int32) then
    g_Reader_end_j14 x0 x0 (1 : Int32) h
  else
    g_Reader_end_j14 x0 x0 (0 : Int32) h
theorem ct_g_Reader_end {G : Gx} {RL : Lv} {l : Launch} (hL : LvA G RL plA) (hJ : JK G RL l) (x0 : Nat) (h : Hp) : CtX G RL l yX7_end (ws_ yX7_end cX7_end 1 none) 43 4068 finV [vr x0] h (g_Reader_end x0 h) := by
  refine CtX.of (Pl := plA) [(0, vr x0)] (by decide) hL rfl (Nat.le_of_ble_eq_true rfl) ?_
  intro E C e6 hf hlo e1 e2 e3 e4 e5 e7
  subst e1; subst e2; subst e3
  replace C : Cx E cX7_end none RX7 := C
  replace e6 : (eMe E).name = "end" := e6
  unfold g_Reader_end
  refine s_aload_n C dX7_end_0 0 rfl rfl ?_
  refine s_aload_n C dX7_end_1 0 rfl rfl ?_
  refine s_getI [7, 15, 16] C (flc ⟨fo_X7_42_7, rfl⟩ (flc ⟨fo_X7_42_15, rfl⟩ (fl1 ⟨fo_X7_42_16, rfl⟩))) (pl_of e4 rfl) dX7_end_2 fun a1 => ?_
  refine s_iconst C (4 : Int32) dX7_end_5 (by decide) ?_
  have hj14 : ∀ (x0 : Nat) (y0 : Nat) (y1 : Int32) (h2 : Hp), Sim id E (QMX E finV) h2 14 [(0, vr x0)] [.int y1, vr y0] (g_Reader_end_j14 x0 y0 y1 h2) := by
    intro x0 y0 y1 h2
    unfold g_Reader_end_j14
    refine s_iconst C (1 : Int32) dX7_end_14 (by decide) ?_
    refine s_dkX 18 finV [] (fun _ _ => SimX.out C e7) (fun _ h3 => ?_) (fun hx hk => s_dspX 7 (fun ht => x_U C 2 [] 7 RX8 _ ro_7 (ct_g_Reader_need hL hJ y0 y1 (1 : Int32) h2) (lw_U q1773 q3554 q3556 q1737 q148 q1738) rfl nd_X7_need.2 rfl (le_fr hf rfl) (le_fr hlo rfl) rfl (Nat.le_of_ble_eq_true rfl) dX7_end_15 hx hk ht) (s_dspX 15 (fun ht => x_U C 2 [] 15 RX17 _ ro_15 (ct_g_Reader_need hL hJ y0 y1 (1 : Int32) h2) (lw_U q1773 q3554 q3555 q1737 q148 q1738) rfl nd_X7_need.2 rfl (le_fr hf rfl) (le_fr hlo rfl) rfl (Nat.le_of_ble_eq_true rfl) dX7_end_15 hx hk ht) (s_dspX 16 (fun ht => x_U C 2 [] 16 RX18 _ ro_16 (ct_g_Reader_need hL hJ y0 y1 (1 : Int32) h2) (lw_U q1773 q3554 q3557 q1737 q148 q1738) rfl nd_X7_need.2 rfl (le_fr hf rfl) (le_fr hlo rfl) rfl (Nat.le_of_ble_eq_true rfl) dX7_end_15 hx hk ht) s_dspX0)))
    refine s_aload_n C dX7_end_18 0 rfl rfl ?_
    refine s_dk 22 finV [] (fun _ h4 => ?_) (fun hk => s_dsp 7 (fun ht => c_U C 0 [] 7 RX8 _ ro_7 (ct_g_Reader_go hL hJ x0 h3) (lw_U q1777 q3558 q3560 q1560 q148 q1561) rfl nd_X7_go.2 rfl (le_fr hf rfl) (le_fr hlo rfl) rfl (Nat.le_of_ble_eq_true rfl) dX7_end_19 hk ht) (s_dsp 15 (fun ht => c_U C 0 [] 15 RX17 _ ro_15 (ct_g_Reader_go hL hJ x0 h3) (lw_U q1777 q3558 q3559 q1560 q148 q1561) rfl nd_X7_go.2 rfl (le_fr hf rfl) (le_fr hlo rfl) rfl (Nat.le_of_ble_eq_true rfl) dX7_end_19 hk ht) (s_dsp 16 (fun ht => c_U C 0 [] 16 RX18 _ ro_16 (ct_g_Reader_go hL hJ x0 h3) (lw_U q1777 q3558 q3561 q1560 q148 q1561) rfl nd_X7_go.2 rfl (le_fr hf rfl) (le_fr hlo rfl) rfl (Nat.le_of_ble_eq_true rfl) dX7_end_19 hk ht) s_dsp0)))
    exact Sim.okR (s_vret C rfl dX7_end_22)
  refine s_icmp_ne C 13 dX7_end_6 (by decide) ?_ ?_
  · refine s_iconst C (0 : Int32) dX7_end_13 (by decide) ?_
    exact hj14 _ _ _ _
  · refine s_iconst C (1 : Int32) dX7_end_9 (by decide) ?_
    refine s_goto C 14 dX7_end_10 (by decide) ?_
    exact hj14 _ _ _ _

def g_BookReader_read_L4 (x0 : Nat) : Unit → Hp → Option (Except Nat Nat × Hp) :=
  lp FU fun rec4 v4 h1 =>
    (getI [7, 15, 16] 5 x0 h1).bind fun a2 =>
    if a2 = 0 then
      (getR [15] 10 x0 h1).bind fun a3 =>
      some (.ok a3, h1)
    else
      (getR [15] 10 x0 h1).bind fun a4 =>
      bx (dsp (tg h1 x0 % 500) none [(15, g_BookReader_act x0 h1)]) fun r5 h6 =>
      bn (dsp (tg h6 a4 % 500) none [(25, oAlAdd a4 r5 h6)]) fun r7 h8 =>
      bx (dsp (tg h8 x0 % 500) none [(15, g_Reader_end x0 h8)]) fun _ h9 =>
      rec4 () h9
def g_BookReader_read (x0 : Nat) (h : Hp) : Option (Except Nat Nat × Hp) :=
  bn (dsp (tg h x0 % 500) none [(15, g_Reader_go x0 h)]) fun _ h10 =>
  g_BookReader_read_L4 x0 () h10
theorem ct_g_BookReader_read {G : Gx} {RL : Lv} {l : Launch} (hL : LvA G RL plA) (hJ : JK G RL l) (x0 : Nat) (h : Hp) : CtX G RL l yX17_read (ws_ yX17_read cX17_read 1 (some (.object "java/util/ArrayList"))) 46 4134 finR [vr x0] h (g_BookReader_read x0 h) := by
  refine CtX.of (Pl := plA) [(0, vr x0)] (by decide) hL rfl (Nat.le_of_ble_eq_true rfl) ?_
  intro E C e6 hf hlo e1 e2 e3 e4 e5 e7
  subst e1; subst e2; subst e3
  replace C : Cx E cX17_read (some (.object "java/util/ArrayList")) RX17 := C
  replace e6 : (eMe E).name = "read" := e6
  unfold g_BookReader_read
  refine s_aload_n C dX17_read_0 0 rfl rfl ?_
  have hL4 : ∀ (x0 : Nat) (v4 : Unit) (h1 : Hp), Sim id E (QMX E finR) h1 4 [(0, vr x0)] [] (g_BookReader_read_L4 x0 v4 h1) := by
    intro x0 v4 h1
    refine Sim.loop (fun v4 => [(0, vr x0)]) (fun _ => []) (fun rec4 hr4 v4 h1 => ?_) FU v4 h1
    refine s_aload_n C dX17_read_4 0 rfl rfl ?_
    refine s_getI [7, 15, 16] C (flc ⟨fo_X17_23_7, rfl⟩ (flc ⟨fo_X17_23_15, rfl⟩ (fl1 ⟨fo_X17_23_16, rfl⟩))) (pl_of e4 rfl) dX17_read_5 fun a2 => ?_
    refine s_if_eq C 30 dX17_read_8 (by decide) ?_ ?_
    · refine s_aload_n C dX17_read_30 0 rfl rfl ?_
      refine s_getR [15] C (fl1 ⟨fo_X17_14_15, rfl⟩) (pl_of e4 rfl) dX17_read_31 fun a3 => ?_
      exact Sim.okR (s_aret C (Or.inl ⟨_, rfl⟩) rfl dX17_read_34)
    · refine s_aload_n C dX17_read_11 0 rfl rfl ?_
      refine s_getR [15] C (fl1 ⟨fo_X17_14_15, rfl⟩) (pl_of e4 rfl) dX17_read_12 fun a4 => ?_
      refine s_aload_n C dX17_read_15 0 rfl rfl ?_
      refine s_dkX 19 finR [vr a4] (fun _ _ => SimX.out C e7) (fun r5 h6 => ?_) (fun hx hk => s_dspX 15 (fun ht => x_V C 0 [vr a4] 15 RX17 ro_15 (ct_g_BookReader_act hL hJ x0 h1) (lw_V q2574 q2576 qs31 q163 q2577) nd_X17_act rfl (le_fr hf rfl) (le_fr hlo rfl) rfl (Nat.le_of_ble_eq_true rfl) dX17_read_16 hx hk ht) s_dspX0)
      refine s_dk 22 finI [] (fun r7 h8 => ?_) (fun hk => s_dsp 25 (fun ht => c_V C 1 [] 25 RJ2 ro_25 (jk_12 hJ a4 r5 h6) (lw_V q2600 q570 q571 q111 q572) nd_J2_add rfl (le_fr hf rfl) (le_fr hlo rfl) rfl (Nat.le_of_ble_eq_true rfl) dX17_read_19 hk ht) s_dsp0)
      refine s_pop C dX17_read_22 rfl ?_
      refine s_aload_n C dX17_read_23 0 rfl rfl ?_
      refine s_dkX 27 finV [] (fun _ _ => SimX.out C e7) (fun _ h9 => ?_) (fun hx hk => s_dspX 15 (fun ht => x_U C 0 [] 15 RX17 _ ro_15 (ct_g_Reader_end hL hJ x0 h8) (lw_U q2601 q2602 q2603 q2125 q148 q2126) rfl nd_X7_end.2 rfl (le_fr hf rfl) (le_fr hlo rfl) rfl (Nat.le_of_ble_eq_true rfl) dX17_read_24 hx hk ht) s_dspX0)
      refine s_goto C 4 dX17_read_27 (by decide) ?_
      exact hr4 _ _
  refine s_dk 4 finV [] (fun _ h10 => ?_) (fun hk => s_dsp 15 (fun ht => c_U C 0 [] 15 RX17 _ ro_15 (ct_g_Reader_go hL hJ x0 h) (lw_U q2571 q2572 q2573 q1560 q148 q1561) rfl nd_X7_go.2 rfl (le_fr hf rfl) (le_fr hlo rfl) rfl (Nat.le_of_ble_eq_true rfl) dX17_read_1 hk ht) s_dsp0)
  exact hL4 _ _ _
