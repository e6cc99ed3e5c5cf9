/-! THE CLASSES' METHODS (printed by hgenapp.py): functions on a heap where the library's things are single cells; contracts -/
set_option maxRecDepth 100000
def g_FinalLinks_book_j53 (y0 : Nat) (y1 : Nat) (y2 : Int32) (h18 : Hp) : Option (Int32 × Hp) :=
  bn (dsp (tg h18 y0 % 500) none [(1, g_FinalLinks_lived y0 y1 y2 h18)]) fun r19 h20 =>
  some (r19, h20)
def g_FinalLinks_book (x0 : Nat) (x1 : Int32) (h : Hp) : Option (Int32 × Hp) :=
  bn (g_FinalLinks_isIn x1 (0 : Int32) (1 : Int32) h) fun r1 h2 =>
  if r1 = 0 then
    some ((-1000 : Int32), h2)
  else
    bn (dsp (tg h2 x0 % 500) none [(1, g_FinalLinks_takeAll x0 h2)]) fun r3 h4 =>
    (putI [1] 0 2 x0 (0 : Int32) h4).bind fun h5 =>
    bn (newO 15 11 h5) fun o6 h7 =>
    (getR [1] 0 x0 h7).bind fun a8 =>
    (getR [1] 3 x0 h7).bind fun a9 =>
    bn (g_BookReader_init o6 a8 r3 a9 h7) fun _ h10 =>
    bh (dsp (tg h10 o6 % 500) none [(15, g_BookReader_read o6 h10)]) (fun q13 h14 => if q13 = 0 then none else
      (getI [8] 6 q13 h14).bind fun a15 =>
      (putI [1] 0 2 x0 a15 h14).bind fun h16 =>
      (getI [8] 7 q13 h16).bind fun a17 =>
      some (((-2 : Int32) - a17), h16)) fun r11 h12 =>
    if x1 = (1 : Int32) then
      g_FinalLinks_book_j53 x0 r11 (1 : Int32) h12
    else
      g_FinalLinks_book_j53 x0 r11 (0 : Int32) h12
theorem ct_g_FinalLinks_book {G : Gx} {RL : Lv} {l : Launch} (hL : LvA G RL plA) (hJ : JK G RL l) (x0 : Nat) (x1 : Int32) (h : Hp) : Ct id G RL l yX1_book (wsW_ yX1_book cX1_book 4 (some .int) [(23, 56, 57, 116)]) 50 4222 finI [vr x0, .int x1] h (g_FinalLinks_book x0 x1 h) := by
  refine Ct.ofH (Pl := plA) [(0, vr x0), (1, .int x1)] (by decide) hL rfl (Nat.le_of_ble_eq_true rfl) ?_
  intro E C e6 hf hlo e1 e2 e3 e4 e5 e7
  subst e1; subst e2; subst e3
  replace C : Cx E cX1_book (some .int) RX1 := C
  replace e6 : (eMe E).name = "book" := e6
  unfold g_FinalLinks_book
  refine s_iload_n C dX1_book_0 1 rfl rfl ?_
  refine s_iconst C (0 : Int32) dX1_book_1 (by decide) ?_
  refine s_iconst C (1 : Int32) dX1_book_2 (by decide) ?_
  refine c_S C 3 [] (ct_g_FinalLinks_isIn hL hJ x1 (0 : Int32) (1 : Int32) h) (lw_S q2171 q1775 q107 q1776) nd_X1_isIn.2 rfl (le_fr hf rfl) (le_fr hlo rfl) rfl (Nat.le_of_ble_eq_true rfl) dX1_book_3 fun r1 h2 => ?_
  refine s_if_ne C 13 dX1_book_6 (by decide) ?_ ?_
  · refine s_aload_n C dX1_book_13 0 rfl rfl ?_
    refine s_dk 17 finI [] (fun r3 h4 => ?_) (fun hk => s_dsp 1 (fun ht => c_V C 0 [] 1 RX1 ro_1 (ct_g_FinalLinks_takeAll hL hJ x0 h2) (lw_V q1493 q1495 qs14 q107 q1496) nd_X1_takeAll rfl (le_fr hf rfl) (le_fr hlo rfl) rfl (Nat.le_of_ble_eq_true rfl) dX1_book_14 hk ht) s_dsp0)
    refine s_istore_n (la' := [(2, .int r3), (0, vr x0), (1, .int x1)]) C 2 dX1_book_17 rfl (lt_nl e5 rfl) rfl ?_
    refine s_aload_n C dX1_book_18 1 rfl rfl ?_
    refine s_iconst C (0 : Int32) dX1_book_19 (by decide) ?_
    refine s_putI [1] 0 C (by decide) (by decide) (fl1 ⟨⟨by decide, fo_X1_94_1, rfl⟩, rfl⟩) (pl_of e4 rfl) (fl1 (Or.inl rfl)) dX1_book_20 fun h5 => ?_
    refine s_aload_n C dX1_book_23 1 rfl rfl ?_
    refine s_newO 15 11 C no_X1_414 (pl_of1 e4 rfl) dX1_book_24 fun o6 h7 zo6 => ?_
    refine s_dup C dX1_book_27 rfl ?_
    refine s_aload_n C dX1_book_28 1 rfl rfl ?_
    refine s_getR [1] C (fl1 ⟨fo_X1_16_1, rfl⟩) (pl_of e4 rfl) dX1_book_29 fun a8 => ?_
    refine s_iload_n C dX1_book_32 0 rfl rfl ?_
    refine s_aload_n C dX1_book_33 1 rfl rfl ?_
    refine s_getR [1] C (fl1 ⟨fo_X1_23_1, rfl⟩) (pl_of e4 rfl) dX1_book_34 fun a9 => ?_
    refine c_I C 3 [vr o6, vr x0] zo6 (ct_g_BookReader_init hL hJ o6 a8 r3 a9 h7) (lw_meth q2549) q163 q2547 q2548 rfl nd_X17_init.2 rfl (le_fr hf rfl) (le_fr hlo rfl) rfl (Nat.le_of_ble_eq_true rfl) dX1_book_37 fun _ h10 => ?_
    refine s_dkX 43 finR [vr x0] (fun q13 h14 => SimX.catch8 C ⟨23, 56, 57, 116⟩ e7 rfl rfl (by decide) rfl q1492 q1741 (fun zq13 => ?_)) (fun r11 h12 => ?_) (fun hx hk => s_dspX 15 (fun ht => x_V C 0 [vr x0] 15 RX17 ro_15 (ct_g_BookReader_read hL hJ o6 h10) (lw_V q2567 q2568 q2569 q163 q2570) nd_X17_read rfl (le_fr hf rfl) (le_fr hlo rfl) rfl (Nat.le_of_ble_eq_true rfl) dX1_book_40 hx hk ht) s_dspX0)
    · refine s_astore_n (la' := [(3, vr q13), (2, .int r3), (0, vr x0), (1, .int x1)]) C 3 dX1_book_57 rfl (lt_nl e5 rfl) rfl ?_
      refine s_aload_n C dX1_book_58 2 rfl rfl ?_
      refine s_aload_n C dX1_book_59 0 rfl rfl ?_
      refine s_getI [8] C (fl1 ⟨fo_X1_118_8, rfl⟩) (pl_of e4 rfl) dX1_book_60 fun a15 => ?_
      refine s_putI [1] 0 C (by decide) (by decide) (fl1 ⟨⟨by decide, fo_X1_94_1, rfl⟩, rfl⟩) (pl_of e4 rfl) (fl1 (Or.inl rfl)) dX1_book_63 fun h16 => ?_
      refine s_bipush C (-2 : Int32) dX1_book_66 (by decide) ?_
      refine s_aload_n C dX1_book_68 0 rfl rfl ?_
      refine s_getI [8] C (fl1 ⟨fo_X1_121_8, rfl⟩) (pl_of e4 rfl) dX1_book_69 fun a17 => ?_
      refine s_isub C dX1_book_72 ?_
      exact s_iret C rfl dX1_book_73
    refine s_iload_n C dX1_book_43 2 rfl rfl ?_
    refine s_iconst C (1 : Int32) dX1_book_44 (by decide) ?_
    have hj53 : ∀ (y0 : Nat) (y1 : Nat) (y2 : Int32) (h18 : Hp), Sim id E (QM id E finI) h18 53 [] [.int y2, vr y1, vr y0] (g_FinalLinks_book_j53 y0 y1 y2 h18) := by
      intro y0 y1 y2 h18
      unfold g_FinalLinks_book_j53
      refine s_dk 56 finI [] (fun r19 h20 => ?_) (fun hk => s_dsp 1 (fun ht => c_V C 2 [] 1 RX1 ro_1 (ct_g_FinalLinks_lived hL hJ y0 y1 y2 h18) (lw_V q2604 q2606 qs32 q107 q2607) nd_X1_lived rfl (le_fr hf rfl) (le_fr hlo rfl) rfl (Nat.le_of_ble_eq_true rfl) dX1_book_53 hk ht) s_dsp0)
      exact s_iret C rfl dX1_book_56
    refine s_icmp_ne C 52 dX1_book_45 (by decide) ?_ ?_
    · refine s_iconst C (0 : Int32) dX1_book_52 (by decide) ?_
      refine Sim.keep [] rfl ?_
      exact hj53 _ _ _ _
    · refine s_iconst C (1 : Int32) dX1_book_48 (by decide) ?_
      refine s_goto C 53 dX1_book_49 (by decide) ?_
      refine Sim.keep [] rfl ?_
      exact hj53 _ _ _ _
  · refine s_sipush C (-1000 : Int32) dX1_book_9 (by decide) ?_
    exact s_iret C rfl dX1_book_12

def g_ChainReader_fresh_j51 (x0 : Nat) (x1 : Int32) (x3 : Int32) (y0 : Nat) (y1 : Int32) (h12 : Hp) : Option (Except Nat Nat × Hp) :=
  bx (dsp (tg h12 y0 % 500) none [(7, g_Reader_need y0 y1 (3 : Int32) h12)]) fun _ h13 =>
  (getR [7, 15, 16] 9 x0 h13).bind fun a14 =>
  (getR [7, 15, 16] 4 x0 h13).bind fun a15 =>
  (getR [2] 5 a15 h13).bind fun a16 =>
  bn (oValueOf (x3 + x1) h13) fun r17 h18 =>
  bn (dsp (tg h18 a16 % 500) none [(33, oMpPut a16 a14 r17 h18)]) fun r19 h20 =>
  bn (dsp (tg h20 x0 % 500) none [(7, g_Reader_go x0 h20)]) fun _ h21 =>
  some (.ok a14, h21)
def g_ChainReader_fresh_j11 (x0 : Nat) (x1 : Int32) (x3 : Int32) (y0 : Nat) (y1 : Int32) (h1 : Hp) : Option (Except Nat Nat × Hp) :=
  bx (dsp (tg h1 y0 % 500) none [(7, g_Reader_need y0 y1 (4 : Int32) h1)]) fun _ h2 =>
  bn (dsp (tg h2 x0 % 500) none [(7, g_Reader_go x0 h2)]) fun _ h3 =>
  bn (dsp (tg h3 x0 % 500) none [(7, g_Reader_isName x0 h3)]) fun r4 h5 =>
  bx (dsp (tg h5 x0 % 500) none [(7, g_Reader_need x0 r4 (1 : Int32) h5)]) fun _ h6 =>
  (getR [7, 15, 16] 4 x0 h6).bind fun a7 =>
  (getR [2] 5 a7 h6).bind fun a8 =>
  (getR [7, 15, 16] 9 x0 h6).bind fun a9 =>
  bn (dsp (tg h6 a8 % 500) none [(33, oMpHas [1022, 1033] a8 a9 h6)]) fun r10 h11 =>
  if r10 = 0 then
    g_ChainReader_fresh_j51 x0 x1 x3 x0 (1 : Int32) h11
  else
    g_ChainReader_fresh_j51 x0 x1 x3 x0 (0 : Int32) h11
def g_ChainReader_fresh (x0 : Nat) (x1 : Int32) (x2 : Int32) (x3 : Int32) (h : Hp) : Option (Except Nat Nat × Hp) :=
  if x2 ≤ x1 then
    g_ChainReader_fresh_j11 x0 x1 x3 x0 (0 : Int32) h
  else
    g_ChainReader_fresh_j11 x0 x1 x3 x0 (1 : Int32) h
theorem ct_g_ChainReader_fresh {G : Gx} {RL : Lv} {l : Launch} (hL : LvA G RL plA) (hJ : JK G RL l) (x0 : Nat) (x1 : Int32) (x2 : Int32) (x3 : Int32) (h : Hp) : CtX G RL l yX8_fresh (ws_ yX8_fresh cX8_fresh 5 (some (.object "java/lang/String"))) 43 4068 finR [vr x0, .int x1, .int x2, .int x3] h (g_ChainReader_fresh x0 x1 x2 x3 h) := by
  refine CtX.of (Pl := plA) [(0, vr x0), (1, .int x1), (2, .int x2), (3, .int x3)] (by decide) hL rfl (Nat.le_of_ble_eq_true rfl) ?_
  intro E C e6 hf hlo e1 e2 e3 e4 e5 e7
  subst e1; subst e2; subst e3
  replace C : Cx E cX8_fresh (some (.object "java/lang/String")) RX8 := C
  replace e6 : (eMe E).name = "fresh" := e6
  unfold g_ChainReader_fresh
  refine s_aload_n C dX8_fresh_0 0 rfl rfl ?_
  refine s_iload_n C dX8_fresh_1 1 rfl rfl ?_
  refine s_iload_n C dX8_fresh_2 2 rfl rfl ?_
  have hj11 : ∀ (x0 : Nat) (x1 : Int32) (x3 : Int32) (y0 : Nat) (y1 : Int32) (h1 : Hp), Sim id E (QMX E finR) h1 11 [(0, vr x0), (1, .int x1), (3, .int x3)] [.int y1, vr y0] (g_ChainReader_fresh_j11 x0 x1 x3 y0 y1 h1) := by
    intro x0 x1 x3 y0 y1 h1
    unfold g_ChainReader_fresh_j11
    refine s_iconst C (4 : Int32) dX8_fresh_11 (by decide) ?_
    refine s_dkX 15 finV [] (fun _ _ => SimX.out C e7) (fun _ h2 => ?_) (fun hx hk => s_dspX 7 (fun ht => x_U C 2 [] 7 RX8 _ ro_7 (ct_g_Reader_need hL hJ y0 y1 (4 : Int32) h1) (lw_U q1733 q1734 q1736 q1737 q148 q1738) rfl nd_X7_need.2 rfl (le_fr hf rfl) (le_fr hlo rfl) rfl (Nat.le_of_ble_eq_true rfl) dX8_fresh_12 hx hk ht) s_dspX0)
    refine s_aload_n C dX8_fresh_15 0 rfl rfl ?_
    refine s_dk 19 finV [] (fun _ h3 => ?_) (fun hk => s_dsp 7 (fun ht => c_U C 0 [] 7 RX8 _ ro_7 (ct_g_Reader_go hL hJ x0 h2) (lw_U q1556 q1557 q1559 q1560 q148 q1561) rfl nd_X7_go.2 rfl (le_fr hf rfl) (le_fr hlo rfl) rfl (Nat.le_of_ble_eq_true rfl) dX8_fresh_16 hk ht) s_dsp0)
    refine s_aload_n C dX8_fresh_19 0 rfl rfl ?_
    refine s_aload_n C dX8_fresh_20 0 rfl rfl ?_
    refine s_dk 24 finI [vr x0] (fun r4 h5 => ?_) (fun hk => s_dsp 7 (fun ht => c_U C 0 [vr x0] 7 RX8 _ ro_7 (ct_g_Reader_isName hL hJ x0 h3) (lw_U q1784 q1785 q1787 q1788 q148 q1789) rfl nd_X7_isName.2 rfl (le_fr hf rfl) (le_fr hlo rfl) rfl (Nat.le_of_ble_eq_true rfl) dX8_fresh_21 hk ht) s_dsp0)
    refine s_iconst C (1 : Int32) dX8_fresh_24 (by decide) ?_
    refine s_dkX 28 finV [] (fun _ _ => SimX.out C e7) (fun _ h6 => ?_) (fun hx hk => s_dspX 7 (fun ht => x_U C 2 [] 7 RX8 _ ro_7 (ct_g_Reader_need hL hJ x0 r4 (1 : Int32) h5) (lw_U q1733 q1734 q1736 q1737 q148 q1738) rfl nd_X7_need.2 rfl (le_fr hf rfl) (le_fr hlo rfl) rfl (Nat.le_of_ble_eq_true rfl) dX8_fresh_25 hx hk ht) s_dspX0)
    refine s_aload_n C dX8_fresh_28 0 rfl rfl ?_
    refine s_aload_n C dX8_fresh_29 0 rfl rfl ?_
    refine s_getR [7, 15, 16] C (flc ⟨fo_X8_29_7, rfl⟩ (flc ⟨fo_X8_29_15, rfl⟩ (fl1 ⟨fo_X8_29_16, rfl⟩))) (pl_of e4 rfl) dX8_fresh_30 fun a7 => ?_
    refine s_getR [2] C (fl1 ⟨fo_X8_90_2, rfl⟩) (pl_of e4 rfl) dX8_fresh_33 fun a8 => ?_
    refine s_aload_n C dX8_fresh_36 0 rfl rfl ?_
    refine s_getR [7, 15, 16] C (flc ⟨fo_X8_94_7, rfl⟩ (flc ⟨fo_X8_94_15, rfl⟩ (fl1 ⟨fo_X8_94_16, rfl⟩))) (pl_of e4 rfl) dX8_fresh_37 fun a9 => ?_
    refine s_dk 43 finI [vr x0] (fun r10 h11 => ?_) (fun hk => s_dsp 33 (fun ht => c_V C 1 [vr x0] 33 RJ4 ro_33 (jk_23 hJ a8 a9 h6) (lw_V q1853 q1390 q1391 q113 q1394) nd_J4_containsKey rfl (le_fr hf rfl) (le_fr hlo rfl) rfl (Nat.le_of_ble_eq_true rfl) dX8_fresh_40 hk ht) s_dsp0)
    have hj51 : ∀ (x0 : Nat) (x1 : Int32) (x3 : Int32) (y0 : Nat) (y1 : Int32) (h12 : Hp), Sim id E (QMX E finR) h12 51 [(0, vr x0), (1, .int x1), (3, .int x3)] [.int y1, vr y0] (g_ChainReader_fresh_j51 x0 x1 x3 y0 y1 h12) := by
      intro x0 x1 x3 y0 y1 h12
      unfold g_ChainReader_fresh_j51
      refine s_iconst C (3 : Int32) dX8_fresh_51 (by decide) ?_
      refine s_dkX 55 finV [] (fun _ _ => SimX.out C e7) (fun _ h13 => ?_) (fun hx hk => s_dspX 7 (fun ht => x_U C 2 [] 7 RX8 _ ro_7 (ct_g_Reader_need hL hJ y0 y1 (3 : Int32) h12) (lw_U q1733 q1734 q1736 q1737 q148 q1738) rfl nd_X7_need.2 rfl (le_fr hf rfl) (le_fr hlo rfl) rfl (Nat.le_of_ble_eq_true rfl) dX8_fresh_52 hx hk ht) s_dspX0)
      refine s_aload_n C dX8_fresh_55 0 rfl rfl ?_
      refine s_getR [7, 15, 16] C (flc ⟨fo_X8_94_7, rfl⟩ (flc ⟨fo_X8_94_15, rfl⟩ (fl1 ⟨fo_X8_94_16, rfl⟩))) (pl_of e4 rfl) dX8_fresh_56 fun a14 => ?_
      refine s_astore (la' := [(4, vr a14), (0, vr x0), (1, .int x1), (3, .int x3)]) C dX8_fresh_59 (lt_nl e5 rfl) rfl ?_
      refine s_aload_n C dX8_fresh_61 1 rfl rfl ?_
      refine s_getR [7, 15, 16] C (flc ⟨fo_X8_29_7, rfl⟩ (flc ⟨fo_X8_29_15, rfl⟩ (fl1 ⟨fo_X8_29_16, rfl⟩))) (pl_of e4 rfl) dX8_fresh_62 fun a15 => ?_
      refine s_getR [2] C (fl1 ⟨fo_X8_90_2, rfl⟩) (pl_of e4 rfl) dX8_fresh_65 fun a16 => ?_
      refine s_aload C dX8_fresh_68 0 rfl ?_
      refine s_iload_n C dX8_fresh_70 3 rfl rfl ?_
      refine s_iload_n C dX8_fresh_71 2 rfl rfl ?_
      refine s_iadd C dX8_fresh_72 ?_
      refine c_S C 1 [vr a14, vr a16] (jk_1 hJ (x3 + x1) h13) (lw_S q1854 q1371 q119 q1372) nd_J9_valueOf.2 rfl (le_fr hf rfl) (le_fr hlo rfl) rfl (Nat.le_of_ble_eq_true rfl) dX8_fresh_73 fun r17 h18 => ?_
      refine s_dk 79 finR [] (fun r19 h20 => ?_) (fun hk => s_dsp 33 (fun ht => c_V C 2 [] 33 RJ4 ro_33 (jk_25 hJ a16 a14 r17 h18) (lw_V q1855 q1856 q1857 q113 q1860) nd_J4_put rfl (le_fr hf rfl) (le_fr hlo rfl) rfl (Nat.le_of_ble_eq_true rfl) dX8_fresh_76 hk ht) s_dsp0)
      refine s_pop C dX8_fresh_79 rfl ?_
      refine s_aload_n C dX8_fresh_80 1 rfl rfl ?_
      refine s_dk 84 finV [] (fun _ h21 => ?_) (fun hk => s_dsp 7 (fun ht => c_U C 0 [] 7 RX8 _ ro_7 (ct_g_Reader_go hL hJ x0 h20) (lw_U q1556 q1557 q1559 q1560 q148 q1561) rfl nd_X7_go.2 rfl (le_fr hf rfl) (le_fr hlo rfl) rfl (Nat.le_of_ble_eq_true rfl) dX8_fresh_81 hk ht) s_dsp0)
      refine s_aload C dX8_fresh_84 0 rfl ?_
      exact Sim.okR (s_aret C (Or.inl ⟨_, rfl⟩) rfl dX8_fresh_86)
    refine s_if_ne C 50 dX8_fresh_43 (by decide) ?_ ?_
    · refine s_iconst C (0 : Int32) dX8_fresh_50 (by decide) ?_
      exact hj51 _ _ _ _ _ _
    · refine s_iconst C (1 : Int32) dX8_fresh_46 (by decide) ?_
      refine s_goto C 51 dX8_fresh_47 (by decide) ?_
      exact hj51 _ _ _ _ _ _
  refine s_icmp_ge C 10 dX8_fresh_3 (by decide) ?_ ?_
  · refine s_iconst C (0 : Int32) dX8_fresh_10 (by decide) ?_
    refine Sim.keep [0, 1, 3] rfl ?_
    exact hj11 _ _ _ _ _ _
  · refine s_iconst C (1 : Int32) dX8_fresh_6 (by decide) ?_
    refine s_goto C 11 dX8_fresh_7 (by decide) ?_
    refine Sim.keep [0, 1, 3] rfl ?_
    exact hj11 _ _ _ _ _ _

def g_ChainReader_one_j139 (x4 : Int32) (x5 : Int32) (y0 : Nat) (y1 : Nat) (y2 : Nat) (y3 : Int32) (y4 : Int32) (h15 : Hp) : Option (Except Nat Unit × Hp) :=
  if y2 = 0 then none else
  bn (g_Block_init y2 y3 y4 x4 x5 h15) fun _ h16 =>
  bn (dsp (tg h16 y0 % 500) none [(25, oAlAdd y0 y1 h16)]) fun r18 h19 =>
  some (.ok (), h19)
def g_ChainReader_one_j99 (x0 : Nat) (x3 : Int32) (x4 : Int32) (x5 : Int32) (h10 : Hp) : Option (Except Nat Unit × Hp) :=
  (getR [7, 15, 16] 4 x0 h10).bind fun a11 =>
  (getR [2] 4 a11 h10).bind fun a12 =>
  bn (newO 9 4 h10) fun o13 h14 =>
  if x3 = (-1 : Int32) then
    g_ChainReader_one_j139 x4 x5 a12 o13 o13 x3 (0 : Int32) h14
  else
    (getR [7, 15, 16] 4 x0 h14).bind fun a20 =>
    (getR [2] 4 a20 h14).bind fun a21 =>
    bn (dsp (tg h14 a21 % 500) none [(25, oAlGet a21 x3 h14)]) fun r22 h23 =>
    (cst [9] r22 h23).bind fun _ =>
    (getI [9] 1 r22 h23).bind fun a24 =>
    g_ChainReader_one_j139 x4 x5 a12 o13 o13 x3 (a24 + (1 : Int32)) h23
def g_ChainReader_one_j65 (x0 : Nat) (x3 : Int32) (h7 : Hp) : Option (Except Nat Unit × Hp) :=
  bn (dsp (tg h7 x0 % 500) none [(7, g_Reader_is x0 17 h7)]) fun r8 h9 =>
  if r8 = 0 then
    g_ChainReader_one_j99 x0 x3 (-1 : Int32) (0 : Int32) h9
  else
    bn (dsp (tg h9 x0 % 500) none [(7, g_Reader_go x0 h9)]) fun _ h25 =>
    bx (dsp (tg h25 x0 % 500) none [(7, g_Reader_voter x0 h25)]) fun r26 h27 =>
    bx (dsp (tg h27 x0 % 500) none [(7, g_Reader_number x0 (0 : Int32) (9 : Int32) h27)]) fun r28 h29 =>
    g_ChainReader_one_j99 x0 x3 r26 r28 h29
def g_ChainReader_one_j56 (x0 : Nat) (y0 : Nat) (y1 : Int32) (h36 : Hp) : Option (Except Nat Unit × Hp) :=
  bx (dsp (tg h36 y0 % 500) none [(7, g_Reader_need y0 y1 (3 : Int32) h36)]) fun _ h37 =>
  bx (dsp (tg h37 x0 % 500) none [(7, g_Reader_block x0 h37)]) fun r38 h39 =>
  g_ChainReader_one_j65 x0 r38 h39
def g_ChainReader_one (x0 : Nat) (h : Hp) : Option (Except Nat Unit × Hp) :=
  (getR [7, 15, 16] 4 x0 h).bind fun a1 =>
  (getR [2] 4 a1 h).bind fun a2 =>
  bn (dsp (tg h a2 % 500) none [(25, oAlSize a2 h)]) fun r3 h4 =>
  bx (dsp (tg h4 x0 % 500) none [(7, g_ChainReader_fresh x0 r3 (20 : Int32) (100 : Int32) h4)]) fun r5 h6 =>
  if r3 ≤ 0 then
    g_ChainReader_one_j65 x0 (-1 : Int32) h6
  else
    bn (dsp (tg h6 x0 % 500) none [(7, g_Reader_is x0 16 h6)]) fun r30 h31 =>
    bx (dsp (tg h31 x0 % 500) none [(7, g_Reader_need x0 r30 (1 : Int32) h31)]) fun _ h32 =>
    bn (dsp (tg h32 x0 % 500) none [(7, g_Reader_go x0 h32)]) fun _ h33 =>
    bn (dsp (tg h33 x0 % 500) none [(7, g_Reader_is x0 r5 h33)]) fun r34 h35 =>
    if r34 = 0 then
      g_ChainReader_one_j56 x0 x0 (1 : Int32) h35
    else
      g_ChainReader_one_j56 x0 x0 (0 : Int32) h35
theorem ct_g_ChainReader_one {G : Gx} {RL : Lv} {l : Launch} (hL : LvA G RL plA) (hJ : JK G RL l) (x0 : Nat) (h : Hp) : CtX G RL l yX8_one (ws_ yX8_one cX8_one 6 none) 45 4110 finV [vr x0] h (g_ChainReader_one x0 h) := by
  refine CtX.of (Pl := plA) [(0, vr x0)] (by decide) hL rfl (Nat.le_of_ble_eq_true rfl) ?_
  intro E C e6 hf hlo e1 e2 e3 e4 e5 e7
  subst e1; subst e2; subst e3
  replace C : Cx E cX8_one none RX8 := C
  replace e6 : (eMe E).name = "one" := e6
  unfold g_ChainReader_one
  refine s_aload_n C dX8_one_0 0 rfl rfl ?_
  refine s_getR [7, 15, 16] C (flc ⟨fo_X8_29_7, rfl⟩ (flc ⟨fo_X8_29_15, rfl⟩ (fl1 ⟨fo_X8_29_16, rfl⟩))) (pl_of e4 rfl) dX8_one_1 fun a1 => ?_
  refine s_getR [2] C (fl1 ⟨fo_X8_107_2, rfl⟩) (pl_of e4 rfl) dX8_one_4 fun a2 => ?_
  refine s_dk 10 finI [] (fun r3 h4 => ?_) (fun hk => s_dsp 25 (fun ht => c_V C 0 [] 25 RJ2 ro_25 (jk_15 hJ a2 h) (lw_V q2066 q731 q732 q111 q733) nd_J2_size rfl (le_fr hf rfl) (le_fr hlo rfl) rfl (Nat.le_of_ble_eq_true rfl) dX8_one_7 hk ht) s_dsp0)
  refine s_istore_n (la' := [(1, .int r3), (0, vr x0)]) C 1 dX8_one_10 rfl (lt_nl e5 rfl) rfl ?_
  refine s_aload_n C dX8_one_11 1 rfl rfl ?_
  refine s_iload_n C dX8_one_12 0 rfl rfl ?_
  refine s_bipush C (20 : Int32) dX8_one_13 (by decide) ?_
  refine s_bipush C (100 : Int32) dX8_one_15 (by decide) ?_
  refine s_dkX 20 finR [] (fun _ _ => SimX.out C e7) (fun r5 h6 => ?_) (fun hx hk => s_dspX 7 (fun ht => x_V C 3 [] 7 RX8 ro_7 (ct_g_ChainReader_fresh hL hJ x0 r3 (20 : Int32) (100 : Int32) h4) (lw_V q1780 q1782 qs16 q149 q1783) nd_X8_fresh rfl (le_fr hf rfl) (le_fr hlo rfl) rfl (Nat.le_of_ble_eq_true rfl) dX8_one_17 hx hk ht) s_dspX0)
  refine s_astore_n (la' := [(2, vr r5), (1, .int r3), (0, vr x0)]) C 2 dX8_one_20 rfl (lt_nl e5 rfl) rfl ?_
  refine s_iconst C (-1 : Int32) dX8_one_21 (by decide) ?_
  refine s_istore_n (la' := [(3, .int (-1 : Int32)), (2, vr r5), (1, .int r3), (0, vr x0)]) C 3 dX8_one_22 rfl (lt_nl e5 rfl) rfl ?_
  refine s_iload_n C dX8_one_23 2 rfl rfl ?_
  have hj65 : ∀ (x0 : Nat) (x3 : Int32) (h7 : Hp), Sim id E (QMX E finV) h7 65 [(0, vr x0), (3, .int x3)] [] (g_ChainReader_one_j65 x0 x3 h7) := by
    intro x0 x3 h7
    unfold g_ChainReader_one_j65
    refine s_iconst C (-1 : Int32) dX8_one_65 (by decide) ?_
    refine s_istore (la' := [(4, .int (-1 : Int32)), (0, vr x0), (3, .int x3)]) C dX8_one_66 (lt_nl e5 rfl) rfl ?_
    refine s_iconst C (0 : Int32) dX8_one_68 (by decide) ?_
    refine s_istore (la' := [(5, .int (0 : Int32)), (4, .int (-1 : Int32)), (0, vr x0), (3, .int x3)]) C dX8_one_69 (lt_nl e5 rfl) rfl ?_
    refine s_aload_n C dX8_one_71 2 rfl rfl ?_
    refine s_ldcS C (List.mem_of_getElem? (i := 8) rfl) (by decide) (by decide) dX8_one_72 ?_
    refine s_dk 77 finI [] (fun r8 h9 => ?_) (fun hk => s_dsp 7 (fun ht => c_U C 1 [] 7 RX8 _ ro_7 (ct_g_Reader_is hL hJ x0 17 h7) (lw_U q1726 q1727 q1729 q1730 q148 q1731) rfl nd_X7_is.2 rfl (le_fr hf rfl) (le_fr hlo rfl) rfl (Nat.le_of_ble_eq_true rfl) dX8_one_74 hk ht) s_dsp0)
    have hj99 : ∀ (x0 : Nat) (x3 : Int32) (x4 : Int32) (x5 : Int32) (h10 : Hp), Sim id E (QMX E finV) h10 99 [(0, vr x0), (3, .int x3), (4, .int x4), (5, .int x5)] [] (g_ChainReader_one_j99 x0 x3 x4 x5 h10) := by
      intro x0 x3 x4 x5 h10
      unfold g_ChainReader_one_j99
      refine s_aload_n C dX8_one_99 0 rfl rfl ?_
      refine s_getR [7, 15, 16] C (flc ⟨fo_X8_29_7, rfl⟩ (flc ⟨fo_X8_29_15, rfl⟩ (fl1 ⟨fo_X8_29_16, rfl⟩))) (pl_of e4 rfl) dX8_one_100 fun a11 => ?_
      refine s_getR [2] C (fl1 ⟨fo_X8_107_2, rfl⟩) (pl_of e4 rfl) dX8_one_103 fun a12 => ?_
      refine s_newO 9 4 C no_X8_121 (pl_of1 e4 rfl) dX8_one_106 fun o13 h14 zo13 => ?_
      refine s_dup C dX8_one_109 rfl ?_
      refine s_iload_n C dX8_one_110 1 rfl rfl ?_
      refine s_iload_n C dX8_one_111 1 rfl rfl ?_
      refine s_iconst C (-1 : Int32) dX8_one_112 (by decide) ?_
      have hj139 : ∀ (x4 : Int32) (x5 : Int32) (y0 : Nat) (y1 : Nat) (y2 : Nat) (y3 : Int32) (y4 : Int32) (h15 : Hp), Sim id E (QMX E finV) h15 139 [(4, .int x4), (5, .int x5)] [.int y4, .int y3, vr y2, vr y1, vr y0] (g_ChainReader_one_j139 x4 x5 y0 y1 y2 y3 y4 h15) := by
        intro x4 x5 y0 y1 y2 y3 y4 h15
        unfold g_ChainReader_one_j139
        refine s_iload C dX8_one_139 0 rfl ?_
        refine s_iload C dX8_one_141 1 rfl ?_
        refine s_nz fun z17 => ?_
        refine c_I C 4 [vr y1, vr y0] z17 (ct_g_Block_init hL hJ y2 y3 y4 x4 x5 h15) (lw_meth q2100) q156 q2098 q2099 rfl nd_X10_init.2 rfl (le_fr hf rfl) (le_fr hlo rfl) rfl (Nat.le_of_ble_eq_true rfl) dX8_one_143 fun _ h16 => ?_
        refine s_dk 149 finI [] (fun r18 h19 => ?_) (fun hk => s_dsp 25 (fun ht => c_V C 1 [] 25 RJ2 ro_25 (jk_12 hJ y0 y1 h16) (lw_V q2060 q570 q571 q111 q572) nd_J2_add rfl (le_fr hf rfl) (le_fr hlo rfl) rfl (Nat.le_of_ble_eq_true rfl) dX8_one_146 hk ht) s_dsp0)
        refine s_pop C dX8_one_149 rfl ?_
        exact Sim.okR (s_vret C rfl dX8_one_150)
      refine s_icmp_ne C 120 dX8_one_113 (by decide) ?_ ?_
      · refine s_aload_n C dX8_one_120 0 rfl rfl ?_
        refine s_getR [7, 15, 16] C (flc ⟨fo_X8_29_7, rfl⟩ (flc ⟨fo_X8_29_15, rfl⟩ (fl1 ⟨fo_X8_29_16, rfl⟩))) (pl_of e4 rfl) dX8_one_121 fun a20 => ?_
        refine s_getR [2] C (fl1 ⟨fo_X8_107_2, rfl⟩) (pl_of e4 rfl) dX8_one_124 fun a21 => ?_
        refine s_iload_n C dX8_one_127 1 rfl rfl ?_
        refine s_dk 131 finR [.int x3, vr o13, vr o13, vr a12] (fun r22 h23 => ?_) (fun hk => s_dsp 25 (fun ht => c_V C 1 [.int x3, vr o13, vr o13, vr a12] 25 RJ2 ro_25 (jk_14 hJ a21 x3 h14) (lw_V q2097 q735 q736 q111 q737) nd_J2_get rfl (le_fr hf rfl) (le_fr hlo rfl) rfl (Nat.le_of_ble_eq_true rfl) dX8_one_128 hk ht) s_dsp0)
        refine s_cast [9] "FinalLinks$Block" C q2095 (fl1 ao_FinalLinks_Block_9) dX8_one_131 ?_
        refine s_getI [9] C (fl1 ⟨fo_X8_127_9, rfl⟩) (pl_of e4 rfl) dX8_one_134 fun a24 => ?_
        refine s_iconst C (1 : Int32) dX8_one_137 (by decide) ?_
        refine s_iadd C dX8_one_138 ?_
        refine Sim.keep [2, 3] rfl ?_
        exact hj139 _ _ _ _ _ _ _ _
      · refine s_iconst C (0 : Int32) dX8_one_116 (by decide) ?_
        refine s_goto C 139 dX8_one_117 (by decide) ?_
        refine Sim.keep [2, 3] rfl ?_
        exact hj139 _ _ _ _ _ _ _ _
    refine s_if_eq C 99 dX8_one_77 (by decide) ?_ ?_
    · refine Sim.keep [2, 3, 1, 0] rfl ?_
      exact hj99 _ _ _ _ _
    · refine s_aload_n C dX8_one_80 2 rfl rfl ?_
      refine s_dk 84 finV [] (fun _ h25 => ?_) (fun hk => s_dsp 7 (fun ht => c_U C 0 [] 7 RX8 _ ro_7 (ct_g_Reader_go hL hJ x0 h9) (lw_U q1556 q1557 q1559 q1560 q148 q1561) rfl nd_X7_go.2 rfl (le_fr hf rfl) (le_fr hlo rfl) rfl (Nat.le_of_ble_eq_true rfl) dX8_one_81 hk ht) s_dsp0)
      refine s_aload_n C dX8_one_84 2 rfl rfl ?_
      refine s_dkX 88 finI [] (fun _ _ => SimX.out C e7) (fun r26 h27 => ?_) (fun hx hk => s_dspX 7 (fun ht => x_U C 0 [] 7 RX8 _ ro_7 (ct_g_Reader_voter hL hJ x0 h25) (lw_U q2089 q2090 q2092 q2093 q148 q2094) rfl nd_X7_voter.2 rfl (le_fr hf rfl) (le_fr hlo rfl) rfl (Nat.le_of_ble_eq_true rfl) dX8_one_85 hx hk ht) s_dspX0)
      refine s_istore (la' := [(4, .int r26), (5, .int (0 : Int32)), (0, vr x0), (3, .int x3)]) C dX8_one_88 (lt_nl e5 rfl) rfl ?_
      refine s_aload_n C dX8_one_90 2 rfl rfl ?_
      refine s_iconst C (0 : Int32) dX8_one_91 (by decide) ?_
      refine s_bipush C (9 : Int32) dX8_one_92 (by decide) ?_
      refine s_dkX 97 finI [] (fun _ _ => SimX.out C e7) (fun r28 h29 => ?_) (fun hx hk => s_dspX 7 (fun ht => x_U C 2 [] 7 RX8 _ ro_7 (ct_g_Reader_number hL hJ x0 (0 : Int32) (9 : Int32) h27) (lw_U q1767 q1768 q1770 q1771 q148 q1772) rfl nd_X7_number.2 rfl (le_fr hf rfl) (le_fr hlo rfl) rfl (Nat.le_of_ble_eq_true rfl) dX8_one_94 hx hk ht) s_dspX0)
      refine s_istore (la' := [(5, .int r28), (4, .int r26), (0, vr x0), (3, .int x3)]) C dX8_one_97 (lt_nl e5 rfl) rfl ?_
      refine Sim.keep [2, 3, 1, 0] rfl ?_
      exact hj99 _ _ _ _ _
  refine s_if_le C 65 dX8_one_24 (by decide) ?_ ?_
  · refine Sim.keep [3, 0] rfl ?_
    exact hj65 _ _ _
  · refine s_aload_n C dX8_one_27 3 rfl rfl ?_
    refine s_aload_n C dX8_one_28 3 rfl rfl ?_
    refine s_ldcS C (List.mem_of_getElem? (i := 7) rfl) (by decide) (by decide) dX8_one_29 ?_
    refine s_dk 34 finI [vr x0] (fun r30 h31 => ?_) (fun hk => s_dsp 7 (fun ht => c_U C 1 [vr x0] 7 RX8 _ ro_7 (ct_g_Reader_is hL hJ x0 16 h6) (lw_U q1726 q1727 q1729 q1730 q148 q1731) rfl nd_X7_is.2 rfl (le_fr hf rfl) (le_fr hlo rfl) rfl (Nat.le_of_ble_eq_true rfl) dX8_one_31 hk ht) s_dsp0)
    refine s_iconst C (1 : Int32) dX8_one_34 (by decide) ?_
    refine s_dkX 38 finV [] (fun _ _ => SimX.out C e7) (fun _ h32 => ?_) (fun hx hk => s_dspX 7 (fun ht => x_U C 2 [] 7 RX8 _ ro_7 (ct_g_Reader_need hL hJ x0 r30 (1 : Int32) h31) (lw_U q1733 q1734 q1736 q1737 q148 q1738) rfl nd_X7_need.2 rfl (le_fr hf rfl) (le_fr hlo rfl) rfl (Nat.le_of_ble_eq_true rfl) dX8_one_35 hx hk ht) s_dspX0)
    refine s_aload_n C dX8_one_38 3 rfl rfl ?_
    refine s_dk 42 finV [] (fun _ h33 => ?_) (fun hk => s_dsp 7 (fun ht => c_U C 0 [] 7 RX8 _ ro_7 (ct_g_Reader_go hL hJ x0 h32) (lw_U q1556 q1557 q1559 q1560 q148 q1561) rfl nd_X7_go.2 rfl (le_fr hf rfl) (le_fr hlo rfl) rfl (Nat.le_of_ble_eq_true rfl) dX8_one_39 hk ht) s_dsp0)
    refine s_aload_n C dX8_one_42 3 rfl rfl ?_
    refine s_aload_n C dX8_one_43 3 rfl rfl ?_
    refine s_aload_n C dX8_one_44 1 rfl rfl ?_
    refine s_dk 48 finI [vr x0] (fun r34 h35 => ?_) (fun hk => s_dsp 7 (fun ht => c_U C 1 [vr x0] 7 RX8 _ ro_7 (ct_g_Reader_is hL hJ x0 r5 h33) (lw_U q1726 q1727 q1729 q1730 q148 q1731) rfl nd_X7_is.2 rfl (le_fr hf rfl) (le_fr hlo rfl) rfl (Nat.le_of_ble_eq_true rfl) dX8_one_45 hk ht) s_dsp0)
    have hj56 : ∀ (x0 : Nat) (y0 : Nat) (y1 : Int32) (h36 : Hp), Sim id E (QMX E finV) h36 56 [(0, vr x0)] [.int y1, vr y0] (g_ChainReader_one_j56 x0 y0 y1 h36) := by
      intro x0 y0 y1 h36
      unfold g_ChainReader_one_j56
      refine s_iconst C (3 : Int32) dX8_one_56 (by decide) ?_
      refine s_dkX 60 finV [] (fun _ _ => SimX.out C e7) (fun _ h37 => ?_) (fun hx hk => s_dspX 7 (fun ht => x_U C 2 [] 7 RX8 _ ro_7 (ct_g_Reader_need hL hJ y0 y1 (3 : Int32) h36) (lw_U q1733 q1734 q1736 q1737 q148 q1738) rfl nd_X7_need.2 rfl (le_fr hf rfl) (le_fr hlo rfl) rfl (Nat.le_of_ble_eq_true rfl) dX8_one_57 hx hk ht) s_dspX0)
      refine s_aload_n C dX8_one_60 0 rfl rfl ?_
      refine s_dkX 64 finI [] (fun _ _ => SimX.out C e7) (fun r38 h39 => ?_) (fun hx hk => s_dspX 7 (fun ht => x_U C 0 [] 7 RX8 _ ro_7 (ct_g_Reader_block hL hJ x0 h37) (lw_U q2068 q2069 q2071 q2072 q148 q2073) rfl nd_X7_block.2 rfl (le_fr hf rfl) (le_fr hlo rfl) rfl (Nat.le_of_ble_eq_true rfl) dX8_one_61 hx hk ht) s_dspX0)
      refine s_istore_n (la' := [(3, .int r38), (0, vr x0)]) C 3 dX8_one_64 rfl (lt_nl e5 rfl) rfl ?_
      refine Sim.keep [1, 0] rfl ?_
      exact hj65 _ _ _
    refine s_if_ne C 55 dX8_one_48 (by decide) ?_ ?_
    · refine s_iconst C (0 : Int32) dX8_one_55 (by decide) ?_
      refine Sim.keep [3] rfl ?_
      exact hj56 _ _ _ _
    · refine s_iconst C (1 : Int32) dX8_one_51 (by decide) ?_
      refine s_goto C 56 dX8_one_52 (by decide) ?_
      refine Sim.keep [3] rfl ?_
      exact hj56 _ _ _ _

def g_ChainReader_line_j122  (h3 : Hp) : Option (Except Nat Unit × Hp) :=
  some (.ok (), h3)
def g_ChainReader_line_j25 (x0 : Nat) (y0 : Nat) (y1 : Int32) (h29 : Hp) : Option (Except Nat Unit × Hp) :=
  bx (dsp (tg h29 y0 % 500) none [(7, g_Reader_need y0 y1 (3 : Int32) h29)]) fun _ h30 =>
  bn (dsp (tg h30 x0 % 500) none [(7, g_Reader_go x0 h30)]) fun _ h31 =>
  (getR [7, 15, 16] 4 x0 h31).bind fun a32 =>
  bx (dsp (tg h31 x0 % 500) none [(7, g_Reader_number x0 (1 : Int32) (4 : Int32) h31)]) fun r33 h34 =>
  (putI [2] 0 1 a32 r33 h34).bind fun h35 =>
  g_ChainReader_line_j122 h35
def g_ChainReader_line (x0 : Nat) (h : Hp) : Option (Except Nat Unit × Hp) :=
  bn (dsp (tg h x0 % 500) none [(7, g_Reader_is x0 11 h)]) fun r1 h2 =>
  if r1 = 0 then
    bn (dsp (tg h2 x0 % 500) none [(7, g_Reader_is x0 12 h2)]) fun r4 h5 =>
    if r4 = 0 then
      bn (dsp (tg h5 x0 % 500) none [(7, g_Reader_is x0 15 h5)]) fun r6 h7 =>
      bx (dsp (tg h7 x0 % 500) none [(7, g_Reader_need x0 r6 (1 : Int32) h7)]) fun _ h8 =>
      bx (dsp (tg h8 x0 % 500) none [(7, g_ChainReader_one x0 h8)]) fun _ h9 =>
      g_ChainReader_line_j122 h9
    else
      (getR [7, 15, 16] 4 x0 h5).bind fun a10 =>
      (getR [2] 3 a10 h5).bind fun a11 =>
      (getR [7, 15, 16] 4 x0 h5).bind fun a12 =>
      bn (dsp (tg h5 a12 % 500) none [(2, g_Chain_voters a12 h5)]) fun r13 h14 =>
      bx (dsp (tg h14 x0 % 500) none [(7, g_ChainReader_fresh x0 r13 (8 : Int32) (0 : Int32) h14)]) fun r15 h16 =>
      bn (dsp (tg h16 a11 % 500) none [(25, oAlAdd a11 r15 h16)]) fun r17 h18 =>
      (getR [7, 15, 16] 4 x0 h18).bind fun a19 =>
      (getR [2] 2 a19 h18).bind fun a20 =>
      bx (dsp (tg h18 x0 % 500) none [(7, g_Reader_number x0 (0 : Int32) (9 : Int32) h18)]) fun r21 h22 =>
      bn (oValueOf r21 h22) fun r23 h24 =>
      bn (dsp (tg h24 a20 % 500) none [(25, oAlAdd a20 r23 h24)]) fun r25 h26 =>
      g_ChainReader_line_j122 h26
  else
    (getR [7, 15, 16] 4 x0 h2).bind fun a27 =>
    (getI [2] 0 a27 h2).bind fun a28 =>
    if a28 = 0 then
      g_ChainReader_line_j25 x0 x0 (1 : Int32) h2
    else
      g_ChainReader_line_j25 x0 x0 (0 : Int32) h2
theorem ct_g_ChainReader_line {G : Gx} {RL : Lv} {l : Launch} (hL : LvA G RL plA) (hJ : JK G RL l) (x0 : Nat) (h : Hp) : CtX G RL l yX8_line (ws_ yX8_line cX8_line 1 none) 46 4135 finV [vr x0] h (g_ChainReader_line x0 h) := by
  refine CtX.of (Pl := plA) [(0, vr x0)] (by decide) hL rfl (Nat.le_of_ble_eq_true rfl) ?_
  intro E C e6 hf hlo e1 e2 e3 e4 e5 e7
  subst e1; subst e2; subst e3
  replace C : Cx E cX8_line none RX8 := C
  replace e6 : (eMe E).name = "line" := e6
  unfold g_ChainReader_line
  refine s_aload_n C dX8_line_0 0 rfl rfl ?_
  refine s_ldcS C (List.mem_of_getElem? (i := 2) rfl) (by decide) (by decide) dX8_line_1 ?_
  refine s_dk 6 finI [] (fun r1 h2 => ?_) (fun hk => s_dsp 7 (fun ht => c_U C 1 [] 7 RX8 _ ro_7 (ct_g_Reader_is hL hJ x0 11 h) (lw_U q1726 q1727 q1729 q1730 q148 q1731) rfl nd_X7_is.2 rfl (le_fr hf rfl) (le_fr hlo rfl) rfl (Nat.le_of_ble_eq_true rfl) dX8_line_3 hk ht) s_dsp0)
  have hj122 : ∀  (h3 : Hp), Sim id E (QMX E finV) h3 122 [] [] (g_ChainReader_line_j122 h3) := by
    intro h3
    unfold g_ChainReader_line_j122
    exact Sim.okR (s_vret C rfl dX8_line_122)
  refine s_if_eq C 49 dX8_line_6 (by decide) ?_ ?_
  · refine s_aload_n C dX8_line_49 0 rfl rfl ?_
    refine s_ldcS C (List.mem_of_getElem? (i := 3) rfl) (by decide) (by decide) dX8_line_50 ?_
    refine s_dk 55 finI [] (fun r4 h5 => ?_) (fun hk => s_dsp 7 (fun ht => c_U C 1 [] 7 RX8 _ ro_7 (ct_g_Reader_is hL hJ x0 12 h2) (lw_U q1726 q1727 q1729 q1730 q148 q1731) rfl nd_X7_is.2 rfl (le_fr hf rfl) (le_fr hlo rfl) rfl (Nat.le_of_ble_eq_true rfl) dX8_line_52 hk ht) s_dsp0)
    refine s_if_eq C 107 dX8_line_55 (by decide) ?_ ?_
    · refine s_aload_n C dX8_line_107 0 rfl rfl ?_
      refine s_aload_n C dX8_line_108 0 rfl rfl ?_
      refine s_ldcS C (List.mem_of_getElem? (i := 6) rfl) (by decide) (by decide) dX8_line_109 ?_
      refine s_dk 114 finI [vr x0] (fun r6 h7 => ?_) (fun hk => s_dsp 7 (fun ht => c_U C 1 [vr x0] 7 RX8 _ ro_7 (ct_g_Reader_is hL hJ x0 15 h5) (lw_U q1726 q1727 q1729 q1730 q148 q1731) rfl nd_X7_is.2 rfl (le_fr hf rfl) (le_fr hlo rfl) rfl (Nat.le_of_ble_eq_true rfl) dX8_line_111 hk ht) s_dsp0)
      refine s_iconst C (1 : Int32) dX8_line_114 (by decide) ?_
      refine s_dkX 118 finV [] (fun _ _ => SimX.out C e7) (fun _ h8 => ?_) (fun hx hk => s_dspX 7 (fun ht => x_U C 2 [] 7 RX8 _ ro_7 (ct_g_Reader_need hL hJ x0 r6 (1 : Int32) h7) (lw_U q1733 q1734 q1736 q1737 q148 q1738) rfl nd_X7_need.2 rfl (le_fr hf rfl) (le_fr hlo rfl) rfl (Nat.le_of_ble_eq_true rfl) dX8_line_115 hx hk ht) s_dspX0)
      refine s_aload_n C dX8_line_118 0 rfl rfl ?_
      refine s_dkX 122 finV [] (fun _ _ => SimX.out C e7) (fun _ h9 => ?_) (fun hx hk => s_dspX 7 (fun ht => x_V C 0 [] 7 RX8 ro_7 (ct_g_ChainReader_one hL hJ x0 h8) (lw_V q2062 q2064 qs19 q149 q2065) nd_X8_one rfl (le_fr hf rfl) (le_fr hlo rfl) rfl (Nat.le_of_ble_eq_true rfl) dX8_line_119 hx hk ht) s_dspX0)
      refine Sim.keep [] rfl ?_
      exact hj122 _
    · refine s_aload_n C dX8_line_58 0 rfl rfl ?_
      refine s_getR [7, 15, 16] C (flc ⟨fo_X8_29_7, rfl⟩ (flc ⟨fo_X8_29_15, rfl⟩ (fl1 ⟨fo_X8_29_16, rfl⟩))) (pl_of e4 rfl) dX8_line_59 fun a10 => ?_
      refine s_getR [2] C (fl1 ⟨fo_X8_54_2, rfl⟩) (pl_of e4 rfl) dX8_line_62 fun a11 => ?_
      refine s_aload_n C dX8_line_65 0 rfl rfl ?_
      refine s_aload_n C dX8_line_66 0 rfl rfl ?_
      refine s_getR [7, 15, 16] C (flc ⟨fo_X8_29_7, rfl⟩ (flc ⟨fo_X8_29_15, rfl⟩ (fl1 ⟨fo_X8_29_16, rfl⟩))) (pl_of e4 rfl) dX8_line_67 fun a12 => ?_
      refine s_dk 73 finI [vr x0, vr a11] (fun r13 h14 => ?_) (fun hk => s_dsp 2 (fun ht => c_V C 0 [vr x0, vr a11] 2 RX2 ro_2 (ct_g_Chain_voters hL hJ a12 h5) (lw_V q1779 q1330 q1331 q108 q1332) nd_X2_voters rfl (le_fr hf rfl) (le_fr hlo rfl) rfl (Nat.le_of_ble_eq_true rfl) dX8_line_70 hk ht) s_dsp0)
      refine s_bipush C (8 : Int32) dX8_line_73 (by decide) ?_
      refine s_iconst C (0 : Int32) dX8_line_75 (by decide) ?_
      refine s_dkX 79 finR [vr a11] (fun _ _ => SimX.out C e7) (fun r15 h16 => ?_) (fun hx hk => s_dspX 7 (fun ht => x_V C 3 [vr a11] 7 RX8 ro_7 (ct_g_ChainReader_fresh hL hJ x0 r13 (8 : Int32) (0 : Int32) h14) (lw_V q1780 q1782 qs16 q149 q1783) nd_X8_fresh rfl (le_fr hf rfl) (le_fr hlo rfl) rfl (Nat.le_of_ble_eq_true rfl) dX8_line_76 hx hk ht) s_dspX0)
      refine s_dk 82 finI [] (fun r17 h18 => ?_) (fun hk => s_dsp 25 (fun ht => c_V C 1 [] 25 RJ2 ro_25 (jk_12 hJ a11 r15 h16) (lw_V q2060 q570 q571 q111 q572) nd_J2_add rfl (le_fr hf rfl) (le_fr hlo rfl) rfl (Nat.le_of_ble_eq_true rfl) dX8_line_79 hk ht) s_dsp0)
      refine s_pop C dX8_line_82 rfl ?_
      refine s_aload_n C dX8_line_83 0 rfl rfl ?_
      refine s_getR [7, 15, 16] C (flc ⟨fo_X8_29_7, rfl⟩ (flc ⟨fo_X8_29_15, rfl⟩ (fl1 ⟨fo_X8_29_16, rfl⟩))) (pl_of e4 rfl) dX8_line_84 fun a19 => ?_
      refine s_getR [2] C (fl1 ⟨fo_X8_72_2, rfl⟩) (pl_of e4 rfl) dX8_line_87 fun a20 => ?_
      refine s_aload_n C dX8_line_90 0 rfl rfl ?_
      refine s_iconst C (0 : Int32) dX8_line_91 (by decide) ?_
      refine s_bipush C (9 : Int32) dX8_line_92 (by decide) ?_
      refine s_dkX 97 finI [vr a20] (fun _ _ => SimX.out C e7) (fun r21 h22 => ?_) (fun hx hk => s_dspX 7 (fun ht => x_U C 2 [vr a20] 7 RX8 _ ro_7 (ct_g_Reader_number hL hJ x0 (0 : Int32) (9 : Int32) h18) (lw_U q1767 q1768 q1770 q1771 q148 q1772) rfl nd_X7_number.2 rfl (le_fr hf rfl) (le_fr hlo rfl) rfl (Nat.le_of_ble_eq_true rfl) dX8_line_94 hx hk ht) s_dspX0)
      refine c_S C 1 [vr a20] (jk_1 hJ r21 h22) (lw_S q1854 q1371 q119 q1372) nd_J9_valueOf.2 rfl (le_fr hf rfl) (le_fr hlo rfl) rfl (Nat.le_of_ble_eq_true rfl) dX8_line_97 fun r23 h24 => ?_
      refine s_dk 103 finI [] (fun r25 h26 => ?_) (fun hk => s_dsp 25 (fun ht => c_V C 1 [] 25 RJ2 ro_25 (jk_12 hJ a20 r23 h24) (lw_V q2060 q570 q571 q111 q572) nd_J2_add rfl (le_fr hf rfl) (le_fr hlo rfl) rfl (Nat.le_of_ble_eq_true rfl) dX8_line_100 hk ht) s_dsp0)
      refine s_pop C dX8_line_103 rfl ?_
      refine s_goto C 122 dX8_line_104 (by decide) ?_
      refine Sim.keep [] rfl ?_
      exact hj122 _
  · refine s_aload_n C dX8_line_9 0 rfl rfl ?_
    refine s_aload_n C dX8_line_10 0 rfl rfl ?_
    refine s_getR [7, 15, 16] C (flc ⟨fo_X8_29_7, rfl⟩ (flc ⟨fo_X8_29_15, rfl⟩ (fl1 ⟨fo_X8_29_16, rfl⟩))) (pl_of e4 rfl) dX8_line_11 fun a27 => ?_
    refine s_getI [2] C (fl1 ⟨fo_X8_33_2, rfl⟩) (pl_of e4 rfl) dX8_line_14 fun a28 => ?_
    have hj25 : ∀ (x0 : Nat) (y0 : Nat) (y1 : Int32) (h29 : Hp), Sim id E (QMX E finV) h29 25 [(0, vr x0)] [.int y1, vr y0] (g_ChainReader_line_j25 x0 y0 y1 h29) := by
      intro x0 y0 y1 h29
      unfold g_ChainReader_line_j25
      refine s_iconst C (3 : Int32) dX8_line_25 (by decide) ?_
      refine s_dkX 29 finV [] (fun _ _ => SimX.out C e7) (fun _ h30 => ?_) (fun hx hk => s_dspX 7 (fun ht => x_U C 2 [] 7 RX8 _ ro_7 (ct_g_Reader_need hL hJ y0 y1 (3 : Int32) h29) (lw_U q1733 q1734 q1736 q1737 q148 q1738) rfl nd_X7_need.2 rfl (le_fr hf rfl) (le_fr hlo rfl) rfl (Nat.le_of_ble_eq_true rfl) dX8_line_26 hx hk ht) s_dspX0)
      refine s_aload_n C dX8_line_29 0 rfl rfl ?_
      refine s_dk 33 finV [] (fun _ h31 => ?_) (fun hk => s_dsp 7 (fun ht => c_U C 0 [] 7 RX8 _ ro_7 (ct_g_Reader_go hL hJ x0 h30) (lw_U q1556 q1557 q1559 q1560 q148 q1561) rfl nd_X7_go.2 rfl (le_fr hf rfl) (le_fr hlo rfl) rfl (Nat.le_of_ble_eq_true rfl) dX8_line_30 hk ht) s_dsp0)
      refine s_aload_n C dX8_line_33 0 rfl rfl ?_
      refine s_getR [7, 15, 16] C (flc ⟨fo_X8_29_7, rfl⟩ (flc ⟨fo_X8_29_15, rfl⟩ (fl1 ⟨fo_X8_29_16, rfl⟩))) (pl_of e4 rfl) dX8_line_34 fun a32 => ?_
      refine s_aload_n C dX8_line_37 0 rfl rfl ?_
      refine s_iconst C (1 : Int32) dX8_line_38 (by decide) ?_
      refine s_iconst C (4 : Int32) dX8_line_39 (by decide) ?_
      refine s_dkX 43 finI [vr a32] (fun _ _ => SimX.out C e7) (fun r33 h34 => ?_) (fun hx hk => s_dspX 7 (fun ht => x_U C 2 [vr a32] 7 RX8 _ ro_7 (ct_g_Reader_number hL hJ x0 (1 : Int32) (4 : Int32) h31) (lw_U q1767 q1768 q1770 q1771 q148 q1772) rfl nd_X7_number.2 rfl (le_fr hf rfl) (le_fr hlo rfl) rfl (Nat.le_of_ble_eq_true rfl) dX8_line_40 hx hk ht) s_dspX0)
      refine s_putI [2] 0 C (by decide) (by decide) (fl1 ⟨⟨by decide, fo_X8_50_2, rfl⟩, rfl⟩) (pl_of e4 rfl) (fl1 (Or.inl rfl)) dX8_line_43 fun h35 => ?_
      refine s_goto C 122 dX8_line_46 (by decide) ?_
      refine Sim.keep [] rfl ?_
      exact hj122 _
    refine s_if_ne C 24 dX8_line_17 (by decide) ?_ ?_
    · refine s_iconst C (0 : Int32) dX8_line_24 (by decide) ?_
      exact hj25 _ _ _ _
    · refine s_iconst C (1 : Int32) dX8_line_20 (by decide) ?_
      refine s_goto C 25 dX8_line_21 (by decide) ?_
      exact hj25 _ _ _ _

def g_ChainReader_read_L4 (x0 : Nat) : Unit → Hp → Option (Except Nat Nat × Hp) :=
  lp FU fun rec4 v4 h1 =>
    (getI [7, 15, 16] 5 x0 h1).bind fun a2 =>
    if a2 = 0 then
      (getR [7, 15, 16] 4 x0 h1).bind fun a3 =>
      some (.ok a3, h1)
    else
      bx (dsp (tg h1 x0 % 500) none [(7, g_ChainReader_line x0 h1)]) fun _ h4 =>
      bx (dsp (tg h4 x0 % 500) none [(7, g_Reader_end x0 h4)]) fun _ h5 =>
      (getR [7, 15, 16] 4 x0 h5).bind fun a6 =>
      (getI [2] 0 a6 h5).bind fun a7 =>
      (putI [2] 0 0 a6 (a7 + (1 : Int32)) h5).bind fun h8 =>
      rec4 () h8
def g_ChainReader_read (x0 : Nat) (h : Hp) : Option (Except Nat Nat × Hp) :=
  bn (dsp (tg h x0 % 500) none [(7, g_Reader_go x0 h)]) fun _ h9 =>
  g_ChainReader_read_L4 x0 () h9
theorem ct_g_ChainReader_read {G : Gx} {RL : Lv} {l : Launch} (hL : LvA G RL plA) (hJ : JK G RL l) (x0 : Nat) (h : Hp) : CtX G RL l yX8_read (ws_ yX8_read cX8_read 1 (some (.object "FinalLinks$Chain"))) 47 4155 finR [vr x0] h (g_ChainReader_read x0 h) := by
  refine CtX.of (Pl := plA) [(0, vr x0)] (by decide) hL rfl (Nat.le_of_ble_eq_true rfl) ?_
  intro E C e6 hf hlo e1 e2 e3 e4 e5 e7
  subst e1; subst e2; subst e3
  replace C : Cx E cX8_read (some (.object "FinalLinks$Chain")) RX8 := C
  replace e6 : (eMe E).name = "read" := e6
  unfold g_ChainReader_read
  refine s_aload_n C dX8_read_0 0 rfl rfl ?_
  have hL4 : ∀ (x0 : Nat) (v4 : Unit) (h1 : Hp), Sim id E (QMX E finR) h1 4 [(0, vr x0)] [] (g_ChainReader_read_L4 x0 v4 h1) := by
    intro x0 v4 h1
    refine Sim.loop (fun v4 => [(0, vr x0)]) (fun _ => []) (fun rec4 hr4 v4 h1 => ?_) FU v4 h1
    refine s_aload_n C dX8_read_4 0 rfl rfl ?_
    refine s_getI [7, 15, 16] C (flc ⟨fo_X8_19_7, rfl⟩ (flc ⟨fo_X8_19_15, rfl⟩ (fl1 ⟨fo_X8_19_16, rfl⟩))) (pl_of e4 rfl) dX8_read_5 fun a2 => ?_
    refine s_if_eq C 35 dX8_read_8 (by decide) ?_ ?_
    · refine s_aload_n C dX8_read_35 0 rfl rfl ?_
      refine s_getR [7, 15, 16] C (flc ⟨fo_X8_29_7, rfl⟩ (flc ⟨fo_X8_29_15, rfl⟩ (fl1 ⟨fo_X8_29_16, rfl⟩))) (pl_of e4 rfl) dX8_read_36 fun a3 => ?_
      exact Sim.okR (s_aret C (Or.inl ⟨_, rfl⟩) rfl dX8_read_39)
    · refine s_aload_n C dX8_read_11 0 rfl rfl ?_
      refine s_dkX 15 finV [] (fun _ _ => SimX.out C e7) (fun _ h4 => ?_) (fun hx hk => s_dspX 7 (fun ht => x_V C 0 [] 7 RX8 ro_7 (ct_g_ChainReader_line hL hJ x0 h1) (lw_V q1721 q1723 qs15 q149 q1724) nd_X8_line rfl (le_fr hf rfl) (le_fr hlo rfl) rfl (Nat.le_of_ble_eq_true rfl) dX8_read_12 hx hk ht) s_dspX0)
      refine s_aload_n C dX8_read_15 0 rfl rfl ?_
      refine s_dkX 19 finV [] (fun _ _ => SimX.out C e7) (fun _ h5 => ?_) (fun hx hk => s_dspX 7 (fun ht => x_U C 0 [] 7 RX8 _ ro_7 (ct_g_Reader_end hL hJ x0 h4) (lw_U q2121 q2122 q2124 q2125 q148 q2126) rfl nd_X7_end.2 rfl (le_fr hf rfl) (le_fr hlo rfl) rfl (Nat.le_of_ble_eq_true rfl) dX8_read_16 hx hk ht) s_dspX0)
      refine s_aload_n C dX8_read_19 0 rfl rfl ?_
      refine s_getR [7, 15, 16] C (flc ⟨fo_X8_29_7, rfl⟩ (flc ⟨fo_X8_29_15, rfl⟩ (fl1 ⟨fo_X8_29_16, rfl⟩))) (pl_of e4 rfl) dX8_read_20 fun a6 => ?_
      refine s_dup C dX8_read_23 rfl ?_
      refine s_getI [2] C (fl1 ⟨fo_X8_33_2, rfl⟩) (pl_of e4 rfl) dX8_read_24 fun a7 => ?_
      refine s_iconst C (1 : Int32) dX8_read_27 (by decide) ?_
      refine s_iadd C dX8_read_28 ?_
      refine s_putI [2] 0 C (by decide) (by decide) (fl1 ⟨⟨by decide, fo_X8_33_2, rfl⟩, rfl⟩) (pl_of e4 rfl) (fl1 (Or.inl rfl)) dX8_read_29 fun h8 => ?_
      refine s_goto C 4 dX8_read_32 (by decide) ?_
      exact hr4 _ _
  refine s_dk 4 finV [] (fun _ h9 => ?_) (fun hk => s_dsp 7 (fun ht => c_U C 0 [] 7 RX8 _ ro_7 (ct_g_Reader_go hL hJ x0 h) (lw_U q1556 q1557 q1559 q1560 q148 q1561) rfl nd_X7_go.2 rfl (le_fr hf rfl) (le_fr hlo rfl) rfl (Nat.le_of_ble_eq_true rfl) dX8_read_1 hk ht) s_dsp0)
  exact hL4 _ _ _

def g_FinalLinks_chain (x0 : Nat) (h : Hp) : Option (Int32 × Hp) :=
  bn (dsp (tg h x0 % 500) none [(1, g_FinalLinks_takeAll x0 h)]) fun r1 h2 =>
  (putI [1] 0 2 x0 (0 : Int32) h2).bind fun h3 =>
  bn (newO 7 10 h3) fun o4 h5 =>
  (getR [1] 0 x0 h5).bind fun a6 =>
  bn (g_ChainReader_init o4 a6 r1 h5) fun _ h7 =>
  bh (dsp (tg h7 o4 % 500) none [(7, g_ChainReader_read o4 h7)]) (fun q10 h11 => if q10 = 0 then none else
    (getI [8] 6 q10 h11).bind fun a12 =>
    (putI [1] 0 2 x0 a12 h11).bind fun h13 =>
    (getI [8] 7 q10 h13).bind fun a14 =>
    some (((-1 : Int32) - a14), h13)) fun r8 h9 =>
  (putR [1] 3 x0 r8 h9).bind fun h15 =>
  (getR [1] 6 x0 h15).bind fun a16 =>
  (getR [1] 4 x0 h15).bind fun a17 =>
  (getR [1] 3 x0 h15).bind fun a18 =>
  bn (dsp (tg h15 a17 % 500) none [(3, g_Tree_begin a17 a18 h15)]) fun r19 h20 =>
  bn (dsp (tg h20 a16 % 500) none [(4, g_Judged_of a16 r19 h20)]) fun r21 h22 =>
  (putR [1] 8 x0 0 h22).bind fun h23 =>
  (putI [1] 0 10 x0 (0 : Int32) h23).bind fun h24 =>
  (getR [1] 3 x0 h24).bind fun a25 =>
  (getI [2] 0 a25 h24).bind fun a26 =>
  some (a26, h24)
theorem ct_g_FinalLinks_chain {G : Gx} {RL : Lv} {l : Launch} (hL : LvA G RL plA) (hJ : JK G RL l) (x0 : Nat) (h : Hp) : Ct id G RL l yX1_chain (wsW_ yX1_chain cX1_chain 3 (some .int) [(10, 65, 66, 116)]) 48 4178 finI [vr x0] h (g_FinalLinks_chain x0 h) := by
  refine Ct.ofH (Pl := plA) [(0, vr x0)] (by decide) hL rfl (Nat.le_of_ble_eq_true rfl) ?_
  intro E C e6 hf hlo e1 e2 e3 e4 e5 e7
  subst e1; subst e2; subst e3
  replace C : Cx E cX1_chain (some .int) RX1 := C
  replace e6 : (eMe E).name = "chain" := e6
  unfold g_FinalLinks_chain
  refine s_aload_n C dX1_chain_0 0 rfl rfl ?_
  refine s_dk 4 finI [] (fun r1 h2 => ?_) (fun hk => s_dsp 1 (fun ht => c_V C 0 [] 1 RX1 ro_1 (ct_g_FinalLinks_takeAll hL hJ x0 h) (lw_V q1493 q1495 qs14 q107 q1496) nd_X1_takeAll rfl (le_fr hf rfl) (le_fr hlo rfl) rfl (Nat.le_of_ble_eq_true rfl) dX1_chain_1 hk ht) s_dsp0)
  refine s_istore_n (la' := [(1, .int r1), (0, vr x0)]) C 1 dX1_chain_4 rfl (lt_nl e5 rfl) rfl ?_
  refine s_aload_n C dX1_chain_5 1 rfl rfl ?_
  refine s_iconst C (0 : Int32) dX1_chain_6 (by decide) ?_
  refine s_putI [1] 0 C (by decide) (by decide) (fl1 ⟨⟨by decide, fo_X1_94_1, rfl⟩, rfl⟩) (pl_of e4 rfl) (fl1 (Or.inl rfl)) dX1_chain_7 fun h3 => ?_
  refine s_aload_n C dX1_chain_10 1 rfl rfl ?_
  refine s_newO 7 10 C no_X1_97 (pl_of1 e4 rfl) dX1_chain_11 fun o4 h5 zo4 => ?_
  refine s_dup C dX1_chain_14 rfl ?_
  refine s_aload_n C dX1_chain_15 1 rfl rfl ?_
  refine s_getR [1] C (fl1 ⟨fo_X1_16_1, rfl⟩) (pl_of e4 rfl) dX1_chain_16 fun a6 => ?_
  refine s_iload_n C dX1_chain_19 0 rfl rfl ?_
  refine c_I C 2 [vr o4, vr x0] zo4 (ct_g_ChainReader_init hL hJ o4 a6 r1 h5) (lw_meth q1501) q149 q1499 q1500 rfl nd_X8_init.2 rfl (le_fr hf rfl) (le_fr hlo rfl) rfl (Nat.le_of_ble_eq_true rfl) dX1_chain_20 fun _ h7 => ?_
  refine s_dkX 26 finR [vr x0] (fun q10 h11 => SimX.catch8 C ⟨10, 65, 66, 116⟩ e7 rfl rfl (by decide) rfl q1492 q1741 (fun zq10 => ?_)) (fun r8 h9 => ?_) (fun hx hk => s_dspX 7 (fun ht => x_V C 0 [vr x0] 7 RX8 ro_7 (ct_g_ChainReader_read hL hJ o4 h7) (lw_V q1552 q1553 q1554 q149 q1555) nd_X8_read rfl (le_fr hf rfl) (le_fr hlo rfl) rfl (Nat.le_of_ble_eq_true rfl) dX1_chain_23 hx hk ht) s_dspX0)
  · refine s_astore_n (la' := [(2, vr q10), (1, .int r1), (0, vr x0)]) C 2 dX1_chain_66 rfl (lt_nl e5 rfl) rfl ?_
    refine s_aload_n C dX1_chain_67 2 rfl rfl ?_
    refine s_aload_n C dX1_chain_68 0 rfl rfl ?_
    refine s_getI [8] C (fl1 ⟨fo_X1_118_8, rfl⟩) (pl_of e4 rfl) dX1_chain_69 fun a12 => ?_
    refine s_putI [1] 0 C (by decide) (by decide) (fl1 ⟨⟨by decide, fo_X1_94_1, rfl⟩, rfl⟩) (pl_of e4 rfl) (fl1 (Or.inl rfl)) dX1_chain_72 fun h13 => ?_
    refine s_iconst C (-1 : Int32) dX1_chain_75 (by decide) ?_
    refine s_aload_n C dX1_chain_76 0 rfl rfl ?_
    refine s_getI [8] C (fl1 ⟨fo_X1_121_8, rfl⟩) (pl_of e4 rfl) dX1_chain_77 fun a14 => ?_
    refine s_isub C dX1_chain_80 ?_
    exact s_iret C rfl dX1_chain_81
  refine s_putR [1] C (fl1 ⟨by decide, fo_X1_23_1, rfl⟩) (pl_of e4 rfl) (fl1 (Or.inl rfl)) dX1_chain_26 fun h15 => ?_
  refine s_aload_n C dX1_chain_29 1 rfl rfl ?_
  refine s_getR [1] C (fl1 ⟨fo_X1_48_1, rfl⟩) (pl_of e4 rfl) dX1_chain_30 fun a16 => ?_
  refine s_aload_n C dX1_chain_33 1 rfl rfl ?_
  refine s_getR [1] C (fl1 ⟨fo_X1_34_1, rfl⟩) (pl_of e4 rfl) dX1_chain_34 fun a17 => ?_
  refine s_aload_n C dX1_chain_37 1 rfl rfl ?_
  refine s_getR [1] C (fl1 ⟨fo_X1_23_1, rfl⟩) (pl_of e4 rfl) dX1_chain_38 fun a18 => ?_
  refine s_dk 44 finR [vr a16] (fun r19 h20 => ?_) (fun hk => s_dsp 3 (fun ht => c_V C 1 [vr a16] 3 RX3 ro_3 (ct_g_Tree_begin hL hJ a17 a18 h15) (lw_V q387 q388 q389 q114 q390) nd_X3_begin rfl (le_fr hf rfl) (le_fr hlo rfl) rfl (Nat.le_of_ble_eq_true rfl) dX1_chain_41 hk ht) s_dsp0)
  refine s_dk 47 finR [] (fun r21 h22 => ?_) (fun hk => s_dsp 4 (fun ht => c_V C 1 [] 4 RX4 ro_4 (ct_g_Judged_of hL hJ a16 r19 h20) (lw_V q722 q723 q724 q130 q725) nd_X4_of rfl (le_fr hf rfl) (le_fr hlo rfl) rfl (Nat.le_of_ble_eq_true rfl) dX1_chain_44 hk ht) s_dsp0)
  refine s_pop C dX1_chain_47 rfl ?_
  refine s_aload_n C dX1_chain_48 1 rfl rfl ?_
  refine s_null C dX1_chain_49 ?_
  refine s_putR [1] C (fl1 ⟨by decide, fo_X1_106_1, rfl⟩) (pl_of e4 rfl) (fl1 (Or.inl rfl)) dX1_chain_50 fun h23 => ?_
  refine s_aload_n C dX1_chain_53 1 rfl rfl ?_
  refine s_iconst C (0 : Int32) dX1_chain_54 (by decide) ?_
  refine s_putI [1] 0 C (by decide) (by decide) (fl1 ⟨⟨by decide, fo_X1_110_1, rfl⟩, rfl⟩) (pl_of e4 rfl) (fl1 (Or.inl rfl)) dX1_chain_55 fun h24 => ?_
  refine s_aload_n C dX1_chain_58 1 rfl rfl ?_
  refine s_getR [1] C (fl1 ⟨fo_X1_23_1, rfl⟩) (pl_of e4 rfl) dX1_chain_59 fun a25 => ?_
  refine s_getI [2] C (fl1 ⟨fo_X1_113_2, rfl⟩) (pl_of e4 rfl) dX1_chain_62 fun a26 => ?_
  exact s_iret C rfl dX1_chain_65

def g_FinalLinks_fraction_j9 (x0 : Int32) (x1 : Int32) (y0 : Int32) (h1 : Hp) : Option (Int32 × Hp) :=
  bn (gR_common 50 x0 x1 h1) fun r2 h3 =>
  if r2 = 0 then none else
  some ((y0 / r2), h3)
def g_FinalLinks_fraction (x0 : Int32) (x1 : Int32) (x2 : Int32) (h : Hp) : Option (Int32 × Hp) :=
  if x2 = 0 then
    g_FinalLinks_fraction_j9 x0 x1 x0 h
  else
    g_FinalLinks_fraction_j9 x0 x1 x1 h
theorem ct_g_FinalLinks_fraction {G : Gx} {RL : Lv} {l : Launch} (hL : LvA G RL plA) (hJ : JK G RL l) (x0 : Int32) (x1 : Int32) (x2 : Int32) (h : Hp) : Ct id G RL l yX1_fraction (ws_ yX1_fraction cX1_fraction 3 (some .int)) 151 11071 finI [.int x0, .int x1, .int x2] h (g_FinalLinks_fraction x0 x1 x2 h) := by
  refine Ct.of (Pl := plA) [(0, .int x0), (1, .int x1), (2, .int x2)] (by decide) hL rfl (Nat.le_of_ble_eq_true rfl) ?_
  intro E C e6 hf hlo e1 e2 e3 e4 e5
  subst e1; subst e2; subst e3
  replace C : Cx E cX1_fraction (some .int) RX1 := C
  replace e6 : (eMe E).name = "fraction" := e6
  unfold g_FinalLinks_fraction
  refine s_iload_n C dX1_fraction_0 2 rfl rfl ?_
  have hj9 : ∀ (x0 : Int32) (x1 : Int32) (y0 : Int32) (h1 : Hp), Sim id E (QM id E finI) h1 9 [(0, .int x0), (1, .int x1)] [.int y0] (g_FinalLinks_fraction_j9 x0 x1 y0 h1) := by
    intro x0 x1 y0 h1
    refine s_iload_n C dX1_fraction_9 0 rfl rfl ?_
    refine s_iload_n C dX1_fraction_10 1 rfl rfl ?_
    refine c_S C 2 [.int y0] (ctR_common hL hJ 50 x0 x1 h1) (lw_S q2877 q2878 q107 q2879) nd_X1_common.2 rfl (le_fr hf rfl) (le_fr hlo rfl) rfl (Nat.le_of_ble_eq_true rfl) dX1_fraction_11 fun r2 h3 => ?_
    refine s_idiv C dX1_fraction_14 ?_
    exact s_iret C rfl dX1_fraction_15
  refine s_if_ne C 8 dX1_fraction_1 (by decide) ?_ ?_
  · refine s_iload_n C dX1_fraction_8 1 rfl rfl ?_
    refine Sim.keep [0, 1] rfl ?_
    exact hj9 _ _ _ _
  · refine s_iload_n C dX1_fraction_4 0 rfl rfl ?_
    refine s_goto C 9 dX1_fraction_5 (by decide) ?_
    refine Sim.keep [0, 1] rfl ?_
    exact hj9 _ _ _ _

def g_FinalLinks_guilt_j76 (rec31 : (Int32 × Int32) → Hp → Option (Except Nat Int32 × Hp)) (x0 : Nat) (x1 : Int32) (x2 : Int32) (x3 : Int32) (h19 : Hp) : Option (Except Nat Int32 × Hp) :=
  rec31 (x2, (x3 + (1 : Int32))) h19
def g_FinalLinks_guilt_L31 (x0 : Nat) (x1 : Int32) : (Int32 × Int32) → Hp → Option (Except Nat Int32 × Hp) :=
  lp FU fun rec31 v31 h6 =>
    (getR [1] 3 x0 h6).bind fun a7 =>
    bn (dsp (tg h6 a7 % 500) none [(2, g_Chain_voters a7 h6)]) fun r8 h9 =>
    if r8 ≤ v31.2 then
      (getR [1] 3 x0 h9).bind fun a10 =>
      bn (dsp (tg h9 a10 % 500) none [(2, g_Chain_told a10 h9)]) fun r11 h12 =>
      bn (g_FinalLinks_fraction v31.1 r11 x1 h12) fun r13 h14 =>
      some (.ok r13, h14)
    else
      (getR [1] 6 x0 h9).bind fun a15 =>
      (getI [4] 3 a15 h9).bind fun a16 =>
      bn (g_FinalLinks_isOf a16 v31.2 h9) fun r17 h18 =>
      if r17 = 0 then
        g_FinalLinks_guilt_j76 rec31 x0 x1 v31.1 v31.2 h18
      else
        (getR [1] 3 x0 h18).bind fun a20 =>
        (getR [2] 2 a20 h18).bind fun a21 =>
        bn (dsp (tg h18 a21 % 500) none [(25, oAlGet a21 v31.2 h18)]) fun r22 h23 =>
        (cst [35] r22 h23).bind fun _ =>
        bn (dsp (tg h23 r22 % 500) none [(35, oIntValue r22 h23)]) fun r24 h25 =>
        bd ((v31.1 + r24)) fun a26 =>
        g_FinalLinks_guilt_j76 rec31 x0 x1 a26 v31.2 h25
def g_FinalLinks_guilt_j24 (x0 : Nat) (x1 : Int32) (y0 : Int32) (h4 : Hp) : Option (Except Nat Int32 × Hp) :=
  bx (g_FinalLinks_need2 y0 h4) fun _ h5 =>
  g_FinalLinks_guilt_L31 x0 x1 ((0 : Int32), (0 : Int32)) h5
def g_FinalLinks_guilt_j23 (x0 : Nat) (x1 : Int32) (h27 : Hp) : Option (Except Nat Int32 × Hp) :=
  g_FinalLinks_guilt_j24 x0 x1 (0 : Int32) h27
def g_FinalLinks_guilt (x0 : Nat) (x1 : Int32) (h : Hp) : Option (Except Nat Int32 × Hp) :=
  (getR [1] 3 x0 h).bind fun a1 =>
  bn (dsp (tg h a1 % 500) none [(2, g_Chain_told a1 h)]) fun r2 h3 =>
  if r2 ≤ 0 then
    g_FinalLinks_guilt_j23 x0 x1 h3
  else
    bn (g_FinalLinks_isIn x1 (0 : Int32) (1 : Int32) h3) fun r28 h29 =>
    if r28 = 0 then
      g_FinalLinks_guilt_j23 x0 x1 h29
    else
      g_FinalLinks_guilt_j24 x0 x1 (1 : Int32) h29
theorem ct_g_FinalLinks_guilt {G : Gx} {RL : Lv} {l : Launch} (hL : LvA G RL plA) (hJ : JK G RL l) (x0 : Nat) (x1 : Int32) (h : Hp) : CtX G RL l yX1_guilt (ws_ yX1_guilt cX1_guilt 4 (some .int)) 152 11093 finI [vr x0, .int x1] h (g_FinalLinks_guilt x0 x1 h) := by
  refine CtX.of (Pl := plA) [(0, vr x0), (1, .int x1)] (by decide) hL rfl (Nat.le_of_ble_eq_true rfl) ?_
  intro E C e6 hf hlo e1 e2 e3 e4 e5 e7
  subst e1; subst e2; subst e3
  replace C : Cx E cX1_guilt (some .int) RX1 := C
  replace e6 : (eMe E).name = "guilt" := e6
  unfold g_FinalLinks_guilt
  refine s_aload_n C dX1_guilt_0 0 rfl rfl ?_
  refine s_getR [1] C (fl1 ⟨fo_X1_23_1, rfl⟩) (pl_of e4 rfl) dX1_guilt_1 fun a1 => ?_
  refine s_dk 7 finI [] (fun r2 h3 => ?_) (fun hk => s_dsp 2 (fun ht => c_V C 0 [] 2 RX2 ro_2 (ct_g_Chain_told hL hJ a1 h) (lw_V q2865 q2866 q2867 q108 q2868) nd_X2_told rfl (le_fr hf rfl) (le_fr hlo rfl) rfl (Nat.le_of_ble_eq_true rfl) dX1_guilt_4 hk ht) s_dsp0)
  have hj24 : ∀ (x0 : Nat) (x1 : Int32) (y0 : Int32) (h4 : Hp), Sim id E (QMX E finI) h4 24 [(0, vr x0), (1, .int x1)] [.int y0] (g_FinalLinks_guilt_j24 x0 x1 y0 h4) := by
    intro x0 x1 y0 h4
    unfold g_FinalLinks_guilt_j24
    refine x_S C 1 [] (ct_g_FinalLinks_need2 hL hJ y0 h4) (lw_S q2834 q2835 q107 q2836) nd_X1_need_2.2 rfl (le_fr hf rfl) (le_fr hlo rfl) rfl (Nat.le_of_ble_eq_true rfl) dX1_guilt_24 (fun _ _ => SimX.out C e7) fun _ h5 => ?_
    refine s_iconst C (0 : Int32) dX1_guilt_27 (by decide) ?_
    refine s_istore_n (la' := [(2, .int (0 : Int32)), (0, vr x0), (1, .int x1)]) C 2 dX1_guilt_28 rfl (lt_nl e5 rfl) rfl ?_
    refine s_iconst C (0 : Int32) dX1_guilt_29 (by decide) ?_
    have hL31 : ∀ (x0 : Nat) (x1 : Int32) (v31 : (Int32 × Int32)) (h6 : Hp), Sim id E (QMX E finI) h6 31 [(0, vr x0), (1, .int x1), (2, .int v31.1), (3, .int v31.2)] [] (g_FinalLinks_guilt_L31 x0 x1 v31 h6) := by
      intro x0 x1 v31 h6
      refine Sim.loop (fun v31 => [(0, vr x0), (1, .int x1), (2, .int v31.1), (3, .int v31.2)]) (fun _ => []) (fun rec31 hr31 v31 h6 => ?_) FU v31 h6
      refine s_iload_n C dX1_guilt_31 3 rfl rfl ?_
      refine s_aload_n C dX1_guilt_32 0 rfl rfl ?_
      refine s_getR [1] C (fl1 ⟨fo_X1_23_1, rfl⟩) (pl_of e4 rfl) dX1_guilt_33 fun a7 => ?_
      refine s_dk 39 finI [.int v31.2] (fun r8 h9 => ?_) (fun hk => s_dsp 2 (fun ht => c_V C 0 [.int v31.2] 2 RX2 ro_2 (ct_g_Chain_voters hL hJ a7 h6) (lw_V q2170 q1330 q1331 q108 q1332) nd_X2_voters rfl (le_fr hf rfl) (le_fr hlo rfl) rfl (Nat.le_of_ble_eq_true rfl) dX1_guilt_36 hk ht) s_dsp0)
      refine s_icmp_ge C 82 dX1_guilt_39 (by decide) ?_ ?_
      · refine s_iload_n C dX1_guilt_82 2 rfl rfl ?_
        refine s_aload_n C dX1_guilt_83 0 rfl rfl ?_
        refine s_getR [1] C (fl1 ⟨fo_X1_23_1, rfl⟩) (pl_of e4 rfl) dX1_guilt_84 fun a10 => ?_
        refine s_dk 90 finI [.int v31.1] (fun r11 h12 => ?_) (fun hk => s_dsp 2 (fun ht => c_V C 0 [.int v31.1] 2 RX2 ro_2 (ct_g_Chain_told hL hJ a10 h9) (lw_V q2865 q2866 q2867 q108 q2868) nd_X2_told rfl (le_fr hf rfl) (le_fr hlo rfl) rfl (Nat.le_of_ble_eq_true rfl) dX1_guilt_87 hk ht) s_dsp0)
        refine s_iload_n C dX1_guilt_90 1 rfl rfl ?_
        refine c_S C 3 [] (ct_g_FinalLinks_fraction hL hJ v31.1 r11 x1 h12) (lw_S q2874 q2875 q107 q2876) nd_X1_fraction.2 rfl (le_fr hf rfl) (le_fr hlo rfl) rfl (Nat.le_of_ble_eq_true rfl) dX1_guilt_91 fun r13 h14 => ?_
        exact Sim.okR (s_iret C rfl dX1_guilt_94)
      · refine s_aload_n C dX1_guilt_42 0 rfl rfl ?_
        refine s_getR [1] C (fl1 ⟨fo_X1_48_1, rfl⟩) (pl_of e4 rfl) dX1_guilt_43 fun a15 => ?_
        refine s_getI [4] C (fl1 ⟨fo_X1_235_4, rfl⟩) (pl_of e4 rfl) dX1_guilt_46 fun a16 => ?_
        refine s_iload_n C dX1_guilt_49 3 rfl rfl ?_
        refine c_S C 2 [] (ct_g_FinalLinks_isOf hL hJ a16 v31.2 h9) (lw_S q2187 q1339 q107 q1340) nd_X1_isOf.2 rfl (le_fr hf rfl) (le_fr hlo rfl) rfl (Nat.le_of_ble_eq_true rfl) dX1_guilt_50 fun r17 h18 => ?_
        have hj76 : ∀ (x2 : Int32) (x3 : Int32) (h19 : Hp), Sim id E (QMX E finI) h19 76 [(0, vr x0), (1, .int x1), (2, .int x2), (3, .int x3)] [] (g_FinalLinks_guilt_j76 rec31 x0 x1 x2 x3 h19) := by
          intro x2 x3 h19
          unfold g_FinalLinks_guilt_j76
          refine s_iinc (la' := [(3, .int (x3 + (1 : Int32))), (0, vr x0), (1, .int x1), (2, .int x2)]) C 3 dX1_guilt_76 rfl rfl (lt_nl e5 rfl) rfl ?_
          refine s_goto C 31 dX1_guilt_79 (by decide) ?_
          refine Sim.keep [1, 2, 3, 0] rfl ?_
          exact hr31 _ _
        refine s_if_eq C 76 dX1_guilt_53 (by decide) ?_ ?_
        · exact hj76 _ _ _
        · refine s_iload_n C dX1_guilt_56 2 rfl rfl ?_
          refine s_aload_n C dX1_guilt_57 0 rfl rfl ?_
          refine s_getR [1] C (fl1 ⟨fo_X1_23_1, rfl⟩) (pl_of e4 rfl) dX1_guilt_58 fun a20 => ?_
          refine s_getR [2] C (fl1 ⟨fo_X1_205_2, rfl⟩) (pl_of e4 rfl) dX1_guilt_61 fun a21 => ?_
          refine s_iload_n C dX1_guilt_64 3 rfl rfl ?_
          refine s_dk 68 finR [.int v31.1] (fun r22 h23 => ?_) (fun hk => s_dsp 25 (fun ht => c_V C 1 [.int v31.1] 25 RJ2 ro_25 (jk_14 hJ a21 v31.2 h18) (lw_V q2177 q735 q736 q111 q737) nd_J2_get rfl (le_fr hf rfl) (le_fr hlo rfl) rfl (Nat.le_of_ble_eq_true rfl) dX1_guilt_65 hk ht) s_dsp0)
          refine s_cast [35] "java/lang/Integer" C q2178 (fl1 ao_java_lang_Integer_35) dX1_guilt_68 ?_
          refine s_dk 74 finI [.int v31.1] (fun r24 h25 => ?_) (fun hk => s_dsp 35 (fun ht => c_V C 0 [.int v31.1] 35 RJ9 ro_35 (jk_0 hJ r22 h23) (lw_V q2179 q1053 q1054 q119 q1055) nd_J9_intValue rfl (le_fr hf rfl) (le_fr hlo rfl) rfl (Nat.le_of_ble_eq_true rfl) dX1_guilt_71 hk ht) s_dsp0)
          refine s_iadd C dX1_guilt_74 ?_
          refine s_bdi fun a26 => ?_
          refine s_istore_n (la' := [(2, .int a26), (0, vr x0), (1, .int x1), (3, .int v31.2)]) C 2 dX1_guilt_75 rfl (lt_nl e5 rfl) rfl ?_
          refine Sim.keep [1, 2, 0, 3] rfl ?_
          exact hj76 _ _ _
    refine s_istore_n (la' := [(3, .int (0 : Int32)), (2, .int (0 : Int32)), (0, vr x0), (1, .int x1)]) C 3 dX1_guilt_30 rfl (lt_nl e5 rfl) rfl ?_
    refine Sim.keep [2, 3, 1, 0] rfl ?_
    exact hL31 _ _ _ _
  have hj23 : ∀ (x0 : Nat) (x1 : Int32) (h27 : Hp), Sim id E (QMX E finI) h27 23 [(0, vr x0), (1, .int x1)] [] (g_FinalLinks_guilt_j23 x0 x1 h27) := by
    intro x0 x1 h27
    unfold g_FinalLinks_guilt_j23
    refine s_iconst C (0 : Int32) dX1_guilt_23 (by decide) ?_
    exact hj24 _ _ _ _
  refine s_if_le C 23 dX1_guilt_7 (by decide) ?_ ?_
  · exact hj23 _ _ _
  · refine s_iload_n C dX1_guilt_10 1 rfl rfl ?_
    refine s_iconst C (0 : Int32) dX1_guilt_11 (by decide) ?_
    refine s_iconst C (1 : Int32) dX1_guilt_12 (by decide) ?_
    refine c_S C 3 [] (ct_g_FinalLinks_isIn hL hJ x1 (0 : Int32) (1 : Int32) h3) (lw_S q2171 q1775 q107 q1776) nd_X1_isIn.2 rfl (le_fr hf rfl) (le_fr hlo rfl) rfl (Nat.le_of_ble_eq_true rfl) dX1_guilt_13 fun r28 h29 => ?_
    refine s_if_eq C 23 dX1_guilt_16 (by decide) ?_ ?_
    · exact hj23 _ _ _
    · refine s_iconst C (1 : Int32) dX1_guilt_19 (by decide) ?_
      refine s_goto C 24 dX1_guilt_20 (by decide) ?_
      exact hj24 _ _ _ _

def g_FinalLinks_link_j150 (y0 : Int32) (h36 : Hp) : Option (Except Nat Int32 × Hp) :=
  some (.ok y0, h36)
def g_FinalLinks_link_j59 (x0 : Nat) (x2 : Int32) (x3 : Int32) (x4 : Int32) (y0 : Nat) (y1 : Int32) (y2 : Int32) (h12 : Hp) : Option (Except Nat Int32 × Hp) :=
  bn (dsp (tg h12 y0 % 500) none [(3, g_Tree_back y0 y1 y2 h12)]) fun r13 h14 =>
  swi x3 ((getR [1] 4 x0 h14).bind fun a33 =>
    bn (dsp (tg h14 a33 % 500) none [(3, g_Tree_counts a33 x2 x4 h14)]) fun r34 h35 =>
    if r34 = 0 then
      g_FinalLinks_link_j150 (0 : Int32) h35
    else
      g_FinalLinks_link_j150 (1 : Int32) h35) [
    ((0 : Int32), some (.ok x4, h14)),
    ((1 : Int32), (getR [1] 4 x0 h14).bind fun a15 =>
    bn (dsp (tg h14 a15 % 500) none [(3, g_Tree_weights a15 r13 x4 h14)]) fun r16 h17 =>
    some (.ok r16, h17)),
    ((2 : Int32), (getR [1] 4 x0 h14).bind fun a18 =>
    (getR [1] 4 x0 h14).bind fun a19 =>
    bn (dsp (tg h14 a19 % 500) none [(3, g_Tree_all a19 h14)]) fun r20 h21 =>
    bn (dsp (tg h21 a18 % 500) none [(3, g_Tree_weights a18 r13 r20 h21)]) fun r22 h23 =>
    some (.ok r22, h23)),
    ((3 : Int32), (getR [1] 4 x0 h14).bind fun a24 =>
    bn (dsp (tg h14 a24 % 500) none [(3, g_Tree_weights a24 r13 x4 h14)]) fun r25 h26 =>
    some (.ok r25, h26)),
    ((4 : Int32), (getR [1] 4 x0 h14).bind fun a27 =>
    (getR [1] 4 x0 h14).bind fun a28 =>
    bn (dsp (tg h14 a28 % 500) none [(3, g_Tree_all a28 h14)]) fun r29 h30 =>
    bn (dsp (tg h30 a27 % 500) none [(3, g_Tree_weights a27 r13 r29 h30)]) fun r31 h32 =>
    some (.ok r31, h32))]
def g_FinalLinks_link_j23 (x0 : Nat) (x1 : Int32) (x2 : Int32) (x3 : Int32) (y0 : Int32) (h3 : Hp) : Option (Except Nat Int32 × Hp) :=
  bx (g_FinalLinks_need2 y0 h3) fun _ h4 =>
  (getR [1] 4 x0 h4).bind fun a5 =>
  bn (newO 10 2 h4) fun o6 h7 =>
  bn (oLinkInit o6 x1 x2 h7) fun _ h8 =>
  bn (dsp (tg h8 a5 % 500) none [(3, g_Tree_votersOf a5 o6 h8)]) fun r9 h10 =>
  (getR [1] 4 x0 h10).bind fun a11 =>
  if (3 : Int32) ≤ x3 then
    g_FinalLinks_link_j59 x0 x2 x3 r9 a11 x2 (2 : Int32) h10
  else
    g_FinalLinks_link_j59 x0 x2 x3 r9 a11 x2 (1 : Int32) h10
def g_FinalLinks_link_j22 (x0 : Nat) (x1 : Int32) (x2 : Int32) (x3 : Int32) (h37 : Hp) : Option (Except Nat Int32 × Hp) :=
  g_FinalLinks_link_j23 x0 x1 x2 x3 (0 : Int32) h37
def g_FinalLinks_link (x0 : Nat) (x1 : Int32) (x2 : Int32) (x3 : Int32) (h : Hp) : Option (Except Nat Int32 × Hp) :=
  bn (dsp (tg h x0 % 500) none [(1, g_FinalLinks_isLink x0 x1 x2 h)]) fun r1 h2 =>
  if r1 = 0 then
    g_FinalLinks_link_j22 x0 x1 x2 x3 h2
  else
    bn (g_FinalLinks_isIn x3 (0 : Int32) (5 : Int32) h2) fun r38 h39 =>
    if r38 = 0 then
      g_FinalLinks_link_j22 x0 x1 x2 x3 h39
    else
      g_FinalLinks_link_j23 x0 x1 x2 x3 (1 : Int32) h39
theorem ct_g_FinalLinks_link {G : Gx} {RL : Lv} {l : Launch} (hL : LvA G RL plA) (hJ : JK G RL l) (x0 : Nat) (x1 : Int32) (x2 : Int32) (x3 : Int32) (h : Hp) : CtX G RL l yX1_link (ws_ yX1_link cX1_link 6 (some .int)) 46 4134 finI [vr x0, .int x1, .int x2, .int x3] h (g_FinalLinks_link x0 x1 x2 x3 h) := by
  refine CtX.of (Pl := plA) [(0, vr x0), (1, .int x1), (2, .int x2), (3, .int x3)] (by decide) hL rfl (Nat.le_of_ble_eq_true rfl) ?_
  intro E C e6 hf hlo e1 e2 e3 e4 e5 e7
  subst e1; subst e2; subst e3
  replace C : Cx E cX1_link (some .int) RX1 := C
  replace e6 : (eMe E).name = "link" := e6
  unfold g_FinalLinks_link
  refine s_aload_n C dX1_link_0 0 rfl rfl ?_
  refine s_iload_n C dX1_link_1 1 rfl rfl ?_
  refine s_iload_n C dX1_link_2 2 rfl rfl ?_
  refine s_dk 6 finI [] (fun r1 h2 => ?_) (fun hk => s_dsp 1 (fun ht => c_V C 2 [] 1 RX1 ro_1 (ct_g_FinalLinks_isLink hL hJ x0 x1 x2 h) (lw_V q2404 q2406 qs28 q107 q2407) nd_X1_isLink rfl (le_fr hf rfl) (le_fr hlo rfl) rfl (Nat.le_of_ble_eq_true rfl) dX1_link_3 hk ht) s_dsp0)
  have hj23 : ∀ (x0 : Nat) (x1 : Int32) (x2 : Int32) (x3 : Int32) (y0 : Int32) (h3 : Hp), Sim id E (QMX E finI) h3 23 [(0, vr x0), (1, .int x1), (2, .int x2), (3, .int x3)] [.int y0] (g_FinalLinks_link_j23 x0 x1 x2 x3 y0 h3) := by
    intro x0 x1 x2 x3 y0 h3
    unfold g_FinalLinks_link_j23
    refine x_S C 1 [] (ct_g_FinalLinks_need2 hL hJ y0 h3) (lw_S q2834 q2835 q107 q2836) nd_X1_need_2.2 rfl (le_fr hf rfl) (le_fr hlo rfl) rfl (Nat.le_of_ble_eq_true rfl) dX1_link_23 (fun _ _ => SimX.out C e7) fun _ h4 => ?_
    refine s_aload_n C dX1_link_26 0 rfl rfl ?_
    refine s_getR [1] C (fl1 ⟨fo_X1_34_1, rfl⟩) (pl_of e4 rfl) dX1_link_27 fun a5 => ?_
    refine s_newO 10 2 C no_X1_249 (pl_of1 e4 rfl) dX1_link_30 fun o6 h7 zo6 => ?_
    refine s_dup C dX1_link_33 rfl ?_
    refine s_iload_n C dX1_link_34 1 rfl rfl ?_
    refine s_iload_n C dX1_link_35 2 rfl rfl ?_
    refine c_I C 2 [vr o6, vr a5] zo6 (jk_19 hJ o6 x1 x2 h7) (lw_meth q2270) q157 q2375 q2269 rfl nd_X11_init.2 rfl (le_fr hf rfl) (le_fr hlo rfl) rfl (Nat.le_of_ble_eq_true rfl) dX1_link_36 fun _ h8 => ?_
    refine s_dk 42 finI [] (fun r9 h10 => ?_) (fun hk => s_dsp 3 (fun ht => c_V C 1 [] 3 RX3 ro_3 (ct_g_Tree_votersOf hL hJ a5 o6 h8) (lw_V q2853 q2241 q2242 q114 q2243) nd_X3_votersOf rfl (le_fr hf rfl) (le_fr hlo rfl) rfl (Nat.le_of_ble_eq_true rfl) dX1_link_39 hk ht) s_dsp0)
    refine s_istore (la' := [(4, .int r9), (0, vr x0), (1, .int x1), (2, .int x2), (3, .int x3)]) C dX1_link_42 (lt_nl e5 rfl) rfl ?_
    refine s_aload_n C dX1_link_44 1 rfl rfl ?_
    refine s_getR [1] C (fl1 ⟨fo_X1_34_1, rfl⟩) (pl_of e4 rfl) dX1_link_45 fun a11 => ?_
    refine s_iload_n C dX1_link_48 3 rfl rfl ?_
    refine s_iload_n C dX1_link_49 4 rfl rfl ?_
    refine s_iconst C (3 : Int32) dX1_link_50 (by decide) ?_
    have hj59 : ∀ (x0 : Nat) (x2 : Int32) (x3 : Int32) (x4 : Int32) (y0 : Nat) (y1 : Int32) (y2 : Int32) (h12 : Hp), Sim id E (QMX E finI) h12 59 [(0, vr x0), (2, .int x2), (3, .int x3), (4, .int x4)] [.int y2, .int y1, vr y0] (g_FinalLinks_link_j59 x0 x2 x3 x4 y0 y1 y2 h12) := by
      intro x0 x2 x3 x4 y0 y1 y2 h12
      unfold g_FinalLinks_link_j59
      refine s_dk 62 finI [] (fun r13 h14 => ?_) (fun hk => s_dsp 3 (fun ht => c_V C 2 [] 3 RX3 ro_3 (ct_g_Tree_back hL hJ y0 y1 y2 h12) (lw_V q2854 q1310 q1311 q114 q1312) nd_X3_back rfl (le_fr hf rfl) (le_fr hlo rfl) rfl (Nat.le_of_ble_eq_true rfl) dX1_link_59 hk ht) s_dsp0)
      refine s_istore (la' := [(5, .int r13), (0, vr x0), (2, .int x2), (3, .int x3), (4, .int x4)]) C dX1_link_62 (lt_nl e5 rfl) rfl ?_
      refine s_iload_n C dX1_link_64 3 rfl rfl ?_
      refine s_tsw C 132 dX1_link_65 [(0 : Int32), (1 : Int32), (2 : Int32), (3 : Int32), (4 : Int32)] rfl (by decide +kernel) (by decide) (by decide) ⟨⟨100, by decide, ?_⟩, ⟨⟨103, by decide, ?_⟩, ⟨⟨115, by decide, ?_⟩, ⟨⟨103, by decide, ?_⟩, ⟨⟨115, by decide, ?_⟩, trivial⟩⟩⟩⟩⟩ ?_
      · refine s_iload C dX1_link_100 4 rfl ?_
        exact Sim.okR (s_iret C rfl dX1_link_102)
      · refine s_aload_n C dX1_link_103 1 rfl rfl ?_
        refine s_getR [1] C (fl1 ⟨fo_X1_34_1, rfl⟩) (pl_of e4 rfl) dX1_link_104 fun a15 => ?_
        refine s_iload C dX1_link_107 0 rfl ?_
        refine s_iload C dX1_link_109 4 rfl ?_
        refine s_dk 114 finI [] (fun r16 h17 => ?_) (fun hk => s_dsp 3 (fun ht => c_V C 2 [] 3 RX3 ro_3 (ct_g_Tree_weights hL hJ a15 r13 x4 h14) (lw_V q2855 q1335 q1336 q114 q1337) nd_X3_weights rfl (le_fr hf rfl) (le_fr hlo rfl) rfl (Nat.le_of_ble_eq_true rfl) dX1_link_111 hk ht) s_dsp0)
        exact Sim.okR (s_iret C rfl dX1_link_114)
      · refine s_aload_n C dX1_link_115 1 rfl rfl ?_
        refine s_getR [1] C (fl1 ⟨fo_X1_34_1, rfl⟩) (pl_of e4 rfl) dX1_link_116 fun a18 => ?_
        refine s_iload C dX1_link_119 0 rfl ?_
        refine s_aload_n C dX1_link_121 1 rfl rfl ?_
        refine s_getR [1] C (fl1 ⟨fo_X1_34_1, rfl⟩) (pl_of e4 rfl) dX1_link_122 fun a19 => ?_
        refine s_dk 128 finI [.int r13, vr a18] (fun r20 h21 => ?_) (fun hk => s_dsp 3 (fun ht => c_V C 0 [.int r13, vr a18] 3 RX3 ro_3 (ct_g_Tree_all hL hJ a19 h14) (lw_V q2856 q1326 q1327 q114 q1328) nd_X3_all rfl (le_fr hf rfl) (le_fr hlo rfl) rfl (Nat.le_of_ble_eq_true rfl) dX1_link_125 hk ht) s_dsp0)
        refine s_dk 131 finI [] (fun r22 h23 => ?_) (fun hk => s_dsp 3 (fun ht => c_V C 2 [] 3 RX3 ro_3 (ct_g_Tree_weights hL hJ a18 r13 r20 h21) (lw_V q2855 q1335 q1336 q114 q1337) nd_X3_weights rfl (le_fr hf rfl) (le_fr hlo rfl) rfl (Nat.le_of_ble_eq_true rfl) dX1_link_128 hk ht) s_dsp0)
        exact Sim.okR (s_iret C rfl dX1_link_131)
      · refine s_aload_n C dX1_link_103 1 rfl rfl ?_
        refine s_getR [1] C (fl1 ⟨fo_X1_34_1, rfl⟩) (pl_of e4 rfl) dX1_link_104 fun a24 => ?_
        refine s_iload C dX1_link_107 0 rfl ?_
        refine s_iload C dX1_link_109 4 rfl ?_
        refine s_dk 114 finI [] (fun r25 h26 => ?_) (fun hk => s_dsp 3 (fun ht => c_V C 2 [] 3 RX3 ro_3 (ct_g_Tree_weights hL hJ a24 r13 x4 h14) (lw_V q2855 q1335 q1336 q114 q1337) nd_X3_weights rfl (le_fr hf rfl) (le_fr hlo rfl) rfl (Nat.le_of_ble_eq_true rfl) dX1_link_111 hk ht) s_dsp0)
        exact Sim.okR (s_iret C rfl dX1_link_114)
      · refine s_aload_n C dX1_link_115 1 rfl rfl ?_
        refine s_getR [1] C (fl1 ⟨fo_X1_34_1, rfl⟩) (pl_of e4 rfl) dX1_link_116 fun a27 => ?_
        refine s_iload C dX1_link_119 0 rfl ?_
        refine s_aload_n C dX1_link_121 1 rfl rfl ?_
        refine s_getR [1] C (fl1 ⟨fo_X1_34_1, rfl⟩) (pl_of e4 rfl) dX1_link_122 fun a28 => ?_
        refine s_dk 128 finI [.int r13, vr a27] (fun r29 h30 => ?_) (fun hk => s_dsp 3 (fun ht => c_V C 0 [.int r13, vr a27] 3 RX3 ro_3 (ct_g_Tree_all hL hJ a28 h14) (lw_V q2856 q1326 q1327 q114 q1328) nd_X3_all rfl (le_fr hf rfl) (le_fr hlo rfl) rfl (Nat.le_of_ble_eq_true rfl) dX1_link_125 hk ht) s_dsp0)
        refine s_dk 131 finI [] (fun r31 h32 => ?_) (fun hk => s_dsp 3 (fun ht => c_V C 2 [] 3 RX3 ro_3 (ct_g_Tree_weights hL hJ a27 r13 r29 h30) (lw_V q2855 q1335 q1336 q114 q1337) nd_X3_weights rfl (le_fr hf rfl) (le_fr hlo rfl) rfl (Nat.le_of_ble_eq_true rfl) dX1_link_128 hk ht) s_dsp0)
        exact Sim.okR (s_iret C rfl dX1_link_131)
      · refine s_aload_n C dX1_link_132 1 rfl rfl ?_
        refine s_getR [1] C (fl1 ⟨fo_X1_34_1, rfl⟩) (pl_of e4 rfl) dX1_link_133 fun a33 => ?_
        refine s_iload_n C dX1_link_136 2 rfl rfl ?_
        refine s_iload C dX1_link_137 4 rfl ?_
        refine s_dk 142 finI [] (fun r34 h35 => ?_) (fun hk => s_dsp 3 (fun ht => c_V C 2 [] 3 RX3 ro_3 (ct_g_Tree_counts hL hJ a33 x2 x4 h14) (lw_V q2857 q1306 q1307 q114 q1308) nd_X3_counts rfl (le_fr hf rfl) (le_fr hlo rfl) rfl (Nat.le_of_ble_eq_true rfl) dX1_link_139 hk ht) s_dsp0)
        have hj150 : ∀ (y0 : Int32) (h36 : Hp), Sim id E (QMX E finI) h36 150 [] [.int y0] (g_FinalLinks_link_j150 y0 h36) := by
          intro y0 h36
          unfold g_FinalLinks_link_j150
          exact Sim.okR (s_iret C rfl dX1_link_150)
        refine s_if_eq C 149 dX1_link_142 (by decide) ?_ ?_
        · refine s_iconst C (0 : Int32) dX1_link_149 (by decide) ?_
          refine Sim.keep [] rfl ?_
          exact hj150 _ _
        · refine s_iconst C (1 : Int32) dX1_link_145 (by decide) ?_
          refine s_goto C 150 dX1_link_146 (by decide) ?_
          refine Sim.keep [] rfl ?_
          exact hj150 _ _
    refine s_icmp_ge C 58 dX1_link_51 (by decide) ?_ ?_
    · refine s_iconst C (2 : Int32) dX1_link_58 (by decide) ?_
      refine Sim.keep [1, 3, 4, 0] rfl ?_
      exact hj59 _ _ _ _ _ _ _ _
    · refine s_iconst C (1 : Int32) dX1_link_54 (by decide) ?_
      refine s_goto C 59 dX1_link_55 (by decide) ?_
      refine Sim.keep [1, 3, 4, 0] rfl ?_
      exact hj59 _ _ _ _ _ _ _ _
  have hj22 : ∀ (x0 : Nat) (x1 : Int32) (x2 : Int32) (x3 : Int32) (h37 : Hp), Sim id E (QMX E finI) h37 22 [(0, vr x0), (1, .int x1), (2, .int x2), (3, .int x3)] [] (g_FinalLinks_link_j22 x0 x1 x2 x3 h37) := by
    intro x0 x1 x2 x3 h37
    unfold g_FinalLinks_link_j22
    refine s_iconst C (0 : Int32) dX1_link_22 (by decide) ?_
    exact hj23 _ _ _ _ _ _
  refine s_if_eq C 22 dX1_link_6 (by decide) ?_ ?_
  · exact hj22 _ _ _ _ _
  · refine s_iload_n C dX1_link_9 3 rfl rfl ?_
    refine s_iconst C (0 : Int32) dX1_link_10 (by decide) ?_
    refine s_iconst C (5 : Int32) dX1_link_11 (by decide) ?_
    refine c_S C 3 [] (ct_g_FinalLinks_isIn hL hJ x3 (0 : Int32) (5 : Int32) h2) (lw_S q2171 q1775 q107 q1776) nd_X1_isIn.2 rfl (le_fr hf rfl) (le_fr hlo rfl) rfl (Nat.le_of_ble_eq_true rfl) dX1_link_12 fun r38 h39 => ?_
    refine s_if_eq C 22 dX1_link_15 (by decide) ?_ ?_
    · exact hj22 _ _ _ _ _
    · refine s_iconst C (1 : Int32) dX1_link_18 (by decide) ?_
      refine s_goto C 23 dX1_link_19 (by decide) ?_
      exact hj23 _ _ _ _ _ _

def g_FinalLinks_mean_j76 (rec34 : (Int32 × Int32 × Int32) → Hp → Option (Except Nat Int32 × Hp)) (x0 : Nat) (x1 : Int32) (x2 : Int32) (x3 : Int32) (x4 : Int32) (h15 : Hp) : Option (Except Nat Int32 × Hp) :=
  rec34 (x2, x3, (x4 + (1 : Int32))) h15
def g_FinalLinks_mean_L34 (x0 : Nat) (x1 : Int32) : (Int32 × Int32 × Int32) → Hp → Option (Except Nat Int32 × Hp) :=
  lp FU fun rec34 v34 h6 =>
    (getR [1] 4 x0 h6).bind fun a7 =>
    bn (dsp (tg h6 a7 % 500) none [(3, g_Tree_size a7 h6)]) fun r8 h9 =>
    if r8 ≤ v34.2.2 then
      bn (g_FinalLinks_fraction v34.1 v34.2.1 x1 h9) fun r10 h11 =>
      some (.ok r10, h11)
    else
      (getR [1] 4 x0 h9).bind fun a12 =>
      bn (dsp (tg h9 a12 % 500) none [(3, g_Tree_isLeaf a12 v34.2.2 h9)]) fun r13 h14 =>
      if r13 = 0 then
        g_FinalLinks_mean_j76 rec34 x0 x1 v34.1 v34.2.1 v34.2.2 h14
      else
        (getR [1] 4 x0 h14).bind fun a16 =>
        bn (dsp (tg h14 a16 % 500) none [(3, g_Tree_height a16 v34.2.2 h14)]) fun r17 h18 =>
        bd ((v34.1 + r17)) fun a19 =>
        g_FinalLinks_mean_j76 rec34 x0 x1 a19 (v34.2.1 + (1 : Int32)) v34.2.2 h18
def g_FinalLinks_mean_j24 (x0 : Nat) (x1 : Int32) (y0 : Int32) (h4 : Hp) : Option (Except Nat Int32 × Hp) :=
  bx (g_FinalLinks_need2 y0 h4) fun _ h5 =>
  g_FinalLinks_mean_L34 x0 x1 ((0 : Int32), (0 : Int32), (0 : Int32)) h5
def g_FinalLinks_mean_j23 (x0 : Nat) (x1 : Int32) (h20 : Hp) : Option (Except Nat Int32 × Hp) :=
  g_FinalLinks_mean_j24 x0 x1 (0 : Int32) h20
def g_FinalLinks_mean (x0 : Nat) (x1 : Int32) (h : Hp) : Option (Except Nat Int32 × Hp) :=
  (getR [1] 4 x0 h).bind fun a1 =>
  bn (dsp (tg h a1 % 500) none [(3, g_Tree_size a1 h)]) fun r2 h3 =>
  if r2 ≤ 0 then
    g_FinalLinks_mean_j23 x0 x1 h3
  else
    bn (g_FinalLinks_isIn x1 (0 : Int32) (1 : Int32) h3) fun r21 h22 =>
    if r21 = 0 then
      g_FinalLinks_mean_j23 x0 x1 h22
    else
      g_FinalLinks_mean_j24 x0 x1 (1 : Int32) h22
theorem ct_g_FinalLinks_mean {G : Gx} {RL : Lv} {l : Launch} (hL : LvA G RL plA) (hJ : JK G RL l) (x0 : Nat) (x1 : Int32) (h : Hp) : CtX G RL l yX1_mean (ws_ yX1_mean cX1_mean 5 (some .int)) 152 11093 finI [vr x0, .int x1] h (g_FinalLinks_mean x0 x1 h) := by
  refine CtX.of (Pl := plA) [(0, vr x0), (1, .int x1)] (by decide) hL rfl (Nat.le_of_ble_eq_true rfl) ?_
  intro E C e6 hf hlo e1 e2 e3 e4 e5 e7
  subst e1; subst e2; subst e3
  replace C : Cx E cX1_mean (some .int) RX1 := C
  replace e6 : (eMe E).name = "mean" := e6
  unfold g_FinalLinks_mean
  refine s_aload_n C dX1_mean_0 0 rfl rfl ?_
  refine s_getR [1] C (fl1 ⟨fo_X1_34_1, rfl⟩) (pl_of e4 rfl) dX1_mean_1 fun a1 => ?_
  refine s_dk 7 finI [] (fun r2 h3 => ?_) (fun hk => s_dsp 3 (fun ht => c_V C 0 [] 3 RX3 ro_3 (ct_g_Tree_size hL hJ a1 h) (lw_V q2429 q767 q768 q114 q769) nd_X3_size rfl (le_fr hf rfl) (le_fr hlo rfl) rfl (Nat.le_of_ble_eq_true rfl) dX1_mean_4 hk ht) s_dsp0)
  have hj24 : ∀ (x0 : Nat) (x1 : Int32) (y0 : Int32) (h4 : Hp), Sim id E (QMX E finI) h4 24 [(0, vr x0), (1, .int x1)] [.int y0] (g_FinalLinks_mean_j24 x0 x1 y0 h4) := by
    intro x0 x1 y0 h4
    unfold g_FinalLinks_mean_j24
    refine x_S C 1 [] (ct_g_FinalLinks_need2 hL hJ y0 h4) (lw_S q2834 q2835 q107 q2836) nd_X1_need_2.2 rfl (le_fr hf rfl) (le_fr hlo rfl) rfl (Nat.le_of_ble_eq_true rfl) dX1_mean_24 (fun _ _ => SimX.out C e7) fun _ h5 => ?_
    refine s_iconst C (0 : Int32) dX1_mean_27 (by decide) ?_
    refine s_istore_n (la' := [(2, .int (0 : Int32)), (0, vr x0), (1, .int x1)]) C 2 dX1_mean_28 rfl (lt_nl e5 rfl) rfl ?_
    refine s_iconst C (0 : Int32) dX1_mean_29 (by decide) ?_
    refine s_istore_n (la' := [(3, .int (0 : Int32)), (2, .int (0 : Int32)), (0, vr x0), (1, .int x1)]) C 3 dX1_mean_30 rfl (lt_nl e5 rfl) rfl ?_
    refine s_iconst C (0 : Int32) dX1_mean_31 (by decide) ?_
    have hL34 : ∀ (x0 : Nat) (x1 : Int32) (v34 : (Int32 × Int32 × Int32)) (h6 : Hp), Sim id E (QMX E finI) h6 34 [(0, vr x0), (1, .int x1), (2, .int v34.1), (3, .int v34.2.1), (4, .int v34.2.2)] [] (g_FinalLinks_mean_L34 x0 x1 v34 h6) := by
      intro x0 x1 v34 h6
      refine Sim.loop (fun v34 => [(0, vr x0), (1, .int x1), (2, .int v34.1), (3, .int v34.2.1), (4, .int v34.2.2)]) (fun _ => []) (fun rec34 hr34 v34 h6 => ?_) FU v34 h6
      refine s_iload C dX1_mean_34 4 rfl ?_
      refine s_aload_n C dX1_mean_36 0 rfl rfl ?_
      refine s_getR [1] C (fl1 ⟨fo_X1_34_1, rfl⟩) (pl_of e4 rfl) dX1_mean_37 fun a7 => ?_
      refine s_dk 43 finI [.int v34.2.2] (fun r8 h9 => ?_) (fun hk => s_dsp 3 (fun ht => c_V C 0 [.int v34.2.2] 3 RX3 ro_3 (ct_g_Tree_size hL hJ a7 h6) (lw_V q2429 q767 q768 q114 q769) nd_X3_size rfl (le_fr hf rfl) (le_fr hlo rfl) rfl (Nat.le_of_ble_eq_true rfl) dX1_mean_40 hk ht) s_dsp0)
      refine s_icmp_ge C 82 dX1_mean_43 (by decide) ?_ ?_
      · refine s_iload_n C dX1_mean_82 2 rfl rfl ?_
        refine s_iload_n C dX1_mean_83 3 rfl rfl ?_
        refine s_iload_n C dX1_mean_84 1 rfl rfl ?_
        refine c_S C 3 [] (ct_g_FinalLinks_fraction hL hJ v34.1 v34.2.1 x1 h9) (lw_S q2874 q2875 q107 q2876) nd_X1_fraction.2 rfl (le_fr hf rfl) (le_fr hlo rfl) rfl (Nat.le_of_ble_eq_true rfl) dX1_mean_85 fun r10 h11 => ?_
        exact Sim.okR (s_iret C rfl dX1_mean_88)
      · refine s_aload_n C dX1_mean_46 0 rfl rfl ?_
        refine s_getR [1] C (fl1 ⟨fo_X1_34_1, rfl⟩) (pl_of e4 rfl) dX1_mean_47 fun a12 => ?_
        refine s_iload C dX1_mean_50 4 rfl ?_
        refine s_dk 55 finI [] (fun r13 h14 => ?_) (fun hk => s_dsp 3 (fun ht => c_V C 1 [] 3 RX3 ro_3 (ct_g_Tree_isLeaf hL hJ a12 v34.2.2 h9) (lw_V q2887 q2803 q2804 q114 q2805) nd_X3_isLeaf rfl (le_fr hf rfl) (le_fr hlo rfl) rfl (Nat.le_of_ble_eq_true rfl) dX1_mean_52 hk ht) s_dsp0)
        have hj76 : ∀ (x2 : Int32) (x3 : Int32) (x4 : Int32) (h15 : Hp), Sim id E (QMX E finI) h15 76 [(0, vr x0), (1, .int x1), (2, .int x2), (3, .int x3), (4, .int x4)] [] (g_FinalLinks_mean_j76 rec34 x0 x1 x2 x3 x4 h15) := by
          intro x2 x3 x4 h15
          unfold g_FinalLinks_mean_j76
          refine s_iinc (la' := [(4, .int (x4 + (1 : Int32))), (0, vr x0), (1, .int x1), (2, .int x2), (3, .int x3)]) C 4 dX1_mean_76 rfl rfl (lt_nl e5 rfl) rfl ?_
          refine s_goto C 34 dX1_mean_79 (by decide) ?_
          refine Sim.keep [1, 2, 3, 4, 0] rfl ?_
          exact hr34 _ _
        refine s_if_ne C 61 dX1_mean_55 (by decide) ?_ ?_
        · refine s_iload_n C dX1_mean_61 2 rfl rfl ?_
          refine s_aload_n C dX1_mean_62 0 rfl rfl ?_
          refine s_getR [1] C (fl1 ⟨fo_X1_34_1, rfl⟩) (pl_of e4 rfl) dX1_mean_63 fun a16 => ?_
          refine s_iload C dX1_mean_66 4 rfl ?_
          refine s_dk 71 finI [.int v34.1] (fun r17 h18 => ?_) (fun hk => s_dsp 3 (fun ht => c_V C 1 [.int v34.1] 3 RX3 ro_3 (ct_g_Tree_height hL hJ a16 v34.2.2 h14) (lw_V q2150 q758 q759 q114 q760) nd_X3_height rfl (le_fr hf rfl) (le_fr hlo rfl) rfl (Nat.le_of_ble_eq_true rfl) dX1_mean_68 hk ht) s_dsp0)
          refine s_iadd C dX1_mean_71 ?_
          refine s_bdi fun a19 => ?_
          refine s_istore_n (la' := [(2, .int a19), (0, vr x0), (1, .int x1), (3, .int v34.2.1), (4, .int v34.2.2)]) C 2 dX1_mean_72 rfl (lt_nl e5 rfl) rfl ?_
          refine s_iinc (la' := [(3, .int (v34.2.1 + (1 : Int32))), (2, .int a19), (0, vr x0), (1, .int x1), (4, .int v34.2.2)]) C 3 dX1_mean_73 rfl rfl (lt_nl e5 rfl) rfl ?_
          refine Sim.keep [2, 3, 1, 0, 4] rfl ?_
          exact hj76 _ _ _ _
        · refine s_goto C 76 dX1_mean_58 (by decide) ?_
          exact hj76 _ _ _ _
    refine s_istore (la' := [(4, .int (0 : Int32)), (3, .int (0 : Int32)), (2, .int (0 : Int32)), (0, vr x0), (1, .int x1)]) C dX1_mean_32 (lt_nl e5 rfl) rfl ?_
    refine Sim.keep [3, 4, 2, 1, 0] rfl ?_
    exact hL34 _ _ _ _
  have hj23 : ∀ (x0 : Nat) (x1 : Int32) (h20 : Hp), Sim id E (QMX E finI) h20 23 [(0, vr x0), (1, .int x1)] [] (g_FinalLinks_mean_j23 x0 x1 h20) := by
    intro x0 x1 h20
    unfold g_FinalLinks_mean_j23
    refine s_iconst C (0 : Int32) dX1_mean_23 (by decide) ?_
    exact hj24 _ _ _ _
  refine s_if_le C 23 dX1_mean_7 (by decide) ?_ ?_
  · exact hj23 _ _ _
  · refine s_iload_n C dX1_mean_10 1 rfl rfl ?_
    refine s_iconst C (0 : Int32) dX1_mean_11 (by decide) ?_
    refine s_iconst C (1 : Int32) dX1_mean_12 (by decide) ?_
    refine c_S C 3 [] (ct_g_FinalLinks_isIn hL hJ x1 (0 : Int32) (1 : Int32) h3) (lw_S q2171 q1775 q107 q1776) nd_X1_isIn.2 rfl (le_fr hf rfl) (le_fr hlo rfl) rfl (Nat.le_of_ble_eq_true rfl) dX1_mean_13 fun r21 h22 => ?_
    refine s_if_eq C 23 dX1_mean_16 (by decide) ?_ ?_
    · exact hj23 _ _ _
    · refine s_iconst C (1 : Int32) dX1_mean_19 (by decide) ?_
      refine s_goto C 24 dX1_mean_20 (by decide) ?_
      exact hj24 _ _ _ _

def g_FinalLinks_said_j68 (y0 : Int32) (h6 : Hp) : Option (Int32 × Hp) :=
  some (y0, h6)
def g_FinalLinks_said_j52 (rec13 : (Int32 × Int32) → Hp → Option (Int32 × Hp)) (x0 : Nat) (x1 : Int32) (x2 : Int32) (x3 : Int32) (h11 : Hp) : Option (Int32 × Hp) :=
  rec13 (x2, (x3 + (1 : Int32))) h11
def g_FinalLinks_said_L13 (x0 : Nat) (x1 : Int32) : (Int32 × Int32) → Hp → Option (Int32 × Hp) :=
  lp FU fun rec13 v13 h2 =>
    (getR [1] 4 x0 h2).bind fun a3 =>
    bn (dsp (tg h2 a3 % 500) none [(3, g_Tree_size a3 h2)]) fun r4 h5 =>
    if r4 ≤ v13.2 then
      if x1 = (-1 : Int32) then
        g_FinalLinks_said_j68 v13.1 h5
      else
        g_FinalLinks_said_j68 (-1 : Int32) h5
    else
      (getR [1] 8 x0 h5).bind fun a7 =>
      (getR [1] 6 x0 h5).bind fun a8 =>
      bn (dsp (tg h5 a7 % 500) none [(17, (gR_holds 24).1 a7 a8 v13.2 h5), (18, g_Under_holds a7 a8 v13.2 h5), (19, g_What_holds a7 a8 v13.2 h5), (20, g_Than_holds a7 a8 v13.2 h5), (21, (gR_holds 24).2 a7 a8 v13.2 h5)]) fun r9 h10 =>
      if r9 = 0 then
        g_FinalLinks_said_j52 rec13 x0 x1 v13.1 v13.2 h10
      else
        if v13.1 = x1 then
          some (v13.2, h10)
        else
          g_FinalLinks_said_j52 rec13 x0 x1 (v13.1 + (1 : Int32)) v13.2 h10
def g_FinalLinks_said (x0 : Nat) (x1 : Int32) (h : Hp) : Option (Int32 × Hp) :=
  (getR [1] 8 x0 h).bind fun a1 =>
  if a1 = 0 then
    some ((-1 : Int32), h)
  else
    g_FinalLinks_said_L13 x0 x1 ((0 : Int32), (0 : Int32)) h
theorem ct_g_FinalLinks_said {G : Gx} {RL : Lv} {l : Launch} (hL : LvA G RL plA) (hJ : JK G RL l) (x0 : Nat) (x1 : Int32) (h : Hp) : Ct id G RL l yX1_said (ws_ yX1_said cX1_said 4 (some .int)) 125 10550 finI [vr x0, .int x1] h (g_FinalLinks_said x0 x1 h) := by
  refine Ct.of (Pl := plA) [(0, vr x0), (1, .int x1)] (by decide) hL rfl (Nat.le_of_ble_eq_true rfl) ?_
  intro E C e6 hf hlo e1 e2 e3 e4 e5
  subst e1; subst e2; subst e3
  replace C : Cx E cX1_said (some .int) RX1 := C
  replace e6 : (eMe E).name = "said" := e6
  unfold g_FinalLinks_said
  refine s_aload_n C dX1_said_0 0 rfl rfl ?_
  refine s_getR [1] C (fl1 ⟨fo_X1_106_1, rfl⟩) (pl_of e4 rfl) dX1_said_1 fun a1 => ?_
  refine s_ifnonnull C 9 dX1_said_4 (by decide) ?_ ?_
  · refine s_iconst C (0 : Int32) dX1_said_9 (by decide) ?_
    refine s_istore_n (la' := [(2, .int (0 : Int32)), (0, vr x0), (1, .int x1)]) C 2 dX1_said_10 rfl (lt_nl e5 rfl) rfl ?_
    refine s_iconst C (0 : Int32) dX1_said_11 (by decide) ?_
    have hL13 : ∀ (x0 : Nat) (x1 : Int32) (v13 : (Int32 × Int32)) (h2 : Hp), Sim id E (QM id E finI) h2 13 [(0, vr x0), (1, .int x1), (2, .int v13.1), (3, .int v13.2)] [] (g_FinalLinks_said_L13 x0 x1 v13 h2) := by
      intro x0 x1 v13 h2
      refine Sim.loop (fun v13 => [(0, vr x0), (1, .int x1), (2, .int v13.1), (3, .int v13.2)]) (fun _ => []) (fun rec13 hr13 v13 h2 => ?_) FU v13 h2
      refine s_iload_n C dX1_said_13 3 rfl rfl ?_
      refine s_aload_n C dX1_said_14 0 rfl rfl ?_
      refine s_getR [1] C (fl1 ⟨fo_X1_34_1, rfl⟩) (pl_of e4 rfl) dX1_said_15 fun a3 => ?_
      refine s_dk 21 finI [.int v13.2] (fun r4 h5 => ?_) (fun hk => s_dsp 3 (fun ht => c_V C 0 [.int v13.2] 3 RX3 ro_3 (ct_g_Tree_size hL hJ a3 h2) (lw_V q2429 q767 q768 q114 q769) nd_X3_size rfl (le_fr hf rfl) (le_fr hlo rfl) rfl (Nat.le_of_ble_eq_true rfl) dX1_said_18 hk ht) s_dsp0)
      refine s_icmp_ge C 58 dX1_said_21 (by decide) ?_ ?_
      · refine s_iload_n C dX1_said_58 1 rfl rfl ?_
        refine s_iconst C (-1 : Int32) dX1_said_59 (by decide) ?_
        have hj68 : ∀ (y0 : Int32) (h6 : Hp), Sim id E (QM id E finI) h6 68 [] [.int y0] (g_FinalLinks_said_j68 y0 h6) := by
          intro y0 h6
          exact s_iret C rfl dX1_said_68
        refine s_icmp_ne C 67 dX1_said_60 (by decide) ?_ ?_
        · refine s_iconst C (-1 : Int32) dX1_said_67 (by decide) ?_
          refine Sim.keep [] rfl ?_
          exact hj68 _ _
        · refine s_iload_n C dX1_said_63 2 rfl rfl ?_
          refine s_goto C 68 dX1_said_64 (by decide) ?_
          refine Sim.keep [] rfl ?_
          exact hj68 _ _
      · refine s_aload_n C dX1_said_24 0 rfl rfl ?_
        refine s_getR [1] C (fl1 ⟨fo_X1_106_1, rfl⟩) (pl_of e4 rfl) dX1_said_25 fun a7 => ?_
        refine s_aload_n C dX1_said_28 0 rfl rfl ?_
        refine s_getR [1] C (fl1 ⟨fo_X1_48_1, rfl⟩) (pl_of e4 rfl) dX1_said_29 fun a8 => ?_
        refine s_iload_n C dX1_said_32 3 rfl rfl ?_
        refine s_dk 36 finI [] (fun r9 h10 => ?_) (fun hk => s_dsp 17 (fun ht => c_A C 2 [] 17 RX20 "FinalLinks$Cond" ro_17 ((ctR_holds hL hJ 24).1 a7 a8 v13.2 h5) (lw_U q2782 q2784 q2785 q2786 q166 q2787) q2783 ⟨by decide +kernel, by decide +kernel, by decide +kernel⟩ rfl (le_fr hf rfl) (le_fr hlo rfl) rfl (Nat.le_of_ble_eq_true rfl) dX1_said_33 hk ht) (s_dsp 18 (fun ht => c_A C 2 [] 18 RX21 "FinalLinks$Cond" ro_18 (ct_g_Under_holds hL hJ a7 a8 v13.2 h5) (lw_U q2782 q2784 q2812 q2797 q167 q2798) q2783 ⟨by decide +kernel, by decide +kernel, by decide +kernel⟩ rfl (le_fr hf rfl) (le_fr hlo rfl) rfl (Nat.le_of_ble_eq_true rfl) dX1_said_33 hk ht) (s_dsp 19 (fun ht => c_A C 2 [] 19 RX22 "FinalLinks$Cond" ro_19 (ct_g_What_holds hL hJ a7 a8 v13.2 h5) (lw_U q2782 q2784 q2813 q2800 q168 q2801) q2783 ⟨by decide +kernel, by decide +kernel, by decide +kernel⟩ rfl (le_fr hf rfl) (le_fr hlo rfl) rfl (Nat.le_of_ble_eq_true rfl) dX1_said_33 hk ht) (s_dsp 20 (fun ht => c_A C 2 [] 20 RX23 "FinalLinks$Cond" ro_20 (ct_g_Than_holds hL hJ a7 a8 v13.2 h5) (lw_U q2782 q2784 q2810 q2789 q169 q2790) q2783 ⟨by decide +kernel, by decide +kernel, by decide +kernel⟩ rfl (le_fr hf rfl) (le_fr hlo rfl) rfl (Nat.le_of_ble_eq_true rfl) dX1_said_33 hk ht) (s_dsp 21 (fun ht => c_A C 2 [] 21 RX24 "FinalLinks$Cond" ro_21 ((ctR_holds hL hJ 24).2 a7 a8 v13.2 h5) (lw_U q2782 q2784 q2811 q2794 q170 q2795) q2783 ⟨by decide +kernel, by decide +kernel, by decide +kernel⟩ rfl (le_fr hf rfl) (le_fr hlo rfl) rfl (Nat.le_of_ble_eq_true rfl) dX1_said_33 hk ht) s_dsp0)))))
        have hj52 : ∀ (x2 : Int32) (x3 : Int32) (h11 : Hp), Sim id E (QM id E finI) h11 52 [(0, vr x0), (1, .int x1), (2, .int x2), (3, .int x3)] [] (g_FinalLinks_said_j52 rec13 x0 x1 x2 x3 h11) := by
          intro x2 x3 h11
          refine s_iinc (la' := [(3, .int (x3 + (1 : Int32))), (0, vr x0), (1, .int x1), (2, .int x2)]) C 3 dX1_said_52 rfl rfl (lt_nl e5 rfl) rfl ?_
          refine s_goto C 13 dX1_said_55 (by decide) ?_
          refine Sim.keep [1, 2, 3, 0] rfl ?_
          exact hr13 _ _
        refine s_if_ne C 42 dX1_said_36 (by decide) ?_ ?_
        · refine s_iload_n C dX1_said_42 2 rfl rfl ?_
          refine s_iload_n C dX1_said_43 1 rfl rfl ?_
          refine s_icmp_ne C 49 dX1_said_44 (by decide) ?_ ?_
          · refine s_iinc (la' := [(2, .int (v13.1 + (1 : Int32))), (0, vr x0), (1, .int x1), (3, .int v13.2)]) C 2 dX1_said_49 rfl rfl (lt_nl e5 rfl) rfl ?_
            refine Sim.keep [1, 2, 0, 3] rfl ?_
            exact hj52 _ _ _
          · refine s_iload_n C dX1_said_47 3 rfl rfl ?_
            exact s_iret C rfl dX1_said_48
        · refine s_goto C 52 dX1_said_39 (by decide) ?_
          exact hj52 _ _ _
    refine s_istore_n (la' := [(3, .int (0 : Int32)), (2, .int (0 : Int32)), (0, vr x0), (1, .int x1)]) C 3 dX1_said_12 rfl (lt_nl e5 rfl) rfl ?_
    refine Sim.keep [2, 3, 1, 0] rfl ?_
    exact hL13 _ _ _ _
  · refine s_iconst C (-1 : Int32) dX1_said_7 (by decide) ?_
    exact s_iret C rfl dX1_said_8

def g_SentenceReader_read_j22 (x1 : Nat) (y0 : Nat) (y1 : Int32) (h5 : Hp) : Option (Except Nat Nat × Hp) :=
  bx (dsp (tg h5 y0 % 500) none [(16, g_Reader_need y0 y1 (1 : Int32) h5)]) fun _ h6 =>
  some (.ok x1, h6)
def g_SentenceReader_read (x0 : Nat) (h : Hp) : Option (Except Nat Nat × Hp) :=
  bn (dsp (tg h x0 % 500) none [(16, g_Reader_go x0 h)]) fun _ h1 =>
  bx (dsp (tg h1 x0 % 500) none [(16, g_SentenceReader_or (gR_says 12) x0 h1)]) fun r2 h3 =>
  (getI [7, 15, 16] 5 x0 h3).bind fun a4 =>
  if a4 = 0 then
    g_SentenceReader_read_j22 r2 x0 (1 : Int32) h3
  else
    g_SentenceReader_read_j22 r2 x0 (0 : Int32) h3
theorem ct_g_SentenceReader_read {G : Gx} {RL : Lv} {l : Launch} (hL : LvA G RL plA) (hJ : JK G RL l) (x0 : Nat) (h : Hp) : CtX G RL l yX18_read (ws_ yX18_read cX18_read 2 (some (.object "FinalLinks$Cond"))) 151 11136 finR [vr x0] h (g_SentenceReader_read x0 h) := by
  refine CtX.of (Pl := plA) [(0, vr x0)] (by decide) hL rfl (Nat.le_of_ble_eq_true rfl) ?_
  intro E C e6 hf hlo e1 e2 e3 e4 e5 e7
  subst e1; subst e2; subst e3
  replace C : Cx E cX18_read (some (.object "FinalLinks$Cond")) RX18 := C
  replace e6 : (eMe E).name = "read" := e6
  unfold g_SentenceReader_read
  refine s_aload_n C dX18_read_0 0 rfl rfl ?_
  refine s_dk 4 finV [] (fun _ h1 => ?_) (fun hk => s_dsp 16 (fun ht => c_U C 0 [] 16 RX18 _ ro_16 (ct_g_Reader_go hL hJ x0 h) (lw_U q2657 q2658 q2659 q1560 q148 q1561) rfl nd_X7_go.2 rfl (le_fr hf rfl) (le_fr hlo rfl) rfl (Nat.le_of_ble_eq_true rfl) dX18_read_1 hk ht) s_dsp0)
  refine s_aload_n C dX18_read_4 0 rfl rfl ?_
  refine s_dkX 8 finR [] (fun _ _ => SimX.out C e7) (fun r2 h3 => ?_) (fun hx hk => s_dspX 16 (fun ht => x_V C 0 [] 16 RX18 ro_16 (ct_g_SentenceReader_or hL hJ 148 11068 (by omega) (by omega) (gR_says 12) (ctR_says hL hJ 12) x0 h1) (lw_V q2660 q2662 qs33 q164 q2663) nd_X18_or rfl (le_fr hf rfl) (le_fr hlo rfl) rfl (Nat.le_of_ble_eq_true rfl) dX18_read_5 hx hk ht) s_dspX0)
  refine s_astore_n (la' := [(1, vr r2), (0, vr x0)]) C 1 dX18_read_8 rfl (lt_nl e5 rfl) rfl ?_
  refine s_aload_n C dX18_read_9 1 rfl rfl ?_
  refine s_aload_n C dX18_read_10 1 rfl rfl ?_
  refine s_getI [7, 15, 16] C (flc ⟨fo_X18_19_7, rfl⟩ (flc ⟨fo_X18_19_15, rfl⟩ (fl1 ⟨fo_X18_19_16, rfl⟩))) (pl_of e4 rfl) dX18_read_11 fun a4 => ?_
  have hj22 : ∀ (x1 : Nat) (y0 : Nat) (y1 : Int32) (h5 : Hp), Sim id E (QMX E finR) h5 22 [(1, vr x1)] [.int y1, vr y0] (g_SentenceReader_read_j22 x1 y0 y1 h5) := by
    intro x1 y0 y1 h5
    unfold g_SentenceReader_read_j22
    refine s_iconst C (1 : Int32) dX18_read_22 (by decide) ?_
    refine s_dkX 26 finV [] (fun _ _ => SimX.out C e7) (fun _ h6 => ?_) (fun hx hk => s_dspX 16 (fun ht => x_U C 2 [] 16 RX18 _ ro_16 (ct_g_Reader_need hL hJ y0 y1 (1 : Int32) h5) (lw_U q2694 q2695 q2696 q1737 q148 q1738) rfl nd_X7_need.2 rfl (le_fr hf rfl) (le_fr hlo rfl) rfl (Nat.le_of_ble_eq_true rfl) dX18_read_23 hx hk ht) s_dspX0)
    refine s_aload_n C dX18_read_26 0 rfl rfl ?_
    exact Sim.okR (s_aret C (Or.inl ⟨_, rfl⟩) rfl dX18_read_27)
  refine s_if_ne C 21 dX18_read_14 (by decide) ?_ ?_
  · refine s_iconst C (0 : Int32) dX18_read_21 (by decide) ?_
    refine Sim.keep [0] rfl ?_
    exact hj22 _ _ _ _
  · refine s_iconst C (1 : Int32) dX18_read_17 (by decide) ?_
    refine s_goto C 22 dX18_read_18 (by decide) ?_
    refine Sim.keep [0] rfl ?_
    exact hj22 _ _ _ _

def g_FinalLinks_sentence (x0 : Nat) (h : Hp) : Option (Int32 × Hp) :=
  bn (dsp (tg h x0 % 500) none [(1, g_FinalLinks_takeAll x0 h)]) fun r1 h2 =>
  (putI [1] 0 2 x0 (0 : Int32) h2).bind fun h3 =>
  bn (newO 16 12 h3) fun o4 h5 =>
  (getR [1] 0 x0 h5).bind fun a6 =>
  (getR [1] 3 x0 h5).bind fun a7 =>
  bn (g_SentenceReader_init o4 a6 r1 a7 h5) fun _ h8 =>
  bh (dsp (tg h8 o4 % 500) none [(16, g_SentenceReader_read o4 h8)]) (fun q11 h12 => if q11 = 0 then none else
    (getI [8] 6 q11 h12).bind fun a13 =>
    (putI [1] 0 2 x0 a13 h12).bind fun h14 =>
    (getI [8] 7 q11 h14).bind fun a15 =>
    some (((-1 : Int32) - a15), h14)) fun r9 h10 =>
  (putR [1] 8 x0 r9 h10).bind fun h16 =>
  (getI [16] 10 o4 h16).bind fun a17 =>
  some (a17, h16)
theorem ct_g_FinalLinks_sentence {G : Gx} {RL : Lv} {l : Launch} (hL : LvA G RL plA) (hJ : JK G RL l) (x0 : Nat) (h : Hp) : Ct id G RL l yX1_sentence (wsW_ yX1_sentence cX1_sentence 3 (some .int) [(10, 39, 40, 116)]) 152 11157 finI [vr x0] h (g_FinalLinks_sentence x0 h) := by
  refine Ct.ofH (Pl := plA) [(0, vr x0)] (by decide) hL rfl (Nat.le_of_ble_eq_true rfl) ?_
  intro E C e6 hf hlo e1 e2 e3 e4 e5 e7
  subst e1; subst e2; subst e3
  replace C : Cx E cX1_sentence (some .int) RX1 := C
  replace e6 : (eMe E).name = "sentence" := e6
  unfold g_FinalLinks_sentence
  refine s_aload_n C dX1_sentence_0 0 rfl rfl ?_
  refine s_dk 4 finI [] (fun r1 h2 => ?_) (fun hk => s_dsp 1 (fun ht => c_V C 0 [] 1 RX1 ro_1 (ct_g_FinalLinks_takeAll hL hJ x0 h) (lw_V q1493 q1495 qs14 q107 q1496) nd_X1_takeAll rfl (le_fr hf rfl) (le_fr hlo rfl) rfl (Nat.le_of_ble_eq_true rfl) dX1_sentence_1 hk ht) s_dsp0)
  refine s_istore_n (la' := [(1, .int r1), (0, vr x0)]) C 1 dX1_sentence_4 rfl (lt_nl e5 rfl) rfl ?_
  refine s_aload_n C dX1_sentence_5 1 rfl rfl ?_
  refine s_iconst C (0 : Int32) dX1_sentence_6 (by decide) ?_
  refine s_putI [1] 0 C (by decide) (by decide) (fl1 ⟨⟨by decide, fo_X1_94_1, rfl⟩, rfl⟩) (pl_of e4 rfl) (fl1 (Or.inl rfl)) dX1_sentence_7 fun h3 => ?_
  refine s_newO 16 12 C no_X1_429 (pl_of1 e4 rfl) dX1_sentence_10 fun o4 h5 zo4 => ?_
  refine s_dup C dX1_sentence_13 rfl ?_
  refine s_aload_n C dX1_sentence_14 1 rfl rfl ?_
  refine s_getR [1] C (fl1 ⟨fo_X1_16_1, rfl⟩) (pl_of e4 rfl) dX1_sentence_15 fun a6 => ?_
  refine s_iload_n C dX1_sentence_18 0 rfl rfl ?_
  refine s_aload_n C dX1_sentence_19 1 rfl rfl ?_
  refine s_getR [1] C (fl1 ⟨fo_X1_23_1, rfl⟩) (pl_of e4 rfl) dX1_sentence_20 fun a7 => ?_
  refine c_I C 3 [vr o4] zo4 (ct_g_SentenceReader_init hL hJ o4 a6 r1 a7 h5) (lw_meth q2633) q164 q2631 q2632 rfl nd_X18_init.2 rfl (le_fr hf rfl) (le_fr hlo rfl) rfl (Nat.le_of_ble_eq_true rfl) dX1_sentence_23 fun _ h8 => ?_
  refine s_astore_n (la' := [(2, vr o4), (1, .int r1), (0, vr x0)]) C 2 dX1_sentence_26 rfl (lt_nl e5 rfl) rfl ?_
  refine s_aload_n C dX1_sentence_27 2 rfl rfl ?_
  refine s_aload_n C dX1_sentence_28 0 rfl rfl ?_
  refine s_dkX 32 finR [vr x0] (fun q11 h12 => SimX.catch8 C ⟨10, 39, 40, 116⟩ e7 rfl rfl (by decide) rfl q1492 q1741 (fun zq11 => ?_)) (fun r9 h10 => ?_) (fun hx hk => s_dspX 16 (fun ht => x_V C 0 [vr x0] 16 RX18 ro_16 (ct_g_SentenceReader_read hL hJ o4 h8) (lw_V q2653 q2654 q2655 q164 q2656) nd_X18_read rfl (le_fr hf rfl) (le_fr hlo rfl) rfl (Nat.le_of_ble_eq_true rfl) dX1_sentence_29 hx hk ht) s_dspX0)
  · refine s_astore_n (la' := [(2, vr q11), (1, .int r1), (0, vr x0)]) C 2 dX1_sentence_40 rfl (lt_nl e5 rfl) rfl ?_
    refine s_aload_n C dX1_sentence_41 2 rfl rfl ?_
    refine s_aload_n C dX1_sentence_42 0 rfl rfl ?_
    refine s_getI [8] C (fl1 ⟨fo_X1_118_8, rfl⟩) (pl_of e4 rfl) dX1_sentence_43 fun a13 => ?_
    refine s_putI [1] 0 C (by decide) (by decide) (fl1 ⟨⟨by decide, fo_X1_94_1, rfl⟩, rfl⟩) (pl_of e4 rfl) (fl1 (Or.inl rfl)) dX1_sentence_46 fun h14 => ?_
    refine s_iconst C (-1 : Int32) dX1_sentence_49 (by decide) ?_
    refine s_aload_n C dX1_sentence_50 0 rfl rfl ?_
    refine s_getI [8] C (fl1 ⟨fo_X1_121_8, rfl⟩) (pl_of e4 rfl) dX1_sentence_51 fun a15 => ?_
    refine s_isub C dX1_sentence_54 ?_
    exact s_iret C rfl dX1_sentence_55
  refine s_putR [1] C (fl1 ⟨by decide, fo_X1_106_1, rfl⟩) (pl_of e4 rfl) (fl1 (Or.inl rfl)) dX1_sentence_32 fun h16 => ?_
  refine s_aload_n C dX1_sentence_35 0 rfl rfl ?_
  refine s_getI [16] C (fl1 ⟨fo_X1_435_16, rfl⟩) (pl_of e4 rfl) dX1_sentence_36 fun a17 => ?_
  exact s_iret C rfl dX1_sentence_39
