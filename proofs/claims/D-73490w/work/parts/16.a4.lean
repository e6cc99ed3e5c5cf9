/-! THE CLASSES' METHODS (printed by hgenapp.py): functions on a heap where the library's things are single cells; contracts -/
set_option maxRecDepth 100000
def g_Tree_draw (x0 : Nat) (x1 : Int32) (h : Hp) : Option (Int32 × Hp) :=
  (getI [3] 6 x0 h).bind fun a1 =>
  (putI [3] 0 6 x0 ((a1 * (1103515245 : Int32)) + (12345 : Int32)) h).bind fun h2 =>
  (getI [3] 6 x0 h2).bind fun a3 =>
  if x1 = 0 then none else
  some (((a3.toUInt32 >>> (8 : UInt32)).toInt32 - (a3.toUInt32 >>> (8 : UInt32)).toInt32 / x1 * x1), h2)
theorem ct_g_Tree_draw {G : Gx} {RL : Lv} {l : Launch} (hL : LvA G RL plA) (hJ : JK G RL l) (x0 : Nat) (x1 : Int32) (h : Hp) : Ct id G RL l yX3_draw (ws_ yX3_draw cX3_draw 2 (some .int)) 0 0 finI [vr x0, .int x1] h (g_Tree_draw x0 x1 h) := by
  refine Ct.of (Pl := plA) [(0, vr x0), (1, .int x1)] (by decide) hL rfl (Nat.le_of_ble_eq_true rfl) ?_
  intro E C e6 hf hlo e1 e2 e3 e4 e5
  subst e1; subst e2; subst e3
  replace C : Cx E cX3_draw (some .int) RX3 := C
  replace e6 : (eMe E).name = "draw" := e6
  unfold g_Tree_draw
  refine s_aload_n C dX3_draw_0 0 rfl rfl ?_
  refine s_aload_n C dX3_draw_1 0 rfl rfl ?_
  refine s_getI [3] C (fl1 ⟨fo_X3_217_3, rfl⟩) (pl_of e4 rfl) dX3_draw_2 fun a1 => ?_
  refine s_ldci C q2523 dX3_draw_5 ?_
  refine s_imul C dX3_draw_7 ?_
  refine s_sipush C (12345 : Int32) dX3_draw_8 (by decide) ?_
  refine s_iadd C dX3_draw_11 ?_
  refine s_putI [3] 0 C (by decide) (by decide) (fl1 ⟨⟨by decide, fo_X3_217_3, rfl⟩, rfl⟩) (pl_of e4 rfl) (fl1 (Or.inl rfl)) dX3_draw_12 fun h2 => ?_
  refine s_aload_n C dX3_draw_15 0 rfl rfl ?_
  refine s_getI [3] C (fl1 ⟨fo_X3_217_3, rfl⟩) (pl_of e4 rfl) dX3_draw_16 fun a3 => ?_
  refine s_bipush C (8 : Int32) dX3_draw_19 (by decide) ?_
  refine s_iushr C (8 : UInt32) dX3_draw_21 (by decide) ?_
  refine s_iload_n C dX3_draw_22 1 rfl rfl ?_
  refine s_irem C dX3_draw_23 ?_
  exact s_iret C rfl dX3_draw_24

def g_Tree_drawsOne_j132 (y0 : Int32) (h17 : Hp) : Option (Int32 × Hp) :=
  if nrw 2 y0 = y0 then some (y0, h17) else none
def g_Tree_drawsOne_j49 (y0 : Int32) (h37 : Hp) : Option (Int32 × Hp) :=
  if nrw 2 y0 = y0 then some (y0, h37) else none
def g_Tree_drawsOne (x0 : Nat) (h : Hp) : Option (Int32 × Hp) :=
  bn (dsp (tg h x0 % 500) none [(3, g_Tree_size x0 h)]) fun r1 h2 =>
  if r1 = 0 then
    if nrw 2 (0 : Int32) = (0 : Int32) then some ((0 : Int32), h2) else none
  else
    bn (dsp (tg h2 x0 % 500) none [(3, g_Tree_draw x0 (8 : Int32) h2)]) fun r3 h4 =>
    bn (dsp (tg h4 x0 % 500) none [(3, g_Tree_size x0 h4)]) fun r5 h6 =>
    bn (dsp (tg h6 x0 % 500) none [(3, g_Tree_draw x0 r5 h6)]) fun r7 h8 =>
    if r3 = 0 then
      bn (newO 14 1 h8) fun o32 h33 =>
      bn (g_Grows_init o32 r7 h33) fun _ h34 =>
      bn (dsp (tg h34 o32 % 500) none [(14, g_Grows_does o32 x0 h34)]) fun r35 h36 =>
      if r35 = 0 then
        g_Tree_drawsOne_j49 (1 : Int32) h36
      else
        g_Tree_drawsOne_j49 (0 : Int32) h36
    else
      (getR [3] 0 x0 h8).bind fun a9 =>
      bn (dsp (tg h8 a9 % 500) none [(2, g_Chain_voters a9 h8)]) fun r10 h11 =>
      if r10 = 0 then
        if nrw 2 (0 : Int32) = (0 : Int32) then some ((0 : Int32), h11) else none
      else
        (getR [3] 0 x0 h11).bind fun a12 =>
        bn (dsp (tg h11 a12 % 500) none [(2, g_Chain_voters a12 h11)]) fun r13 h14 =>
        bn (dsp (tg h14 x0 % 500) none [(3, g_Tree_draw x0 r13 h14)]) fun r15 h16 =>
        if (3 : Int32) ≤ r3 then
          bn (newO 11 3 h16) fun o18 h19 =>
          bn (dsp (tg h19 x0 % 500) none [(3, g_Tree_size x0 h19)]) fun r20 h21 =>
          bn (dsp (tg h21 x0 % 500) none [(3, g_Tree_draw x0 r20 h21)]) fun r22 h23 =>
          bn (g_Casts_init o18 r15 r7 r22 h23) fun _ h24 =>
          bn (dsp (tg h24 o18 % 500) none [(11, g_Casts_does o18 x0 h24)]) fun r25 h26 =>
          if r25 = 0 then
            g_Tree_drawsOne_j132 (1 : Int32) h26
          else
            g_Tree_drawsOne_j132 (0 : Int32) h26
        else
          bn (newO 13 2 h16) fun o27 h28 =>
          bn (g_Looks_init o27 r15 r7 h28) fun _ h29 =>
          bn (dsp (tg h29 o27 % 500) none [(13, g_Looks_does o27 x0 h29)]) fun r30 h31 =>
          if r30 = 0 then
            g_Tree_drawsOne_j132 (1 : Int32) h31
          else
            g_Tree_drawsOne_j132 (0 : Int32) h31
theorem ct_g_Tree_drawsOne {G : Gx} {RL : Lv} {l : Launch} (hL : LvA G RL plA) (hJ : JK G RL l) (x0 : Nat) (h : Hp) : Ct id G RL l yX3_drawsOne (ws_ yX3_drawsOne cX3_drawsOne 4 (some .boolean)) 46 4132 finI [vr x0] h (g_Tree_drawsOne x0 h) := by
  refine Ct.of (Pl := plA) [(0, vr x0)] (by decide) hL rfl (Nat.le_of_ble_eq_true rfl) ?_
  intro E C e6 hf hlo e1 e2 e3 e4 e5
  subst e1; subst e2; subst e3
  replace C : Cx E cX3_drawsOne (some .boolean) RX3 := C
  replace e6 : (eMe E).name = "drawsOne" := e6
  unfold g_Tree_drawsOne
  refine s_aload_n C dX3_drawsOne_0 0 rfl rfl ?_
  refine s_dk 4 finI [] (fun r1 h2 => ?_) (fun hk => s_dsp 3 (fun ht => c_V C 0 [] 3 RX3 ro_3 (ct_g_Tree_size hL hJ x0 h) (lw_V q2143 q767 q768 q114 q769) nd_X3_size rfl (le_fr hf rfl) (le_fr hlo rfl) rfl (Nat.le_of_ble_eq_true rfl) dX3_drawsOne_1 hk ht) s_dsp0)
  refine s_if_ne C 9 dX3_drawsOne_4 (by decide) ?_ ?_
  · refine s_aload_n C dX3_drawsOne_9 0 rfl rfl ?_
    refine s_bipush C (8 : Int32) dX3_drawsOne_10 (by decide) ?_
    refine s_dk 15 finI [] (fun r3 h4 => ?_) (fun hk => s_dsp 3 (fun ht => c_V C 1 [] 3 RX3 ro_3 (ct_g_Tree_draw hL hJ x0 (8 : Int32) h2) (lw_V q2519 q2521 qs30 q114 q2522) nd_X3_draw rfl (le_fr hf rfl) (le_fr hlo rfl) rfl (Nat.le_of_ble_eq_true rfl) dX3_drawsOne_12 hk ht) s_dsp0)
    refine s_istore_n (la' := [(1, .int r3), (0, vr x0)]) C 1 dX3_drawsOne_15 rfl (lt_nl e5 rfl) rfl ?_
    refine s_aload_n C dX3_drawsOne_16 1 rfl rfl ?_
    refine s_aload_n C dX3_drawsOne_17 1 rfl rfl ?_
    refine s_dk 21 finI [vr x0] (fun r5 h6 => ?_) (fun hk => s_dsp 3 (fun ht => c_V C 0 [vr x0] 3 RX3 ro_3 (ct_g_Tree_size hL hJ x0 h4) (lw_V q2143 q767 q768 q114 q769) nd_X3_size rfl (le_fr hf rfl) (le_fr hlo rfl) rfl (Nat.le_of_ble_eq_true rfl) dX3_drawsOne_18 hk ht) s_dsp0)
    refine s_dk 24 finI [] (fun r7 h8 => ?_) (fun hk => s_dsp 3 (fun ht => c_V C 1 [] 3 RX3 ro_3 (ct_g_Tree_draw hL hJ x0 r5 h6) (lw_V q2519 q2521 qs30 q114 q2522) nd_X3_draw rfl (le_fr hf rfl) (le_fr hlo rfl) rfl (Nat.le_of_ble_eq_true rfl) dX3_drawsOne_21 hk ht) s_dsp0)
    refine s_istore_n (la' := [(2, .int r7), (1, .int r3), (0, vr x0)]) C 2 dX3_drawsOne_24 rfl (lt_nl e5 rfl) rfl ?_
    refine s_iload_n C dX3_drawsOne_25 1 rfl rfl ?_
    refine s_if_ne C 50 dX3_drawsOne_26 (by decide) ?_ ?_
    · refine s_aload_n C dX3_drawsOne_50 2 rfl rfl ?_
      refine s_getR [3] C (fl1 ⟨fo_X3_44_3, rfl⟩) (pl_of e4 rfl) dX3_drawsOne_51 fun a9 => ?_
      refine s_dk 57 finI [] (fun r10 h11 => ?_) (fun hk => s_dsp 2 (fun ht => c_V C 0 [] 2 RX2 ro_2 (ct_g_Chain_voters hL hJ a9 h8) (lw_V q1329 q1330 q1331 q108 q1332) nd_X2_voters rfl (le_fr hf rfl) (le_fr hlo rfl) rfl (Nat.le_of_ble_eq_true rfl) dX3_drawsOne_54 hk ht) s_dsp0)
      refine s_if_ne C 62 dX3_drawsOne_57 (by decide) ?_ ?_
      · refine s_aload_n C dX3_drawsOne_62 2 rfl rfl ?_
        refine s_aload_n C dX3_drawsOne_63 2 rfl rfl ?_
        refine s_getR [3] C (fl1 ⟨fo_X3_44_3, rfl⟩) (pl_of e4 rfl) dX3_drawsOne_64 fun a12 => ?_
        refine s_dk 70 finI [vr x0] (fun r13 h14 => ?_) (fun hk => s_dsp 2 (fun ht => c_V C 0 [vr x0] 2 RX2 ro_2 (ct_g_Chain_voters hL hJ a12 h11) (lw_V q1329 q1330 q1331 q108 q1332) nd_X2_voters rfl (le_fr hf rfl) (le_fr hlo rfl) rfl (Nat.le_of_ble_eq_true rfl) dX3_drawsOne_67 hk ht) s_dsp0)
        refine s_dk 73 finI [] (fun r15 h16 => ?_) (fun hk => s_dsp 3 (fun ht => c_V C 1 [] 3 RX3 ro_3 (ct_g_Tree_draw hL hJ x0 r13 h14) (lw_V q2519 q2521 qs30 q114 q2522) nd_X3_draw rfl (le_fr hf rfl) (le_fr hlo rfl) rfl (Nat.le_of_ble_eq_true rfl) dX3_drawsOne_70 hk ht) s_dsp0)
        refine s_istore_n (la' := [(3, .int r15), (2, .int r7), (1, .int r3), (0, vr x0)]) C 3 dX3_drawsOne_73 rfl (lt_nl e5 rfl) rfl ?_
        refine s_iload_n C dX3_drawsOne_74 2 rfl rfl ?_
        refine s_iconst C (3 : Int32) dX3_drawsOne_75 (by decide) ?_
        have hj132 : ∀ (y0 : Int32) (h17 : Hp), Sim id E (QM id E finI) h17 132 [] [.int y0] (g_Tree_drawsOne_j132 y0 h17) := by
          intro y0 h17
          exact s_zret 2 C (by decide) (by decide) rfl dX3_drawsOne_132
        refine s_icmp_ge C 103 dX3_drawsOne_76 (by decide) ?_ ?_
        · refine s_newO 11 3 C no_X3_235 (pl_of1 e4 rfl) dX3_drawsOne_103 fun o18 h19 zo18 => ?_
          refine s_dup C dX3_drawsOne_106 rfl ?_
          refine s_iload_n C dX3_drawsOne_107 0 rfl rfl ?_
          refine s_iload_n C dX3_drawsOne_108 1 rfl rfl ?_
          refine s_aload_n C dX3_drawsOne_109 3 rfl rfl ?_
          refine s_aload_n C dX3_drawsOne_110 3 rfl rfl ?_
          refine s_dk 114 finI [vr x0, .int r7, .int r15, vr o18, vr o18] (fun r20 h21 => ?_) (fun hk => s_dsp 3 (fun ht => c_V C 0 [vr x0, .int r7, .int r15, vr o18, vr o18] 3 RX3 ro_3 (ct_g_Tree_size hL hJ x0 h19) (lw_V q2143 q767 q768 q114 q769) nd_X3_size rfl (le_fr hf rfl) (le_fr hlo rfl) rfl (Nat.le_of_ble_eq_true rfl) dX3_drawsOne_111 hk ht) s_dsp0)
          refine s_dk 117 finI [.int r7, .int r15, vr o18, vr o18] (fun r22 h23 => ?_) (fun hk => s_dsp 3 (fun ht => c_V C 1 [.int r7, .int r15, vr o18, vr o18] 3 RX3 ro_3 (ct_g_Tree_draw hL hJ x0 r20 h21) (lw_V q2519 q2521 qs30 q114 q2522) nd_X3_draw rfl (le_fr hf rfl) (le_fr hlo rfl) rfl (Nat.le_of_ble_eq_true rfl) dX3_drawsOne_114 hk ht) s_dsp0)
          refine c_I C 3 [vr o18] zo18 (ct_g_Casts_init hL hJ o18 r15 r7 r22 h23) (lw_meth q2205) q159 q2531 q2204 rfl nd_X13_init.2 rfl (le_fr hf rfl) (le_fr hlo rfl) rfl (Nat.le_of_ble_eq_true rfl) dX3_drawsOne_117 fun _ h24 => ?_
          refine s_aload_n C dX3_drawsOne_120 3 rfl rfl ?_
          refine s_dk 124 finI [] (fun r25 h26 => ?_) (fun hk => s_dsp 11 (fun ht => c_V C 1 [] 11 RX13 ro_11 (ct_g_Casts_does hL hJ o18 x0 h24) (lw_V q2532 q2258 q3574 q159 q2259) nd_X13_does rfl (le_fr hf rfl) (le_fr hlo rfl) rfl (Nat.le_of_ble_eq_true rfl) dX3_drawsOne_121 hk ht) s_dsp0)
          refine s_if_ne C 131 dX3_drawsOne_124 (by decide) ?_ ?_
          · refine s_iconst C (0 : Int32) dX3_drawsOne_131 (by decide) ?_
            refine Sim.keep [] rfl ?_
            exact hj132 _ _
          · refine s_iconst C (1 : Int32) dX3_drawsOne_127 (by decide) ?_
            refine s_goto C 132 dX3_drawsOne_128 (by decide) ?_
            refine Sim.keep [] rfl ?_
            exact hj132 _ _
        · refine s_newO 13 2 C no_X3_231 (pl_of1 e4 rfl) dX3_drawsOne_79 fun o27 h28 zo27 => ?_
          refine s_dup C dX3_drawsOne_82 rfl ?_
          refine s_iload_n C dX3_drawsOne_83 0 rfl rfl ?_
          refine s_iload_n C dX3_drawsOne_84 1 rfl rfl ?_
          refine c_I C 2 [vr o27] zo27 (ct_g_Looks_init hL hJ o27 r15 r7 h28) (lw_meth q2342) q161 q2528 q2341 rfl nd_X15_init.2 rfl (le_fr hf rfl) (le_fr hlo rfl) rfl (Nat.le_of_ble_eq_true rfl) dX3_drawsOne_85 fun _ h29 => ?_
          refine s_aload_n C dX3_drawsOne_88 3 rfl rfl ?_
          refine s_dk 92 finI [] (fun r30 h31 => ?_) (fun hk => s_dsp 13 (fun ht => c_V C 1 [] 13 RX15 ro_13 (ct_g_Looks_does hL hJ o27 x0 h29) (lw_V q2529 q2321 q3573 q161 q2322) nd_X15_does rfl (le_fr hf rfl) (le_fr hlo rfl) rfl (Nat.le_of_ble_eq_true rfl) dX3_drawsOne_89 hk ht) s_dsp0)
          refine s_if_ne C 99 dX3_drawsOne_92 (by decide) ?_ ?_
          · refine s_iconst C (0 : Int32) dX3_drawsOne_99 (by decide) ?_
            refine s_goto C 132 dX3_drawsOne_100 (by decide) ?_
            refine Sim.keep [] rfl ?_
            exact hj132 _ _
          · refine s_iconst C (1 : Int32) dX3_drawsOne_95 (by decide) ?_
            refine s_goto C 132 dX3_drawsOne_96 (by decide) ?_
            refine Sim.keep [] rfl ?_
            exact hj132 _ _
      · refine s_iconst C (0 : Int32) dX3_drawsOne_60 (by decide) ?_
        exact s_zret 2 C (by decide) (by decide) rfl dX3_drawsOne_61
    · refine s_newO 14 1 C no_X3_224 (pl_of1 e4 rfl) dX3_drawsOne_29 fun o32 h33 zo32 => ?_
      refine s_dup C dX3_drawsOne_32 rfl ?_
      refine s_iload_n C dX3_drawsOne_33 0 rfl rfl ?_
      refine c_I C 1 [vr o32] zo32 (ct_g_Grows_init hL hJ o32 r7 h33) (lw_meth q2359) q162 q2525 q2358 rfl nd_X16_init.2 rfl (le_fr hf rfl) (le_fr hlo rfl) rfl (Nat.le_of_ble_eq_true rfl) dX3_drawsOne_34 fun _ h34 => ?_
      refine s_aload_n C dX3_drawsOne_37 2 rfl rfl ?_
      refine s_dk 41 finI [] (fun r35 h36 => ?_) (fun hk => s_dsp 14 (fun ht => c_V C 1 [] 14 RX16 ro_14 (ct_g_Grows_does hL hJ o32 x0 h34) (lw_V q2526 q2312 q3572 q162 q2313) nd_X16_does rfl (le_fr hf rfl) (le_fr hlo rfl) rfl (Nat.le_of_ble_eq_true rfl) dX3_drawsOne_38 hk ht) s_dsp0)
      have hj49 : ∀ (y0 : Int32) (h37 : Hp), Sim id E (QM id E finI) h37 49 [] [.int y0] (g_Tree_drawsOne_j49 y0 h37) := by
        intro y0 h37
        exact s_zret 2 C (by decide) (by decide) rfl dX3_drawsOne_49
      refine s_if_ne C 48 dX3_drawsOne_41 (by decide) ?_ ?_
      · refine s_iconst C (0 : Int32) dX3_drawsOne_48 (by decide) ?_
        refine Sim.keep [] rfl ?_
        exact hj49 _ _
      · refine s_iconst C (1 : Int32) dX3_drawsOne_44 (by decide) ?_
        refine s_goto C 49 dX3_drawsOne_45 (by decide) ?_
        refine Sim.keep [] rfl ?_
        exact hj49 _ _
  · refine s_iconst C (0 : Int32) dX3_drawsOne_7 (by decide) ?_
    exact s_zret 2 C (by decide) (by decide) rfl dX3_drawsOne_8

def g_Tree_drawn_j26 (rec10 : (Int32 × Int32) → Hp → Option (Int32 × Hp)) (x0 : Nat) (x1 : Int32) (x3 : Int32) (x4 : Int32) (h5 : Hp) : Option (Int32 × Hp) :=
  rec10 (x3, (x4 + (1 : Int32))) h5
def g_Tree_drawn_L10 (x0 : Nat) (x1 : Int32) : (Int32 × Int32) → Hp → Option (Int32 × Hp) :=
  lp FU fun rec10 v10 h2 =>
    if x1 ≤ v10.2 then
      some (v10.1, h2)
    else
      bn (dsp (tg h2 x0 % 500) none [(3, g_Tree_drawsOne x0 h2)]) fun r3 h4 =>
      if r3 = 0 then
        g_Tree_drawn_j26 rec10 x0 x1 v10.1 v10.2 h4
      else
        g_Tree_drawn_j26 rec10 x0 x1 (v10.1 + (1 : Int32)) v10.2 h4
def g_Tree_drawn (x0 : Nat) (x1 : Int32) (x2 : Int32) (h : Hp) : Option (Int32 × Hp) :=
  (putI [3] 0 6 x0 x2 h).bind fun h1 =>
  g_Tree_drawn_L10 x0 x1 ((0 : Int32), (0 : Int32)) h1
theorem ct_g_Tree_drawn {G : Gx} {RL : Lv} {l : Launch} (hL : LvA G RL plA) (hJ : JK G RL l) (x0 : Nat) (x1 : Int32) (x2 : Int32) (h : Hp) : Ct id G RL l yX3_drawn (ws_ yX3_drawn cX3_drawn 5 (some .int)) 47 4155 finI [vr x0, .int x1, .int x2] h (g_Tree_drawn x0 x1 x2 h) := by
  refine Ct.of (Pl := plA) [(0, vr x0), (1, .int x1), (2, .int x2)] (by decide) hL rfl (Nat.le_of_ble_eq_true rfl) ?_
  intro E C e6 hf hlo e1 e2 e3 e4 e5
  subst e1; subst e2; subst e3
  replace C : Cx E cX3_drawn (some .int) RX3 := C
  replace e6 : (eMe E).name = "drawn" := e6
  unfold g_Tree_drawn
  refine s_aload_n C dX3_drawn_0 0 rfl rfl ?_
  refine s_iload_n C dX3_drawn_1 2 rfl rfl ?_
  refine s_putI [3] 0 C (by decide) (by decide) (fl1 ⟨⟨by decide, fo_X3_217_3, rfl⟩, rfl⟩) (pl_of e4 rfl) (fl1 (Or.inl rfl)) dX3_drawn_2 fun h1 => ?_
  refine s_iconst C (0 : Int32) dX3_drawn_5 (by decide) ?_
  refine s_istore_n (la' := [(3, .int (0 : Int32)), (0, vr x0), (1, .int x1), (2, .int x2)]) C 3 dX3_drawn_6 rfl (lt_nl e5 rfl) rfl ?_
  refine s_iconst C (0 : Int32) dX3_drawn_7 (by decide) ?_
  have hL10 : ∀ (x0 : Nat) (x1 : Int32) (v10 : (Int32 × Int32)) (h2 : Hp), Sim id E (QM id E finI) h2 10 [(0, vr x0), (1, .int x1), (3, .int v10.1), (4, .int v10.2)] [] (g_Tree_drawn_L10 x0 x1 v10 h2) := by
    intro x0 x1 v10 h2
    refine Sim.loop (fun v10 => [(0, vr x0), (1, .int x1), (3, .int v10.1), (4, .int v10.2)]) (fun _ => []) (fun rec10 hr10 v10 h2 => ?_) FU v10 h2
    refine s_iload C dX3_drawn_10 3 rfl ?_
    refine s_iload_n C dX3_drawn_12 1 rfl rfl ?_
    refine s_icmp_ge C 32 dX3_drawn_13 (by decide) ?_ ?_
    · refine s_iload_n C dX3_drawn_32 2 rfl rfl ?_
      exact s_iret C rfl dX3_drawn_33
    · refine s_aload_n C dX3_drawn_16 0 rfl rfl ?_
      refine s_dk 20 finI [] (fun r3 h4 => ?_) (fun hk => s_dsp 3 (fun ht => c_V C 0 [] 3 RX3 ro_3 (ct_g_Tree_drawsOne hL hJ x0 h2) (lw_V q2515 q2517 qs29 q114 q2518) nd_X3_drawsOne rfl (le_fr hf rfl) (le_fr hlo rfl) rfl (Nat.le_of_ble_eq_true rfl) dX3_drawn_17 hk ht) s_dsp0)
      have hj26 : ∀ (x3 : Int32) (x4 : Int32) (h5 : Hp), Sim id E (QM id E finI) h5 26 [(0, vr x0), (1, .int x1), (3, .int x3), (4, .int x4)] [] (g_Tree_drawn_j26 rec10 x0 x1 x3 x4 h5) := by
        intro x3 x4 h5
        refine s_iinc (la' := [(4, .int (x4 + (1 : Int32))), (0, vr x0), (1, .int x1), (3, .int x3)]) C 3 dX3_drawn_26 rfl rfl (lt_nl e5 rfl) rfl ?_
        refine s_goto C 10 dX3_drawn_29 (by decide) ?_
        refine Sim.keep [1, 2, 3, 0] rfl ?_
        exact hr10 _ _
      refine s_if_eq C 26 dX3_drawn_20 (by decide) ?_ ?_
      · exact hj26 _ _ _
      · refine s_iinc (la' := [(3, .int (v10.1 + (1 : Int32))), (0, vr x0), (1, .int x1), (4, .int v10.2)]) C 2 dX3_drawn_23 rfl rfl (lt_nl e5 rfl) rfl ?_
        refine Sim.keep [1, 2, 0, 3] rfl ?_
        exact hj26 _ _ _
  refine s_istore (la' := [(4, .int (0 : Int32)), (3, .int (0 : Int32)), (0, vr x0), (1, .int x1), (2, .int x2)]) C dX3_drawn_8 (lt_nl e5 rfl) rfl ?_
  refine Sim.keep [2, 3, 1, 0] rfl ?_
  exact hL10 _ _ _ _

def g_FinalLinks_drawn_j37 (x3 : Int32) (h9 : Hp) : Option (Int32 × Hp) :=
  some (x3, h9)
def g_FinalLinks_drawn (x0 : Nat) (x1 : Int32) (x2 : Int32) (h : Hp) : Option (Int32 × Hp) :=
  bn (g_FinalLinks_isIn x1 (1 : Int32) (60 : Int32) h) fun r1 h2 =>
  if r1 = 0 then
    some ((-1 : Int32), h2)
  else
    (getR [1] 5 x0 h2).bind fun a3 =>
    (getR [1] 4 x0 h2).bind fun a4 =>
    bn (dsp (tg h2 a3 % 500) none [(3, g_Tree_as a3 a4 h2)]) fun r5 h6 =>
    bn (dsp (tg h6 r5 % 500) none [(3, g_Tree_drawn r5 x1 x2 h6)]) fun r7 h8 =>
    if r7 ≤ 0 then
      g_FinalLinks_drawn_j37 r7 h8
    else
      bn (dsp (tg h8 x0 % 500) none [(1, g_FinalLinks_lives x0 h8)]) fun _ h10 =>
      g_FinalLinks_drawn_j37 r7 h10
theorem ct_g_FinalLinks_drawn {G : Gx} {RL : Lv} {l : Launch} (hL : LvA G RL plA) (hJ : JK G RL l) (x0 : Nat) (x1 : Int32) (x2 : Int32) (h : Hp) : Ct id G RL l yX1_drawn (ws_ yX1_drawn cX1_drawn 4 (some .int)) 49 4198 finI [vr x0, .int x1, .int x2] h (g_FinalLinks_drawn x0 x1 x2 h) := by
  refine Ct.of (Pl := plA) [(0, vr x0), (1, .int x1), (2, .int x2)] (by decide) hL rfl (Nat.le_of_ble_eq_true rfl) ?_
  intro E C e6 hf hlo e1 e2 e3 e4 e5
  subst e1; subst e2; subst e3
  replace C : Cx E cX1_drawn (some .int) RX1 := C
  replace e6 : (eMe E).name = "drawn" := e6
  unfold g_FinalLinks_drawn
  refine s_iload_n C dX1_drawn_0 1 rfl rfl ?_
  refine s_iconst C (1 : Int32) dX1_drawn_1 (by decide) ?_
  refine s_bipush C (60 : Int32) dX1_drawn_2 (by decide) ?_
  refine c_S C 3 [] (ct_g_FinalLinks_isIn hL hJ x1 (1 : Int32) (60 : Int32) h) (lw_S q2171 q1775 q107 q1776) nd_X1_isIn.2 rfl (le_fr hf rfl) (le_fr hlo rfl) rfl (Nat.le_of_ble_eq_true rfl) dX1_drawn_4 fun r1 h2 => ?_
  refine s_if_ne C 12 dX1_drawn_7 (by decide) ?_ ?_
  · refine s_aload_n C dX1_drawn_12 0 rfl rfl ?_
    refine s_getR [1] C (fl1 ⟨fo_X1_38_1, rfl⟩) (pl_of e4 rfl) dX1_drawn_13 fun a3 => ?_
    refine s_aload_n C dX1_drawn_16 0 rfl rfl ?_
    refine s_getR [1] C (fl1 ⟨fo_X1_34_1, rfl⟩) (pl_of e4 rfl) dX1_drawn_17 fun a4 => ?_
    refine s_dk 23 finR [] (fun r5 h6 => ?_) (fun hk => s_dsp 3 (fun ht => c_V C 1 [] 3 RX3 ro_3 (ct_g_Tree_as hL hJ a3 a4 h2) (lw_V q2224 q2225 q2226 q114 q2227) nd_X3_as rfl (le_fr hf rfl) (le_fr hlo rfl) rfl (Nat.le_of_ble_eq_true rfl) dX1_drawn_20 hk ht) s_dsp0)
    refine s_iload_n C dX1_drawn_23 1 rfl rfl ?_
    refine s_iload_n C dX1_drawn_24 2 rfl rfl ?_
    refine s_dk 28 finI [] (fun r7 h8 => ?_) (fun hk => s_dsp 3 (fun ht => c_V C 2 [] 3 RX3 ro_3 (ct_g_Tree_drawn hL hJ r5 x1 x2 h6) (lw_V q2511 q2512 q2513 q114 q2514) nd_X3_drawn rfl (le_fr hf rfl) (le_fr hlo rfl) rfl (Nat.le_of_ble_eq_true rfl) dX1_drawn_25 hk ht) s_dsp0)
    refine s_istore_n (la' := [(3, .int r7), (0, vr x0), (1, .int x1), (2, .int x2)]) C 3 dX1_drawn_28 rfl (lt_nl e5 rfl) rfl ?_
    refine s_iload_n C dX1_drawn_29 0 rfl rfl ?_
    have hj37 : ∀ (x3 : Int32) (h9 : Hp), Sim id E (QM id E finI) h9 37 [(3, .int x3)] [] (g_FinalLinks_drawn_j37 x3 h9) := by
      intro x3 h9
      refine s_iload_n C dX1_drawn_37 0 rfl rfl ?_
      exact s_iret C rfl dX1_drawn_38
    refine s_if_le C 37 dX1_drawn_30 (by decide) ?_ ?_
    · refine Sim.keep [0] rfl ?_
      exact hj37 _ _
    · refine s_aload_n C dX1_drawn_33 1 rfl rfl ?_
      refine s_dk 37 finV [] (fun _ h10 => ?_) (fun hk => s_dsp 1 (fun ht => c_V C 0 [] 1 RX1 ro_1 (ct_g_FinalLinks_lives hL hJ x0 h8) (lw_V q2326 q2328 qs26 q107 q2329) nd_X1_lives rfl (le_fr hf rfl) (le_fr hlo rfl) rfl (Nat.le_of_ble_eq_true rfl) dX1_drawn_34 hk ht) s_dsp0)
      refine Sim.keep [0] rfl ?_
      exact hj37 _ _
  · refine s_iconst C (-1 : Int32) dX1_drawn_10 (by decide) ?_
    exact s_iret C rfl dX1_drawn_11

def g_FinalLinks_end_j12  (h1 : Hp) : Option (Int32 × Hp) :=
  if nrw 2 (0 : Int32) = (0 : Int32) then some ((0 : Int32), h1) else none
def g_FinalLinks_end (x0 : Nat) (x1 : Int32) (h : Hp) : Option (Int32 × Hp) :=
  if x1 < 0 then
    g_FinalLinks_end_j12 h
  else
    (getI [1] 1 x0 h).bind fun a2 =>
    if x1 ≤ a2 then
      (putI [1] 0 1 x0 x1 h).bind fun h3 =>
      if nrw 2 (1 : Int32) = (1 : Int32) then some ((1 : Int32), h3) else none
    else
      g_FinalLinks_end_j12 h
theorem ct_g_FinalLinks_end {G : Gx} {RL : Lv} {l : Launch} (hL : LvA G RL plA) (hJ : JK G RL l) (x0 : Nat) (x1 : Int32) (h : Hp) : Ct id G RL l yX1_end (ws_ yX1_end cX1_end 2 (some .boolean)) 0 0 finI [vr x0, .int x1] h (g_FinalLinks_end x0 x1 h) := by
  refine Ct.of (Pl := plA) [(0, vr x0), (1, .int x1)] (by decide) hL rfl (Nat.le_of_ble_eq_true rfl) ?_
  intro E C e6 hf hlo e1 e2 e3 e4 e5
  subst e1; subst e2; subst e3
  replace C : Cx E cX1_end (some .boolean) RX1 := C
  replace e6 : (eMe E).name = "end" := e6
  unfold g_FinalLinks_end
  refine s_iload_n C dX1_end_0 1 rfl rfl ?_
  have hj12 : ∀  (h1 : Hp), Sim id E (QM id E finI) h1 12 [] [] (g_FinalLinks_end_j12 h1) := by
    intro h1
    refine s_iconst C (0 : Int32) dX1_end_12 (by decide) ?_
    exact s_zret 2 C (by decide) (by decide) rfl dX1_end_13
  refine s_if_lt C 12 dX1_end_1 (by decide) ?_ ?_
  · refine Sim.keep [] rfl ?_
    exact hj12 _
  · refine s_iload_n C dX1_end_4 1 rfl rfl ?_
    refine s_aload_n C dX1_end_5 0 rfl rfl ?_
    refine s_getI [1] C (fl1 ⟨fo_X1_83_1, rfl⟩) (pl_of e4 rfl) dX1_end_6 fun a2 => ?_
    refine s_icmp_le C 14 dX1_end_9 (by decide) ?_ ?_
    · refine s_aload_n C dX1_end_14 0 rfl rfl ?_
      refine s_iload_n C dX1_end_15 1 rfl rfl ?_
      refine s_putI [1] 0 C (by decide) (by decide) (fl1 ⟨⟨by decide, fo_X1_83_1, rfl⟩, rfl⟩) (pl_of e4 rfl) (fl1 (Or.inl rfl)) dX1_end_16 fun h3 => ?_
      refine s_iconst C (1 : Int32) dX1_end_19 (by decide) ?_
      exact s_zret 2 C (by decide) (by decide) rfl dX1_end_20
    · refine Sim.keep [] rfl ?_
      exact hj12 _

def g_FinalLinks_evidence_j109 (y0 : Int32) (h11 : Hp) : Option (Int32 × Hp) :=
  some (y0, h11)
def g_FinalLinks_evidence (x0 : Nat) (x1 : Int32) (x2 : Int32) (h : Hp) : Option (Int32 × Hp) :=
  (getR [1] 6 x0 h).bind fun a1 =>
  (getI [4] 5 a1 h).bind fun a2 =>
  bn (g_FinalLinks_isIn x1 (0 : Int32) (a2 - (1 : Int32)) h) fun r3 h4 =>
  if r3 = 0 then
    some ((-1 : Int32), h4)
  else
    (getR [1] 6 x0 h4).bind fun a5 =>
    (getR [4] 10 a5 h4).bind fun a6 =>
    (aldI [200] a6 x1 h4).bind fun a7 =>
    (getR [1] 6 x0 h4).bind fun a8 =>
    (getR [4] 11 a8 h4).bind fun a9 =>
    (aldI [200] a9 x1 h4).bind fun a10 =>
    if x2 = 0 then
      g_FinalLinks_evidence_j109 a7 h4
    else
      if x2 = (1 : Int32) then
        g_FinalLinks_evidence_j109 a10 h4
      else
        if x2 = (2 : Int32) then
          (getR [1] 4 x0 h4).bind fun a12 =>
          (getR [1] 4 x0 h4).bind fun a13 =>
          (getR [3] 2 a13 h4).bind fun a14 =>
          bn (dsp (tg h4 a14 % 500) none [(25, oAlGet a14 a7 h4)]) fun r15 h16 =>
          (cst [12] r15 h16).bind fun _ =>
          (getR [512] 1 r15 h16).bind fun a17 =>
          (getR [1] 4 x0 h16).bind fun a18 =>
          (getR [3] 2 a18 h16).bind fun a19 =>
          bn (dsp (tg h16 a19 % 500) none [(25, oAlGet a19 a10 h16)]) fun r20 h21 =>
          (cst [12] r20 h21).bind fun _ =>
          (getR [512] 1 r20 h21).bind fun a22 =>
          bn (dsp (tg h21 a12 % 500) none [(3, g_Tree_offend a12 a17 a22 h21)]) fun r23 h24 =>
          g_FinalLinks_evidence_j109 r23 h24
        else
          g_FinalLinks_evidence_j109 (-1 : Int32) h4
theorem ct_g_FinalLinks_evidence {G : Gx} {RL : Lv} {l : Launch} (hL : LvA G RL plA) (hJ : JK G RL l) (x0 : Nat) (x1 : Int32) (x2 : Int32) (h : Hp) : Ct id G RL l yX1_evidence (ws_ yX1_evidence cX1_evidence 5 (some .int)) 45 4107 finI [vr x0, .int x1, .int x2] h (g_FinalLinks_evidence x0 x1 x2 h) := by
  refine Ct.of (Pl := plA) [(0, vr x0), (1, .int x1), (2, .int x2)] (by decide) hL rfl (Nat.le_of_ble_eq_true rfl) ?_
  intro E C e6 hf hlo e1 e2 e3 e4 e5
  subst e1; subst e2; subst e3
  replace C : Cx E cX1_evidence (some .int) RX1 := C
  replace e6 : (eMe E).name = "evidence" := e6
  unfold g_FinalLinks_evidence
  refine s_iload_n C dX1_evidence_0 1 rfl rfl ?_
  refine s_iconst C (0 : Int32) dX1_evidence_1 (by decide) ?_
  refine s_aload_n C dX1_evidence_2 0 rfl rfl ?_
  refine s_getR [1] C (fl1 ⟨fo_X1_48_1, rfl⟩) (pl_of e4 rfl) dX1_evidence_3 fun a1 => ?_
  refine s_getI [4] C (fl1 ⟨fo_X1_316_4, rfl⟩) (pl_of e4 rfl) dX1_evidence_6 fun a2 => ?_
  refine s_iconst C (1 : Int32) dX1_evidence_9 (by decide) ?_
  refine s_isub C dX1_evidence_10 ?_
  refine c_S C 3 [] (ct_g_FinalLinks_isIn hL hJ x1 (0 : Int32) (a2 - (1 : Int32)) h) (lw_S q2171 q1775 q107 q1776) nd_X1_isIn.2 rfl (le_fr hf rfl) (le_fr hlo rfl) rfl (Nat.le_of_ble_eq_true rfl) dX1_evidence_11 fun r3 h4 => ?_
  refine s_if_ne C 19 dX1_evidence_14 (by decide) ?_ ?_
  · refine s_aload_n C dX1_evidence_19 0 rfl rfl ?_
    refine s_getR [1] C (fl1 ⟨fo_X1_48_1, rfl⟩) (pl_of e4 rfl) dX1_evidence_20 fun a5 => ?_
    refine s_getR [4] C (fl1 ⟨fo_X1_319_4, rfl⟩) (pl_of e4 rfl) dX1_evidence_23 fun a6 => ?_
    refine s_iload_n C dX1_evidence_26 1 rfl rfl ?_
    refine s_iald [200] C (fl1 rfl) (pl_of e4 rfl) dX1_evidence_27 fun a7 => ?_
    refine s_istore_n (la' := [(3, .int a7), (0, vr x0), (1, .int x1), (2, .int x2)]) C 3 dX1_evidence_28 rfl (lt_nl e5 rfl) rfl ?_
    refine s_aload_n C dX1_evidence_29 1 rfl rfl ?_
    refine s_getR [1] C (fl1 ⟨fo_X1_48_1, rfl⟩) (pl_of e4 rfl) dX1_evidence_30 fun a8 => ?_
    refine s_getR [4] C (fl1 ⟨fo_X1_322_4, rfl⟩) (pl_of e4 rfl) dX1_evidence_33 fun a9 => ?_
    refine s_iload_n C dX1_evidence_36 2 rfl rfl ?_
    refine s_iald [200] C (fl1 rfl) (pl_of e4 rfl) dX1_evidence_37 fun a10 => ?_
    refine s_istore (la' := [(4, .int a10), (3, .int a7), (0, vr x0), (1, .int x1), (2, .int x2)]) C dX1_evidence_38 (lt_nl e5 rfl) rfl ?_
    refine s_iload_n C dX1_evidence_40 4 rfl rfl ?_
    have hj109 : ∀ (y0 : Int32) (h11 : Hp), Sim id E (QM id E finI) h11 109 [] [.int y0] (g_FinalLinks_evidence_j109 y0 h11) := by
      intro y0 h11
      exact s_iret C rfl dX1_evidence_109
    refine s_if_ne C 48 dX1_evidence_41 (by decide) ?_ ?_
    · refine s_iload_n C dX1_evidence_48 4 rfl rfl ?_
      refine s_iconst C (1 : Int32) dX1_evidence_49 (by decide) ?_
      refine s_icmp_ne C 58 dX1_evidence_50 (by decide) ?_ ?_
      · refine s_iload_n C dX1_evidence_58 4 rfl rfl ?_
        refine s_iconst C (2 : Int32) dX1_evidence_59 (by decide) ?_
        refine s_icmp_ne C 108 dX1_evidence_60 (by decide) ?_ ?_
        · refine s_iconst C (-1 : Int32) dX1_evidence_108 (by decide) ?_
          refine Sim.keep [] rfl ?_
          exact hj109 _ _
        · refine s_aload_n C dX1_evidence_63 2 rfl rfl ?_
          refine s_getR [1] C (fl1 ⟨fo_X1_34_1, rfl⟩) (pl_of e4 rfl) dX1_evidence_64 fun a12 => ?_
          refine s_aload_n C dX1_evidence_67 2 rfl rfl ?_
          refine s_getR [1] C (fl1 ⟨fo_X1_34_1, rfl⟩) (pl_of e4 rfl) dX1_evidence_68 fun a13 => ?_
          refine s_getR [3] C (fl1 ⟨fo_X1_138_3, rfl⟩) (pl_of e4 rfl) dX1_evidence_71 fun a14 => ?_
          refine s_iload_n C dX1_evidence_74 1 rfl rfl ?_
          refine s_dk 78 finR [vr a12] (fun r15 h16 => ?_) (fun hk => s_dsp 25 (fun ht => c_V C 1 [vr a12] 25 RJ2 ro_25 (jk_14 hJ a14 a7 h4) (lw_V q2177 q735 q736 q111 q737) nd_J2_get rfl (le_fr hf rfl) (le_fr hlo rfl) rfl (Nat.le_of_ble_eq_true rfl) dX1_evidence_75 hk ht) s_dsp0)
          refine s_cast [12] "FinalLinks$Vote" C q2185 (fl1 ao_FinalLinks_Vote_12) dX1_evidence_78 ?_
          refine s_getR [512] C (fl1 ⟨fo_X1_244_12, rfl⟩) (pl_of e4 rfl) dX1_evidence_81 fun a17 => ?_
          refine s_aload_n C dX1_evidence_84 2 rfl rfl ?_
          refine s_getR [1] C (fl1 ⟨fo_X1_34_1, rfl⟩) (pl_of e4 rfl) dX1_evidence_85 fun a18 => ?_
          refine s_getR [3] C (fl1 ⟨fo_X1_138_3, rfl⟩) (pl_of e4 rfl) dX1_evidence_88 fun a19 => ?_
          refine s_iload C dX1_evidence_91 0 rfl ?_
          refine s_dk 96 finR [vr a17, vr a12] (fun r20 h21 => ?_) (fun hk => s_dsp 25 (fun ht => c_V C 1 [vr a17, vr a12] 25 RJ2 ro_25 (jk_14 hJ a19 a10 h16) (lw_V q2177 q735 q736 q111 q737) nd_J2_get rfl (le_fr hf rfl) (le_fr hlo rfl) rfl (Nat.le_of_ble_eq_true rfl) dX1_evidence_93 hk ht) s_dsp0)
          refine s_cast [12] "FinalLinks$Vote" C q2185 (fl1 ao_FinalLinks_Vote_12) dX1_evidence_96 ?_
          refine s_getR [512] C (fl1 ⟨fo_X1_244_12, rfl⟩) (pl_of e4 rfl) dX1_evidence_99 fun a22 => ?_
          refine s_dk 105 finI [] (fun r23 h24 => ?_) (fun hk => s_dsp 3 (fun ht => c_V C 2 [] 3 RX3 ro_3 (ct_g_Tree_offend hL hJ a12 a17 a22 h21) (lw_V q2385 q750 q751 q114 q752) nd_X3_offend rfl (le_fr hf rfl) (le_fr hlo rfl) rfl (Nat.le_of_ble_eq_true rfl) dX1_evidence_102 hk ht) s_dsp0)
          refine s_goto C 109 dX1_evidence_105 (by decide) ?_
          refine Sim.keep [] rfl ?_
          exact hj109 _ _
      · refine s_iload C dX1_evidence_53 0 rfl ?_
        refine s_goto C 109 dX1_evidence_55 (by decide) ?_
        refine Sim.keep [] rfl ?_
        exact hj109 _ _
    · refine s_iload_n C dX1_evidence_44 1 rfl rfl ?_
      refine s_goto C 109 dX1_evidence_45 (by decide) ?_
      refine Sim.keep [] rfl ?_
      exact hj109 _ _
  · refine s_iconst C (-1 : Int32) dX1_evidence_17 (by decide) ?_
    exact s_iret C rfl dX1_evidence_18

def g_FinalLinks_fault (x0 : Nat) (h : Hp) : Option (Int32 × Hp) :=
  (getI [1] 2 x0 h).bind fun a1 =>
  some (a1, h)
theorem ct_g_FinalLinks_fault {G : Gx} {RL : Lv} {l : Launch} (hL : LvA G RL plA) (hJ : JK G RL l) (x0 : Nat) (h : Hp) : Ct id G RL l yX1_fault (ws_ yX1_fault cX1_fault 1 (some .int)) 0 0 finI [vr x0] h (g_FinalLinks_fault x0 h) := by
  refine Ct.of (Pl := plA) [(0, vr x0)] (by decide) hL rfl (Nat.le_of_ble_eq_true rfl) ?_
  intro E C e6 hf hlo e1 e2 e3 e4 e5
  subst e1; subst e2; subst e3
  replace C : Cx E cX1_fault (some .int) RX1 := C
  replace e6 : (eMe E).name = "fault" := e6
  unfold g_FinalLinks_fault
  refine s_aload_n C dX1_fault_0 0 rfl rfl ?_
  refine s_getI [1] C (fl1 ⟨fo_X1_94_1, rfl⟩) (pl_of e4 rfl) dX1_fault_1 fun a1 => ?_
  exact s_iret C rfl dX1_fault_4

def g_FinalLinks_feedOne_L3 (x0 : Nat) (x1 : Int32) : Int32 → Hp → Option (Unit × Hp) :=
  lp FU fun rec3 v3 h1 =>
    if v3 < 0 then
      some ((), h1)
    else
      (getR [1] 0 x0 h1).bind fun a2 =>
      (getI [1] 1 x0 h1).bind fun a3 =>
      (astI [201] 1 a2 a3 ((x1 >>> (v3 &&& 31)).toInt8.toInt32) h1).bind fun h4 =>
      (getI [1] 1 x0 h4).bind fun a5 =>
      (putI [1] 0 1 x0 (a5 + (1 : Int32)) h4).bind fun h6 =>
      rec3 (v3 + (-8 : Int32)) h6
def g_FinalLinks_feedOne (x0 : Nat) (x1 : Int32) (h : Hp) : Option (Unit × Hp) :=
  g_FinalLinks_feedOne_L3 x0 x1 (24 : Int32) h
theorem ct_g_FinalLinks_feedOne {G : Gx} {RL : Lv} {l : Launch} (hL : LvA G RL plA) (hJ : JK G RL l) (x0 : Nat) (x1 : Int32) (h : Hp) : Ct id G RL l yX1_feedOne (ws_ yX1_feedOne cX1_feedOne 3 none) 0 0 finV [vr x0, .int x1] h (g_FinalLinks_feedOne x0 x1 h) := by
  refine Ct.of (Pl := plA) [(0, vr x0), (1, .int x1)] (by decide) hL rfl (Nat.le_of_ble_eq_true rfl) ?_
  intro E C e6 hf hlo e1 e2 e3 e4 e5
  subst e1; subst e2; subst e3
  replace C : Cx E cX1_feedOne none RX1 := C
  replace e6 : (eMe E).name = "feedOne" := e6
  unfold g_FinalLinks_feedOne
  refine s_bipush C (24 : Int32) dX1_feedOne_0 (by decide) ?_
  have hL3 : ∀ (x0 : Nat) (x1 : Int32) (v3 : Int32) (h1 : Hp), Sim id E (QM id E finV) h1 3 [(0, vr x0), (1, .int x1), (2, .int v3)] [] (g_FinalLinks_feedOne_L3 x0 x1 v3 h1) := by
    intro x0 x1 v3 h1
    refine Sim.loop (fun v3 => [(0, vr x0), (1, .int x1), (2, .int v3)]) (fun _ => []) (fun rec3 hr3 v3 h1 => ?_) FU v3 h1
    refine s_iload_n C dX1_feedOne_3 2 rfl rfl ?_
    refine s_if_lt C 36 dX1_feedOne_4 (by decide) ?_ ?_
    · exact s_vret C rfl dX1_feedOne_36
    · refine s_aload_n C dX1_feedOne_7 0 rfl rfl ?_
      refine s_getR [1] C (fl1 ⟨fo_X1_16_1, rfl⟩) (pl_of e4 rfl) dX1_feedOne_8 fun a2 => ?_
      refine s_aload_n C dX1_feedOne_11 0 rfl rfl ?_
      refine s_getI [1] C (fl1 ⟨fo_X1_83_1, rfl⟩) (pl_of e4 rfl) dX1_feedOne_12 fun a3 => ?_
      refine s_iload_n C dX1_feedOne_15 1 rfl rfl ?_
      refine s_iload_n C dX1_feedOne_16 2 rfl rfl ?_
      refine s_ishr C (v3 &&& 31) dX1_feedOne_17 rfl ?_
      refine s_i2b C dX1_feedOne_18 ?_
      refine s_bast [201] C (fl1 ⟨by decide, rfl⟩) (pl_of e4 rfl) dX1_feedOne_19 fun h4 => ?_
      refine s_aload_n C dX1_feedOne_20 0 rfl rfl ?_
      refine s_dup C dX1_feedOne_21 rfl ?_
      refine s_getI [1] C (fl1 ⟨fo_X1_83_1, rfl⟩) (pl_of e4 rfl) dX1_feedOne_22 fun a5 => ?_
      refine s_iconst C (1 : Int32) dX1_feedOne_25 (by decide) ?_
      refine s_iadd C dX1_feedOne_26 ?_
      refine s_putI [1] 0 C (by decide) (by decide) (fl1 ⟨⟨by decide, fo_X1_83_1, rfl⟩, rfl⟩) (pl_of e4 rfl) (fl1 (Or.inl rfl)) dX1_feedOne_27 fun h6 => ?_
      refine s_iinc (la' := [(2, .int (v3 + (-8 : Int32))), (0, vr x0), (1, .int x1)]) C 2 dX1_feedOne_30 rfl rfl (lt_nl e5 rfl) rfl ?_
      refine s_goto C 3 dX1_feedOne_33 (by decide) ?_
      refine Sim.keep [1, 2, 0] rfl ?_
      exact hr3 _ _
  refine s_istore_n (la' := [(2, .int (24 : Int32)), (0, vr x0), (1, .int x1)]) C 2 dX1_feedOne_2 rfl (lt_nl e5 rfl) rfl ?_
  refine Sim.keep [1, 2, 0] rfl ?_
  exact hL3 _ _ _ _

def g_FinalLinks_feed (x0 : Nat) (x1 : Int32) (x2 : Int32) (x3 : Int32) (x4 : Int32) (x5 : Int32) (h : Hp) : Option (Int32 × Hp) :=
  (getI [1] 1 x0 h).bind fun a1 =>
  if (a1 + (20 : Int32)) ≤ (940 : Int32) then
    bn (dsp (tg h x0 % 500) none [(1, g_FinalLinks_feedOne x0 x1 h)]) fun _ h2 =>
    bn (dsp (tg h2 x0 % 500) none [(1, g_FinalLinks_feedOne x0 x2 h2)]) fun _ h3 =>
    bn (dsp (tg h3 x0 % 500) none [(1, g_FinalLinks_feedOne x0 x3 h3)]) fun _ h4 =>
    bn (dsp (tg h4 x0 % 500) none [(1, g_FinalLinks_feedOne x0 x4 h4)]) fun _ h5 =>
    bn (dsp (tg h5 x0 % 500) none [(1, g_FinalLinks_feedOne x0 x5 h5)]) fun _ h6 =>
    (getI [1] 1 x0 h6).bind fun a7 =>
    some (a7, h6)
  else
    some ((-1 : Int32), h)
theorem ct_g_FinalLinks_feed {G : Gx} {RL : Lv} {l : Launch} (hL : LvA G RL plA) (hJ : JK G RL l) (x0 : Nat) (x1 : Int32) (x2 : Int32) (x3 : Int32) (x4 : Int32) (x5 : Int32) (h : Hp) : Ct id G RL l yX1_feed (ws_ yX1_feed cX1_feed 6 (some .int)) 1 22 finI [vr x0, .int x1, .int x2, .int x3, .int x4, .int x5] h (g_FinalLinks_feed x0 x1 x2 x3 x4 x5 h) := by
  refine Ct.of (Pl := plA) [(0, vr x0), (1, .int x1), (2, .int x2), (3, .int x3), (4, .int x4), (5, .int x5)] (by decide) hL rfl (Nat.le_of_ble_eq_true rfl) ?_
  intro E C e6 hf hlo e1 e2 e3 e4 e5
  subst e1; subst e2; subst e3
  replace C : Cx E cX1_feed (some .int) RX1 := C
  replace e6 : (eMe E).name = "feed" := e6
  unfold g_FinalLinks_feed
  refine s_aload_n C dX1_feed_0 0 rfl rfl ?_
  refine s_getI [1] C (fl1 ⟨fo_X1_83_1, rfl⟩) (pl_of e4 rfl) dX1_feed_1 fun a1 => ?_
  refine s_bipush C (20 : Int32) dX1_feed_4 (by decide) ?_
  refine s_iadd C dX1_feed_6 ?_
  refine s_sipush C (940 : Int32) dX1_feed_7 (by decide) ?_
  refine s_icmp_le C 15 dX1_feed_10 (by decide) ?_ ?_
  · refine s_aload_n C dX1_feed_15 0 rfl rfl ?_
    refine s_iload_n C dX1_feed_16 1 rfl rfl ?_
    refine s_dk 20 finV [] (fun _ h2 => ?_) (fun hk => s_dsp 1 (fun ht => c_V C 1 [] 1 RX1 ro_1 (ct_g_FinalLinks_feedOne hL hJ x0 x1 h) (lw_V q1480 q1482 qs13 q107 q1483) nd_X1_feedOne rfl (le_fr hf rfl) (le_fr hlo rfl) rfl (Nat.le_of_ble_eq_true rfl) dX1_feed_17 hk ht) s_dsp0)
    refine s_aload_n C dX1_feed_20 0 rfl rfl ?_
    refine s_iload_n C dX1_feed_21 2 rfl rfl ?_
    refine s_dk 25 finV [] (fun _ h3 => ?_) (fun hk => s_dsp 1 (fun ht => c_V C 1 [] 1 RX1 ro_1 (ct_g_FinalLinks_feedOne hL hJ x0 x2 h2) (lw_V q1480 q1482 qs13 q107 q1483) nd_X1_feedOne rfl (le_fr hf rfl) (le_fr hlo rfl) rfl (Nat.le_of_ble_eq_true rfl) dX1_feed_22 hk ht) s_dsp0)
    refine s_aload_n C dX1_feed_25 0 rfl rfl ?_
    refine s_iload_n C dX1_feed_26 3 rfl rfl ?_
    refine s_dk 30 finV [] (fun _ h4 => ?_) (fun hk => s_dsp 1 (fun ht => c_V C 1 [] 1 RX1 ro_1 (ct_g_FinalLinks_feedOne hL hJ x0 x3 h3) (lw_V q1480 q1482 qs13 q107 q1483) nd_X1_feedOne rfl (le_fr hf rfl) (le_fr hlo rfl) rfl (Nat.le_of_ble_eq_true rfl) dX1_feed_27 hk ht) s_dsp0)
    refine s_aload_n C dX1_feed_30 0 rfl rfl ?_
    refine s_iload C dX1_feed_31 4 rfl ?_
    refine s_dk 36 finV [] (fun _ h5 => ?_) (fun hk => s_dsp 1 (fun ht => c_V C 1 [] 1 RX1 ro_1 (ct_g_FinalLinks_feedOne hL hJ x0 x4 h4) (lw_V q1480 q1482 qs13 q107 q1483) nd_X1_feedOne rfl (le_fr hf rfl) (le_fr hlo rfl) rfl (Nat.le_of_ble_eq_true rfl) dX1_feed_33 hk ht) s_dsp0)
    refine s_aload_n C dX1_feed_36 0 rfl rfl ?_
    refine s_iload C dX1_feed_37 5 rfl ?_
    refine s_dk 42 finV [] (fun _ h6 => ?_) (fun hk => s_dsp 1 (fun ht => c_V C 1 [] 1 RX1 ro_1 (ct_g_FinalLinks_feedOne hL hJ x0 x5 h5) (lw_V q1480 q1482 qs13 q107 q1483) nd_X1_feedOne rfl (le_fr hf rfl) (le_fr hlo rfl) rfl (Nat.le_of_ble_eq_true rfl) dX1_feed_39 hk ht) s_dsp0)
    refine s_aload_n C dX1_feed_42 0 rfl rfl ?_
    refine s_getI [1] C (fl1 ⟨fo_X1_83_1, rfl⟩) (pl_of e4 rfl) dX1_feed_43 fun a7 => ?_
    exact s_iret C rfl dX1_feed_46
  · refine s_iconst C (-1 : Int32) dX1_feed_13 (by decide) ?_
    exact s_iret C rfl dX1_feed_14

def g_FinalLinks_fork_j16  (h3 : Hp) : Option (Int32 × Hp) :=
  some ((-1 : Int32), h3)
def g_FinalLinks_fork_L60 (x0 : Nat) : (Int32 × Int32) → Hp → Option (Int32 × Hp) :=
  lp FU fun rec60 v60 h19 =>
    if v60.1 = v60.2 then
      some (v60.1, h19)
    else
      (getR [1] 4 x0 h19).bind fun a20 =>
      bn (dsp (tg h19 a20 % 500) none [(3, g_Tree_on a20 v60.1 h19)]) fun r21 h22 =>
      (getR [1] 4 x0 h22).bind fun a23 =>
      bn (dsp (tg h22 a23 % 500) none [(3, g_Tree_on a23 v60.2 h22)]) fun r24 h25 =>
      rec60 (r21, r24) h25
def g_FinalLinks_fork (x0 : Nat) (x1 : Int32) (x2 : Int32) (h : Hp) : Option (Int32 × Hp) :=
  bn (dsp (tg h x0 % 500) none [(1, g_FinalLinks_isBlock x0 x1 h)]) fun r1 h2 =>
  if r1 = 0 then
    g_FinalLinks_fork_j16 h2
  else
    bn (dsp (tg h2 x0 % 500) none [(1, g_FinalLinks_isBlock x0 x2 h2)]) fun r4 h5 =>
    if r4 = 0 then
      g_FinalLinks_fork_j16 h5
    else
      (getR [1] 4 x0 h5).bind fun a6 =>
      bn (dsp (tg h5 a6 % 500) none [(3, g_Tree_height a6 x1 h5)]) fun r7 h8 =>
      (getR [1] 4 x0 h8).bind fun a9 =>
      bn (dsp (tg h8 a9 % 500) none [(3, g_Tree_height a9 x2 h8)]) fun r10 h11 =>
      bd ((if r10 < r7 then r10 else r7)) fun a12 =>
      (getR [1] 4 x0 h11).bind fun a13 =>
      bn (dsp (tg h11 a13 % 500) none [(3, g_Tree_at a13 x1 a12 h11)]) fun r14 h15 =>
      (getR [1] 4 x0 h15).bind fun a16 =>
      bn (dsp (tg h15 a16 % 500) none [(3, g_Tree_at a16 x2 a12 h15)]) fun r17 h18 =>
      g_FinalLinks_fork_L60 x0 (r14, r17) h18
theorem ct_g_FinalLinks_fork {G : Gx} {RL : Lv} {l : Launch} (hL : LvA G RL plA) (hJ : JK G RL l) (x0 : Nat) (x1 : Int32) (x2 : Int32) (h : Hp) : Ct id G RL l yX1_fork (ws_ yX1_fork cX1_fork 6 (some .int)) 44 4082 finI [vr x0, .int x1, .int x2] h (g_FinalLinks_fork x0 x1 x2 h) := by
  refine Ct.of (Pl := plA) [(0, vr x0), (1, .int x1), (2, .int x2)] (by decide) hL rfl (Nat.le_of_ble_eq_true rfl) ?_
  intro E C e6 hf hlo e1 e2 e3 e4 e5
  subst e1; subst e2; subst e3
  replace C : Cx E cX1_fork (some .int) RX1 := C
  replace e6 : (eMe E).name = "fork" := e6
  unfold g_FinalLinks_fork
  refine s_aload_n C dX1_fork_0 0 rfl rfl ?_
  refine s_iload_n C dX1_fork_1 1 rfl rfl ?_
  refine s_dk 5 finI [] (fun r1 h2 => ?_) (fun hk => s_dsp 1 (fun ht => c_V C 1 [] 1 RX1 ro_1 (ct_g_FinalLinks_isBlock hL hJ x0 x1 h) (lw_V q2135 q2137 qs20 q107 q2138) nd_X1_isBlock rfl (le_fr hf rfl) (le_fr hlo rfl) rfl (Nat.le_of_ble_eq_true rfl) dX1_fork_2 hk ht) s_dsp0)
  have hj16 : ∀  (h3 : Hp), Sim id E (QM id E finI) h3 16 [] [] (g_FinalLinks_fork_j16 h3) := by
    intro h3
    refine s_iconst C (-1 : Int32) dX1_fork_16 (by decide) ?_
    exact s_iret C rfl dX1_fork_17
  refine s_if_eq C 16 dX1_fork_5 (by decide) ?_ ?_
  · refine Sim.keep [] rfl ?_
    exact hj16 _
  · refine s_aload_n C dX1_fork_8 0 rfl rfl ?_
    refine s_iload_n C dX1_fork_9 2 rfl rfl ?_
    refine s_dk 13 finI [] (fun r4 h5 => ?_) (fun hk => s_dsp 1 (fun ht => c_V C 1 [] 1 RX1 ro_1 (ct_g_FinalLinks_isBlock hL hJ x0 x2 h2) (lw_V q2135 q2137 qs20 q107 q2138) nd_X1_isBlock rfl (le_fr hf rfl) (le_fr hlo rfl) rfl (Nat.le_of_ble_eq_true rfl) dX1_fork_10 hk ht) s_dsp0)
    refine s_if_ne C 18 dX1_fork_13 (by decide) ?_ ?_
    · refine s_aload_n C dX1_fork_18 0 rfl rfl ?_
      refine s_getR [1] C (fl1 ⟨fo_X1_34_1, rfl⟩) (pl_of e4 rfl) dX1_fork_19 fun a6 => ?_
      refine s_iload_n C dX1_fork_22 1 rfl rfl ?_
      refine s_dk 26 finI [] (fun r7 h8 => ?_) (fun hk => s_dsp 3 (fun ht => c_V C 1 [] 3 RX3 ro_3 (ct_g_Tree_height hL hJ a6 x1 h5) (lw_V q2150 q758 q759 q114 q760) nd_X3_height rfl (le_fr hf rfl) (le_fr hlo rfl) rfl (Nat.le_of_ble_eq_true rfl) dX1_fork_23 hk ht) s_dsp0)
      refine s_aload_n C dX1_fork_26 0 rfl rfl ?_
      refine s_getR [1] C (fl1 ⟨fo_X1_34_1, rfl⟩) (pl_of e4 rfl) dX1_fork_27 fun a9 => ?_
      refine s_iload_n C dX1_fork_30 2 rfl rfl ?_
      refine s_dk 34 finI [.int r7] (fun r10 h11 => ?_) (fun hk => s_dsp 3 (fun ht => c_V C 1 [.int r7] 3 RX3 ro_3 (ct_g_Tree_height hL hJ a9 x2 h8) (lw_V q2150 q758 q759 q114 q760) nd_X3_height rfl (le_fr hf rfl) (le_fr hlo rfl) rfl (Nat.le_of_ble_eq_true rfl) dX1_fork_31 hk ht) s_dsp0)
      refine s_mmin C q2151 q648 q127 q649 (le_fr hf rfl) (le_fr hlo rfl) (Nat.le_of_ble_eq_true rfl) dX1_fork_34 ?_
      refine s_bdi fun a12 => ?_
      refine s_istore_n (la' := [(3, .int a12), (0, vr x0), (1, .int x1), (2, .int x2)]) C 3 dX1_fork_37 rfl (lt_nl e5 rfl) rfl ?_
      refine s_aload_n C dX1_fork_38 1 rfl rfl ?_
      refine s_getR [1] C (fl1 ⟨fo_X1_34_1, rfl⟩) (pl_of e4 rfl) dX1_fork_39 fun a13 => ?_
      refine s_iload_n C dX1_fork_42 2 rfl rfl ?_
      refine s_iload_n C dX1_fork_43 0 rfl rfl ?_
      refine s_dk 47 finI [] (fun r14 h15 => ?_) (fun hk => s_dsp 3 (fun ht => c_V C 2 [] 3 RX3 ro_3 (ct_g_Tree_at hL hJ a13 x1 a12 h11) (lw_V q2152 q1314 q1315 q114 q1316) nd_X3_at rfl (le_fr hf rfl) (le_fr hlo rfl) rfl (Nat.le_of_ble_eq_true rfl) dX1_fork_44 hk ht) s_dsp0)
      refine s_istore (la' := [(4, .int r14), (3, .int a12), (0, vr x0), (1, .int x1), (2, .int x2)]) C dX1_fork_47 (lt_nl e5 rfl) rfl ?_
      refine s_aload_n C dX1_fork_49 2 rfl rfl ?_
      refine s_getR [1] C (fl1 ⟨fo_X1_34_1, rfl⟩) (pl_of e4 rfl) dX1_fork_50 fun a16 => ?_
      refine s_iload_n C dX1_fork_53 4 rfl rfl ?_
      refine s_iload_n C dX1_fork_54 1 rfl rfl ?_
      refine s_dk 58 finI [] (fun r17 h18 => ?_) (fun hk => s_dsp 3 (fun ht => c_V C 2 [] 3 RX3 ro_3 (ct_g_Tree_at hL hJ a16 x2 a12 h15) (lw_V q2152 q1314 q1315 q114 q1316) nd_X3_at rfl (le_fr hf rfl) (le_fr hlo rfl) rfl (Nat.le_of_ble_eq_true rfl) dX1_fork_55 hk ht) s_dsp0)
      have hL60 : ∀ (x0 : Nat) (v60 : (Int32 × Int32)) (h19 : Hp), Sim id E (QM id E finI) h19 60 [(0, vr x0), (4, .int v60.1), (5, .int v60.2)] [] (g_FinalLinks_fork_L60 x0 v60 h19) := by
        intro x0 v60 h19
        refine Sim.loop (fun v60 => [(0, vr x0), (4, .int v60.1), (5, .int v60.2)]) (fun _ => []) (fun rec60 hr60 v60 h19 => ?_) FU v60 h19
        refine s_iload C dX1_fork_60 1 rfl ?_
        refine s_iload C dX1_fork_62 2 rfl ?_
        refine s_icmp_eq C 92 dX1_fork_64 (by decide) ?_ ?_
        · refine s_iload C dX1_fork_92 1 rfl ?_
          exact s_iret C rfl dX1_fork_94
        · refine s_aload_n C dX1_fork_67 0 rfl rfl ?_
          refine s_getR [1] C (fl1 ⟨fo_X1_34_1, rfl⟩) (pl_of e4 rfl) dX1_fork_68 fun a20 => ?_
          refine s_iload C dX1_fork_71 1 rfl ?_
          refine s_dk 76 finI [] (fun r21 h22 => ?_) (fun hk => s_dsp 3 (fun ht => c_V C 1 [] 3 RX3 ro_3 (ct_g_Tree_on hL hJ a20 v60.1 h19) (lw_V q2153 q1318 q1319 q114 q1320) nd_X3_on rfl (le_fr hf rfl) (le_fr hlo rfl) rfl (Nat.le_of_ble_eq_true rfl) dX1_fork_73 hk ht) s_dsp0)
          refine s_istore (la' := [(4, .int r21), (0, vr x0), (5, .int v60.2)]) C dX1_fork_76 (lt_nl e5 rfl) rfl ?_
          refine s_aload_n C dX1_fork_78 1 rfl rfl ?_
          refine s_getR [1] C (fl1 ⟨fo_X1_34_1, rfl⟩) (pl_of e4 rfl) dX1_fork_79 fun a23 => ?_
          refine s_iload C dX1_fork_82 2 rfl ?_
          refine s_dk 87 finI [] (fun r24 h25 => ?_) (fun hk => s_dsp 3 (fun ht => c_V C 1 [] 3 RX3 ro_3 (ct_g_Tree_on hL hJ a23 v60.2 h22) (lw_V q2153 q1318 q1319 q114 q1320) nd_X3_on rfl (le_fr hf rfl) (le_fr hlo rfl) rfl (Nat.le_of_ble_eq_true rfl) dX1_fork_84 hk ht) s_dsp0)
          refine s_istore (la' := [(5, .int r24), (4, .int r21), (0, vr x0)]) C dX1_fork_87 (lt_nl e5 rfl) rfl ?_
          refine s_goto C 60 dX1_fork_89 (by decide) ?_
          refine Sim.keep [2, 1, 0] rfl ?_
          exact hr60 _ _
      refine s_istore (la' := [(5, .int r17), (4, .int r14), (3, .int a12), (0, vr x0), (1, .int x1), (2, .int x2)]) C dX1_fork_58 (lt_nl e5 rfl) rfl ?_
      refine Sim.keep [3, 1, 0] rfl ?_
      exact hL60 _ _ _
    · refine Sim.keep [] rfl ?_
      exact hj16 _

def g_FinalLinks_grows_j24 (y0 : Int32) (h3 : Hp) : Option (Int32 × Hp) :=
  some (y0, h3)
def g_FinalLinks_grows (x0 : Nat) (x1 : Int32) (h : Hp) : Option (Int32 × Hp) :=
  bn (dsp (tg h x0 % 500) none [(1, g_FinalLinks_isBlock x0 x1 h)]) fun r1 h2 =>
  if r1 = 0 then
    g_FinalLinks_grows_j24 (-1 : Int32) h2
  else
    bn (newO 14 1 h2) fun o4 h5 =>
    bn (g_Grows_init o4 x1 h5) fun _ h6 =>
    bn (dsp (tg h6 x0 % 500) none [(1, g_FinalLinks_does x0 o4 h6)]) fun r7 h8 =>
    g_FinalLinks_grows_j24 r7 h8
theorem ct_g_FinalLinks_grows {G : Gx} {RL : Lv} {l : Launch} (hL : LvA G RL plA) (hJ : JK G RL l) (x0 : Nat) (x1 : Int32) (h : Hp) : Ct id G RL l yX1_grows (ws_ yX1_grows cX1_grows 2 (some .int)) 50 4220 finI [vr x0, .int x1] h (g_FinalLinks_grows x0 x1 h) := by
  refine Ct.of (Pl := plA) [(0, vr x0), (1, .int x1)] (by decide) hL rfl (Nat.le_of_ble_eq_true rfl) ?_
  intro E C e6 hf hlo e1 e2 e3 e4 e5
  subst e1; subst e2; subst e3
  replace C : Cx E cX1_grows (some .int) RX1 := C
  replace e6 : (eMe E).name = "grows" := e6
  unfold g_FinalLinks_grows
  refine s_aload_n C dX1_grows_0 0 rfl rfl ?_
  refine s_iload_n C dX1_grows_1 1 rfl rfl ?_
  refine s_dk 5 finI [] (fun r1 h2 => ?_) (fun hk => s_dsp 1 (fun ht => c_V C 1 [] 1 RX1 ro_1 (ct_g_FinalLinks_isBlock hL hJ x0 x1 h) (lw_V q2135 q2137 qs20 q107 q2138) nd_X1_isBlock rfl (le_fr hf rfl) (le_fr hlo rfl) rfl (Nat.le_of_ble_eq_true rfl) dX1_grows_2 hk ht) s_dsp0)
  have hj24 : ∀ (y0 : Int32) (h3 : Hp), Sim id E (QM id E finI) h3 24 [] [.int y0] (g_FinalLinks_grows_j24 y0 h3) := by
    intro y0 h3
    exact s_iret C rfl dX1_grows_24
  refine s_if_eq C 23 dX1_grows_5 (by decide) ?_ ?_
  · refine s_iconst C (-1 : Int32) dX1_grows_23 (by decide) ?_
    refine Sim.keep [] rfl ?_
    exact hj24 _ _
  · refine s_aload_n C dX1_grows_8 0 rfl rfl ?_
    refine s_newO 14 1 C no_X1_304 (pl_of1 e4 rfl) dX1_grows_9 fun o4 h5 zo4 => ?_
    refine s_dup C dX1_grows_12 rfl ?_
    refine s_iload_n C dX1_grows_13 1 rfl rfl ?_
    refine c_I C 1 [vr o4, vr x0] zo4 (ct_g_Grows_init hL hJ o4 x1 h5) (lw_meth q2359) q162 q2357 q2358 rfl nd_X16_init.2 rfl (le_fr hf rfl) (le_fr hlo rfl) rfl (Nat.le_of_ble_eq_true rfl) dX1_grows_14 fun _ h6 => ?_
    refine s_dk 20 finI [] (fun r7 h8 => ?_) (fun hk => s_dsp 1 (fun ht => c_V C 1 [] 1 RX1 ro_1 (ct_g_FinalLinks_does hL hJ x0 o4 h6) (lw_V q2220 q2222 qs24 q107 q2223) nd_X1_does rfl (le_fr hf rfl) (le_fr hlo rfl) rfl (Nat.le_of_ble_eq_true rfl) dX1_grows_17 hk ht) s_dsp0)
    refine s_goto C 24 dX1_grows_20 (by decide) ?_
    refine Sim.keep [] rfl ?_
    exact hj24 _ _

def g_Chain_told_L10 (x2 : Nat) : Int32 → Hp → Option (Int32 × Hp) :=
  lp FU fun rec10 v10 h4 =>
    bn (dsp (tg h4 x2 % 500) none [(23, oItHas x2 h4), (27, oKiHas x2 h4)]) fun r5 h6 =>
    if r5 = 0 then
      some (v10, h6)
    else
      bn (dsp (tg h6 x2 % 500) none [(23, oItNext x2 h6), (27, oKiNext x2 h6)]) fun r7 h8 =>
      (cst [35] r7 h8).bind fun _ =>
      bn (dsp (tg h8 r7 % 500) none [(35, oIntValue r7 h8)]) fun r9 h10 =>
      bd ((v10 + r9)) fun a11 =>
      rec10 a11 h10
def g_Chain_told (x0 : Nat) (h : Hp) : Option (Int32 × Hp) :=
  (getR [2] 2 x0 h).bind fun a1 =>
  bn (dsp (tg h a1 % 500) none [(25, oAlIter a1 h)]) fun r2 h3 =>
  g_Chain_told_L10 r2 (0 : Int32) h3
theorem ct_g_Chain_told {G : Gx} {RL : Lv} {l : Launch} (hL : LvA G RL plA) (hJ : JK G RL l) (x0 : Nat) (h : Hp) : Ct id G RL l yX2_told (ws_ yX2_told cX2_told 4 (some .int)) 41 4022 finI [vr x0] h (g_Chain_told x0 h) := by
  refine Ct.of (Pl := plA) [(0, vr x0)] (by decide) hL rfl (Nat.le_of_ble_eq_true rfl) ?_
  intro E C e6 hf hlo e1 e2 e3 e4 e5
  subst e1; subst e2; subst e3
  replace C : Cx E cX2_told (some .int) RX2 := C
  replace e6 : (eMe E).name = "told" := e6
  unfold g_Chain_told
  refine s_iconst C (0 : Int32) dX2_told_0 (by decide) ?_
  refine s_istore_n (la' := [(1, .int (0 : Int32)), (0, vr x0)]) C 1 dX2_told_1 rfl (lt_nl e5 rfl) rfl ?_
  refine s_aload_n C dX2_told_2 1 rfl rfl ?_
  refine s_getR [2] C (fl1 ⟨fo_X2_18_2, rfl⟩) (pl_of e4 rfl) dX2_told_3 fun a1 => ?_
  refine s_dk 9 finR [] (fun r2 h3 => ?_) (fun hk => s_dsp 25 (fun ht => c_V C 0 [] 25 RJ2 ro_25 (jk_16 hJ a1 h) (lw_V q2869 q415 q416 q111 q417) nd_J2_iterator rfl (le_fr hf rfl) (le_fr hlo rfl) rfl (Nat.le_of_ble_eq_true rfl) dX2_told_6 hk ht) s_dsp0)
  have hL10 : ∀ (x2 : Nat) (v10 : Int32) (h4 : Hp), Sim id E (QM id E finI) h4 10 [(1, .int v10), (2, vr x2)] [] (g_Chain_told_L10 x2 v10 h4) := by
    intro x2 v10 h4
    refine Sim.loop (fun v10 => [(1, .int v10), (2, vr x2)]) (fun _ => []) (fun rec10 hr10 v10 h4 => ?_) FU v10 h4
    refine s_aload_n C dX2_told_10 1 rfl rfl ?_
    refine s_dk 16 finI [] (fun r5 h6 => ?_) (fun hk => s_dsp 23 (fun ht => c_F C 0 [] 23 RJ11 ro_23 (jk_17 hJ x2 h4) (lw_F q2871 q442 q444 q121 q446) ⟨q440, q439, q445, q443, q441, by decide +kernel, by decide +kernel⟩ (by decide +kernel) rfl (le_fr hf rfl) (le_fr hlo rfl) rfl (Nat.le_of_ble_eq_true rfl) dX2_told_11 hk ht) (s_dsp 27 (fun ht => c_F C 0 [] 27 RJ26 ro_27 (jk_32 hJ x2 h4) (lw_F q2871 q454 q456 q137 q458) ⟨q440, q439, q457, q455, q453, by decide +kernel, by decide +kernel⟩ (by decide +kernel) rfl (le_fr hf rfl) (le_fr hlo rfl) rfl (Nat.le_of_ble_eq_true rfl) dX2_told_11 hk ht) s_dsp0))
    refine s_if_eq C 39 dX2_told_16 (by decide) ?_ ?_
    · refine s_iload_n C dX2_told_39 0 rfl rfl ?_
      exact s_iret C rfl dX2_told_40
    · refine s_aload_n C dX2_told_19 1 rfl rfl ?_
      refine s_dk 25 finR [] (fun r7 h8 => ?_) (fun hk => s_dsp 23 (fun ht => c_F C 0 [] 23 RJ11 ro_23 (jk_18 hJ x2 h6) (lw_F q2873 q463 q465 q121 q467) ⟨q462, q461, q466, q464, q441, by decide +kernel, by decide +kernel⟩ (by decide +kernel) rfl (le_fr hf rfl) (le_fr hlo rfl) rfl (Nat.le_of_ble_eq_true rfl) dX2_told_20 hk ht) (s_dsp 27 (fun ht => c_F C 0 [] 27 RJ26 ro_27 (jk_33 hJ x2 h6) (lw_F q2873 q548 q550 q138 q552) ⟨q462, q461, q551, q549, q453, by decide +kernel, by decide +kernel⟩ (by decide +kernel) rfl (le_fr hf rfl) (le_fr hlo rfl) rfl (Nat.le_of_ble_eq_true rfl) dX2_told_20 hk ht) s_dsp0))
      refine s_cast [35] "java/lang/Integer" C q2085 (fl1 ao_java_lang_Integer_35) dX2_told_25 ?_
      refine s_dk 31 finI [] (fun r9 h10 => ?_) (fun hk => s_dsp 35 (fun ht => c_V C 0 [] 35 RJ9 ro_35 (jk_0 hJ r7 h8) (lw_V q2086 q1053 q1054 q119 q1055) nd_J9_intValue rfl (le_fr hf rfl) (le_fr hlo rfl) rfl (Nat.le_of_ble_eq_true rfl) dX2_told_28 hk ht) s_dsp0)
      refine s_istore_n (la' := [(3, .int r9), (1, .int v10), (2, vr x2)]) C 3 dX2_told_31 rfl (lt_nl e5 rfl) rfl ?_
      refine s_iload_n C dX2_told_32 1 rfl rfl ?_
      refine s_iload_n C dX2_told_33 0 rfl rfl ?_
      refine s_iadd C dX2_told_34 ?_
      refine s_bdi fun a11 => ?_
      refine s_istore_n (la' := [(1, .int a11), (3, .int r9), (2, vr x2)]) C 1 dX2_told_35 rfl (lt_nl e5 rfl) rfl ?_
      refine s_goto C 10 dX2_told_36 (by decide) ?_
      refine Sim.keep [0, 2] rfl ?_
      exact hr10 _ _
  refine s_astore_n (la' := [(2, vr r2), (1, .int (0 : Int32)), (0, vr x0)]) C 2 dX2_told_9 rfl (lt_nl e5 rfl) rfl ?_
  refine Sim.keep [1, 0] rfl ?_
  exact hL10 _ _ _

def g_FinalLinks_image (x0 : Nat) (x1 : Int32) (h : Hp) : Option (Int32 × Hp) :=
  bn (g_FinalLinks_isIn x1 (0 : Int32) (1 : Int32) h) fun r1 h2 =>
  if r1 = 0 then
    if nrw 2 (0 : Int32) = (0 : Int32) then some ((0 : Int32), h2) else none
  else
    (getR [1] 15 x0 h2).bind fun a3 =>
    (aldR [208] a3 x1 h2).bind fun a4 =>
    (getR [1] 3 x0 h2).bind fun a5 =>
    (putR [5] 0 a4 a5 h2).bind fun h6 =>
    (getR [1] 15 x0 h6).bind fun a7 =>
    (aldR [208] a7 x1 h6).bind fun a8 =>
    (getR [1] 8 x0 h6).bind fun a9 =>
    (putR [5] 1 a8 a9 h6).bind fun h10 =>
    (getR [1] 15 x0 h10).bind fun a11 =>
    (aldR [208] a11 x1 h10).bind fun a12 =>
    bn (newO 3 7 h10) fun o13 h14 =>
    bn (g_Tree_init o13 h14) fun _ h15 =>
    (getR [1] 4 x0 h15).bind fun a16 =>
    bn (dsp (tg h15 o13 % 500) none [(3, g_Tree_as o13 a16 h15)]) fun r17 h18 =>
    (putR [5] 2 a12 r17 h18).bind fun h19 =>
    if nrw 2 (1 : Int32) = (1 : Int32) then some ((1 : Int32), h19) else none
theorem ct_g_FinalLinks_image {G : Gx} {RL : Lv} {l : Launch} (hL : LvA G RL plA) (hJ : JK G RL l) (x0 : Nat) (x1 : Int32) (h : Hp) : Ct id G RL l yX1_image (ws_ yX1_image cX1_image 2 (some .boolean)) 44 4087 finI [vr x0, .int x1] h (g_FinalLinks_image x0 x1 h) := by
  refine Ct.of (Pl := plA) [(0, vr x0), (1, .int x1)] (by decide) hL rfl (Nat.le_of_ble_eq_true rfl) ?_
  intro E C e6 hf hlo e1 e2 e3 e4 e5
  subst e1; subst e2; subst e3
  replace C : Cx E cX1_image (some .boolean) RX1 := C
  replace e6 : (eMe E).name = "image" := e6
  unfold g_FinalLinks_image
  refine s_iload_n C dX1_image_0 1 rfl rfl ?_
  refine s_iconst C (0 : Int32) dX1_image_1 (by decide) ?_
  refine s_iconst C (1 : Int32) dX1_image_2 (by decide) ?_
  refine c_S C 3 [] (ct_g_FinalLinks_isIn hL hJ x1 (0 : Int32) (1 : Int32) h) (lw_S q2171 q1775 q107 q1776) nd_X1_isIn.2 rfl (le_fr hf rfl) (le_fr hlo rfl) rfl (Nat.le_of_ble_eq_true rfl) dX1_image_3 fun r1 h2 => ?_
  refine s_if_ne C 11 dX1_image_6 (by decide) ?_ ?_
  · refine s_aload_n C dX1_image_11 0 rfl rfl ?_
    refine s_getR [1] C (fl1 ⟨fo_X1_79_1, rfl⟩) (pl_of e4 rfl) dX1_image_12 fun a3 => ?_
    refine s_iload_n C dX1_image_15 1 rfl rfl ?_
    refine s_aald [208] 8 C (by decide) (fl1 rfl) (pl_of e4 rfl) dX1_image_16 fun a4 => ?_
    refine s_aload_n C dX1_image_17 0 rfl rfl ?_
    refine s_getR [1] C (fl1 ⟨fo_X1_23_1, rfl⟩) (pl_of e4 rfl) dX1_image_18 fun a5 => ?_
    refine s_putR [5] C (fl1 ⟨by decide, fo_X1_444_5, rfl⟩) (pl_of e4 rfl) (fl1 (Or.inl rfl)) dX1_image_21 fun h6 => ?_
    refine s_aload_n C dX1_image_24 0 rfl rfl ?_
    refine s_getR [1] C (fl1 ⟨fo_X1_79_1, rfl⟩) (pl_of e4 rfl) dX1_image_25 fun a7 => ?_
    refine s_iload_n C dX1_image_28 1 rfl rfl ?_
    refine s_aald [208] 8 C (by decide) (fl1 rfl) (pl_of e4 rfl) dX1_image_29 fun a8 => ?_
    refine s_aload_n C dX1_image_30 0 rfl rfl ?_
    refine s_getR [1] C (fl1 ⟨fo_X1_106_1, rfl⟩) (pl_of e4 rfl) dX1_image_31 fun a9 => ?_
    refine s_putR [5] C (fl1 ⟨by decide, fo_X1_445_5, rfl⟩) (pl_of e4 rfl) (fl1 (Or.inl rfl)) dX1_image_34 fun h10 => ?_
    refine s_aload_n C dX1_image_37 0 rfl rfl ?_
    refine s_getR [1] C (fl1 ⟨fo_X1_79_1, rfl⟩) (pl_of e4 rfl) dX1_image_38 fun a11 => ?_
    refine s_iload_n C dX1_image_41 1 rfl rfl ?_
    refine s_aald [208] 8 C (by decide) (fl1 rfl) (pl_of e4 rfl) dX1_image_42 fun a12 => ?_
    refine s_newO 3 7 C no_X1_27 (pl_of1 e4 rfl) dX1_image_43 fun o13 h14 zo13 => ?_
    refine s_dup C dX1_image_46 rfl ?_
    refine c_IN C 0 [vr o13, vr a12] _ zo13 (ct_g_Tree_init hL hJ o13 h14) (lw_meth q292) q114 q290 q291 rfl nd_X3_init.2 rfl (le_fr hf rfl) (le_fr hlo rfl) rfl (Nat.le_of_ble_eq_true rfl) dX1_image_47 fun _ h15 => ?_
    refine s_aload_n C dX1_image_50 0 rfl rfl ?_
    refine s_getR [1] C (fl1 ⟨fo_X1_34_1, rfl⟩) (pl_of e4 rfl) dX1_image_51 fun a16 => ?_
    refine s_dk 57 finR [vr a12] (fun r17 h18 => ?_) (fun hk => s_dsp 3 (fun ht => c_V C 1 [vr a12] 3 RX3 ro_3 (ct_g_Tree_as hL hJ o13 a16 h15) (lw_V q2224 q2225 q2226 q114 q2227) nd_X3_as rfl (le_fr hf rfl) (le_fr hlo rfl) rfl (Nat.le_of_ble_eq_true rfl) dX1_image_54 hk ht) s_dsp0)
    refine s_putR [5] C (fl1 ⟨by decide, fo_X1_446_5, rfl⟩) (pl_of e4 rfl) (fl1 (Or.inl rfl)) dX1_image_57 fun h19 => ?_
    refine s_iconst C (1 : Int32) dX1_image_60 (by decide) ?_
    exact s_zret 2 C (by decide) (by decide) rfl dX1_image_61
  · refine s_iconst C (0 : Int32) dX1_image_9 (by decide) ?_
    exact s_zret 2 C (by decide) (by decide) rfl dX1_image_10

def g_FinalLinks_isPoint_j27 (y0 : Int32) (h4 : Hp) : Option (Int32 × Hp) :=
  if nrw 2 y0 = y0 then some (y0, h4) else none
def g_FinalLinks_isPoint_j26  (h5 : Hp) : Option (Int32 × Hp) :=
  g_FinalLinks_isPoint_j27 (0 : Int32) h5
def g_FinalLinks_isPoint (x0 : Nat) (x1 : Int32) (h : Hp) : Option (Int32 × Hp) :=
  (getR [1] 4 x0 h).bind fun a1 =>
  bn (dsp (tg h a1 % 500) none [(3, g_Tree_isBlock a1 x1 h)]) fun r2 h3 =>
  if r2 = 0 then
    g_FinalLinks_isPoint_j26 h3
  else
    (getR [1] 4 x0 h3).bind fun a6 =>
    bn (dsp (tg h3 a6 % 500) none [(3, g_Tree_isPoint a6 x1 h3)]) fun r7 h8 =>
    if r7 = 0 then
      g_FinalLinks_isPoint_j26 h8
    else
      g_FinalLinks_isPoint_j27 (1 : Int32) h8
theorem ct_g_FinalLinks_isPoint {G : Gx} {RL : Lv} {l : Launch} (hL : LvA G RL plA) (hJ : JK G RL l) (x0 : Nat) (x1 : Int32) (h : Hp) : Ct id G RL l yX1_isPoint (ws_ yX1_isPoint cX1_isPoint 2 (some .boolean)) 43 4063 finI [vr x0, .int x1] h (g_FinalLinks_isPoint x0 x1 h) := by
  refine Ct.of (Pl := plA) [(0, vr x0), (1, .int x1)] (by decide) hL rfl (Nat.le_of_ble_eq_true rfl) ?_
  intro E C e6 hf hlo e1 e2 e3 e4 e5
  subst e1; subst e2; subst e3
  replace C : Cx E cX1_isPoint (some .boolean) RX1 := C
  replace e6 : (eMe E).name = "isPoint" := e6
  unfold g_FinalLinks_isPoint
  refine s_aload_n C dX1_isPoint_0 0 rfl rfl ?_
  refine s_getR [1] C (fl1 ⟨fo_X1_34_1, rfl⟩) (pl_of e4 rfl) dX1_isPoint_1 fun a1 => ?_
  refine s_iload_n C dX1_isPoint_4 1 rfl rfl ?_
  refine s_dk 8 finI [] (fun r2 h3 => ?_) (fun hk => s_dsp 3 (fun ht => c_V C 1 [] 3 RX3 ro_3 (ct_g_Tree_isBlock hL hJ a1 x1 h) (lw_V q2139 q2140 q2141 q114 q2142) nd_X3_isBlock rfl (le_fr hf rfl) (le_fr hlo rfl) rfl (Nat.le_of_ble_eq_true rfl) dX1_isPoint_5 hk ht) s_dsp0)
  have hj27 : ∀ (y0 : Int32) (h4 : Hp), Sim id E (QM id E finI) h4 27 [] [.int y0] (g_FinalLinks_isPoint_j27 y0 h4) := by
    intro y0 h4
    exact s_zret 2 C (by decide) (by decide) rfl dX1_isPoint_27
  have hj26 : ∀  (h5 : Hp), Sim id E (QM id E finI) h5 26 [] [] (g_FinalLinks_isPoint_j26 h5) := by
    intro h5
    refine s_iconst C (0 : Int32) dX1_isPoint_26 (by decide) ?_
    exact hj27 _ _
  refine s_if_eq C 26 dX1_isPoint_8 (by decide) ?_ ?_
  · refine Sim.keep [] rfl ?_
    exact hj26 _
  · refine s_aload_n C dX1_isPoint_11 0 rfl rfl ?_
    refine s_getR [1] C (fl1 ⟨fo_X1_34_1, rfl⟩) (pl_of e4 rfl) dX1_isPoint_12 fun a6 => ?_
    refine s_iload_n C dX1_isPoint_15 1 rfl rfl ?_
    refine s_dk 19 finI [] (fun r7 h8 => ?_) (fun hk => s_dsp 3 (fun ht => c_V C 1 [] 3 RX3 ro_3 (ct_g_Tree_isPoint hL hJ a6 x1 h3) (lw_V q2162 q2163 q2164 q114 q2165) nd_X3_isPoint rfl (le_fr hf rfl) (le_fr hlo rfl) rfl (Nat.le_of_ble_eq_true rfl) dX1_isPoint_16 hk ht) s_dsp0)
    refine s_if_eq C 26 dX1_isPoint_19 (by decide) ?_ ?_
    · refine Sim.keep [] rfl ?_
      exact hj26 _
    · refine s_iconst C (1 : Int32) dX1_isPoint_22 (by decide) ?_
      refine s_goto C 27 dX1_isPoint_23 (by decide) ?_
      refine Sim.keep [] rfl ?_
      exact hj27 _ _

def g_FinalLinks_isLink_j33 (y0 : Int32) (h3 : Hp) : Option (Int32 × Hp) :=
  if nrw 2 y0 = y0 then some (y0, h3) else none
def g_FinalLinks_isLink_j32  (h4 : Hp) : Option (Int32 × Hp) :=
  g_FinalLinks_isLink_j33 (0 : Int32) h4
def g_FinalLinks_isLink (x0 : Nat) (x1 : Int32) (x2 : Int32) (h : Hp) : Option (Int32 × Hp) :=
  bn (dsp (tg h x0 % 500) none [(1, g_FinalLinks_isPoint x0 x1 h)]) fun r1 h2 =>
  if r1 = 0 then
    g_FinalLinks_isLink_j32 h2
  else
    bn (dsp (tg h2 x0 % 500) none [(1, g_FinalLinks_isPoint x0 x2 h2)]) fun r5 h6 =>
    if r5 = 0 then
      g_FinalLinks_isLink_j32 h6
    else
      (getR [1] 4 x0 h6).bind fun a7 =>
      bn (dsp (tg h6 a7 % 500) none [(3, g_Tree_isAhead a7 x1 x2 h6)]) fun r8 h9 =>
      if r8 = 0 then
        g_FinalLinks_isLink_j32 h9
      else
        g_FinalLinks_isLink_j33 (1 : Int32) h9
theorem ct_g_FinalLinks_isLink {G : Gx} {RL : Lv} {l : Launch} (hL : LvA G RL plA) (hJ : JK G RL l) (x0 : Nat) (x1 : Int32) (x2 : Int32) (h : Hp) : Ct id G RL l yX1_isLink (ws_ yX1_isLink cX1_isLink 3 (some .boolean)) 44 4087 finI [vr x0, .int x1, .int x2] h (g_FinalLinks_isLink x0 x1 x2 h) := by
  refine Ct.of (Pl := plA) [(0, vr x0), (1, .int x1), (2, .int x2)] (by decide) hL rfl (Nat.le_of_ble_eq_true rfl) ?_
  intro E C e6 hf hlo e1 e2 e3 e4 e5
  subst e1; subst e2; subst e3
  replace C : Cx E cX1_isLink (some .boolean) RX1 := C
  replace e6 : (eMe E).name = "isLink" := e6
  unfold g_FinalLinks_isLink
  refine s_aload_n C dX1_isLink_0 0 rfl rfl ?_
  refine s_iload_n C dX1_isLink_1 1 rfl rfl ?_
  refine s_dk 5 finI [] (fun r1 h2 => ?_) (fun hk => s_dsp 1 (fun ht => c_V C 1 [] 1 RX1 ro_1 (ct_g_FinalLinks_isPoint hL hJ x0 x1 h) (lw_V q2158 q2160 qs21 q107 q2161) nd_X1_isPoint rfl (le_fr hf rfl) (le_fr hlo rfl) rfl (Nat.le_of_ble_eq_true rfl) dX1_isLink_2 hk ht) s_dsp0)
  have hj33 : ∀ (y0 : Int32) (h3 : Hp), Sim id E (QM id E finI) h3 33 [] [.int y0] (g_FinalLinks_isLink_j33 y0 h3) := by
    intro y0 h3
    exact s_zret 2 C (by decide) (by decide) rfl dX1_isLink_33
  have hj32 : ∀  (h4 : Hp), Sim id E (QM id E finI) h4 32 [] [] (g_FinalLinks_isLink_j32 h4) := by
    intro h4
    refine s_iconst C (0 : Int32) dX1_isLink_32 (by decide) ?_
    exact hj33 _ _
  refine s_if_eq C 32 dX1_isLink_5 (by decide) ?_ ?_
  · refine Sim.keep [] rfl ?_
    exact hj32 _
  · refine s_aload_n C dX1_isLink_8 0 rfl rfl ?_
    refine s_iload_n C dX1_isLink_9 2 rfl rfl ?_
    refine s_dk 13 finI [] (fun r5 h6 => ?_) (fun hk => s_dsp 1 (fun ht => c_V C 1 [] 1 RX1 ro_1 (ct_g_FinalLinks_isPoint hL hJ x0 x2 h2) (lw_V q2158 q2160 qs21 q107 q2161) nd_X1_isPoint rfl (le_fr hf rfl) (le_fr hlo rfl) rfl (Nat.le_of_ble_eq_true rfl) dX1_isLink_10 hk ht) s_dsp0)
    refine s_if_eq C 32 dX1_isLink_13 (by decide) ?_ ?_
    · refine Sim.keep [] rfl ?_
      exact hj32 _
    · refine s_aload_n C dX1_isLink_16 0 rfl rfl ?_
      refine s_getR [1] C (fl1 ⟨fo_X1_34_1, rfl⟩) (pl_of e4 rfl) dX1_isLink_17 fun a7 => ?_
      refine s_iload_n C dX1_isLink_20 1 rfl rfl ?_
      refine s_iload_n C dX1_isLink_21 2 rfl rfl ?_
      refine s_dk 25 finI [] (fun r8 h9 => ?_) (fun hk => s_dsp 3 (fun ht => c_V C 2 [] 3 RX3 ro_3 (ct_g_Tree_isAhead hL hJ a7 x1 x2 h6) (lw_V q2145 q1403 q1404 q114 q1405) nd_X3_isAhead rfl (le_fr hf rfl) (le_fr hlo rfl) rfl (Nat.le_of_ble_eq_true rfl) dX1_isLink_22 hk ht) s_dsp0)
      refine s_if_eq C 32 dX1_isLink_25 (by decide) ?_ ?_
      · refine Sim.keep [] rfl ?_
        exact hj32 _
      · refine s_iconst C (1 : Int32) dX1_isLink_28 (by decide) ?_
        refine s_goto C 33 dX1_isLink_29 (by decide) ?_
        refine Sim.keep [] rfl ?_
        exact hj33 _ _

def g_FinalLinks_isVote (x0 : Nat) (x1 : Int32) (h : Hp) : Option (Int32 × Hp) :=
  (getR [1] 4 x0 h).bind fun a1 =>
  (getR [3] 2 a1 h).bind fun a2 =>
  bn (dsp (tg h a2 % 500) none [(25, oAlSize a2 h)]) fun r3 h4 =>
  bn (g_FinalLinks_isIn x1 (0 : Int32) (r3 - (1 : Int32)) h4) fun r5 h6 =>
  if nrw 2 r5 = r5 then some (r5, h6) else none
theorem ct_g_FinalLinks_isVote {G : Gx} {RL : Lv} {l : Launch} (hL : LvA G RL plA) (hJ : JK G RL l) (x0 : Nat) (x1 : Int32) (h : Hp) : Ct id G RL l yX1_isVote (ws_ yX1_isVote cX1_isVote 2 (some .boolean)) 41 4020 finI [vr x0, .int x1] h (g_FinalLinks_isVote x0 x1 h) := by
  refine Ct.of (Pl := plA) [(0, vr x0), (1, .int x1)] (by decide) hL rfl (Nat.le_of_ble_eq_true rfl) ?_
  intro E C e6 hf hlo e1 e2 e3 e4 e5
  subst e1; subst e2; subst e3
  replace C : Cx E cX1_isVote (some .boolean) RX1 := C
  replace e6 : (eMe E).name = "isVote" := e6
  unfold g_FinalLinks_isVote
  refine s_iload_n C dX1_isVote_0 1 rfl rfl ?_
  refine s_iconst C (0 : Int32) dX1_isVote_1 (by decide) ?_
  refine s_aload_n C dX1_isVote_2 0 rfl rfl ?_
  refine s_getR [1] C (fl1 ⟨fo_X1_34_1, rfl⟩) (pl_of e4 rfl) dX1_isVote_3 fun a1 => ?_
  refine s_getR [3] C (fl1 ⟨fo_X1_138_3, rfl⟩) (pl_of e4 rfl) dX1_isVote_6 fun a2 => ?_
  refine s_dk 12 finI [.int (0 : Int32), .int x1] (fun r3 h4 => ?_) (fun hk => s_dsp 25 (fun ht => c_V C 0 [.int (0 : Int32), .int x1] 25 RJ2 ro_25 (jk_15 hJ a2 h) (lw_V q2196 q731 q732 q111 q733) nd_J2_size rfl (le_fr hf rfl) (le_fr hlo rfl) rfl (Nat.le_of_ble_eq_true rfl) dX1_isVote_9 hk ht) s_dsp0)
  refine s_iconst C (1 : Int32) dX1_isVote_12 (by decide) ?_
  refine s_isub C dX1_isVote_13 ?_
  refine c_S C 3 [] (ct_g_FinalLinks_isIn hL hJ x1 (0 : Int32) (r3 - (1 : Int32)) h4) (lw_S q2171 q1775 q107 q1776) nd_X1_isIn.2 rfl (le_fr hf rfl) (le_fr hlo rfl) rfl (Nat.le_of_ble_eq_true rfl) dX1_isVote_14 fun r5 h6 => ?_
  exact s_zret 2 C (by decide) (by decide) rfl dX1_isVote_17

def g_FinalLinks_isVoter (x0 : Nat) (x1 : Int32) (h : Hp) : Option (Int32 × Hp) :=
  (getR [1] 3 x0 h).bind fun a1 =>
  bn (dsp (tg h a1 % 500) none [(2, g_Chain_voters a1 h)]) fun r2 h3 =>
  bn (g_FinalLinks_isIn x1 (0 : Int32) (r2 - (1 : Int32)) h3) fun r4 h5 =>
  if nrw 2 r4 = r4 then some (r4, h5) else none
theorem ct_g_FinalLinks_isVoter {G : Gx} {RL : Lv} {l : Launch} (hL : LvA G RL plA) (hJ : JK G RL l) (x0 : Nat) (x1 : Int32) (h : Hp) : Ct id G RL l yX1_isVoter (ws_ yX1_isVoter cX1_isVoter 2 (some .boolean)) 42 4040 finI [vr x0, .int x1] h (g_FinalLinks_isVoter x0 x1 h) := by
  refine Ct.of (Pl := plA) [(0, vr x0), (1, .int x1)] (by decide) hL rfl (Nat.le_of_ble_eq_true rfl) ?_
  intro E C e6 hf hlo e1 e2 e3 e4 e5
  subst e1; subst e2; subst e3
  replace C : Cx E cX1_isVoter (some .boolean) RX1 := C
  replace e6 : (eMe E).name = "isVoter" := e6
  unfold g_FinalLinks_isVoter
  refine s_iload_n C dX1_isVoter_0 1 rfl rfl ?_
  refine s_iconst C (0 : Int32) dX1_isVoter_1 (by decide) ?_
  refine s_aload_n C dX1_isVoter_2 0 rfl rfl ?_
  refine s_getR [1] C (fl1 ⟨fo_X1_23_1, rfl⟩) (pl_of e4 rfl) dX1_isVoter_3 fun a1 => ?_
  refine s_dk 9 finI [.int (0 : Int32), .int x1] (fun r2 h3 => ?_) (fun hk => s_dsp 2 (fun ht => c_V C 0 [.int (0 : Int32), .int x1] 2 RX2 ro_2 (ct_g_Chain_voters hL hJ a1 h) (lw_V q2170 q1330 q1331 q108 q1332) nd_X2_voters rfl (le_fr hf rfl) (le_fr hlo rfl) rfl (Nat.le_of_ble_eq_true rfl) dX1_isVoter_6 hk ht) s_dsp0)
  refine s_iconst C (1 : Int32) dX1_isVoter_9 (by decide) ?_
  refine s_isub C dX1_isVoter_10 ?_
  refine c_S C 3 [] (ct_g_FinalLinks_isIn hL hJ x1 (0 : Int32) (r2 - (1 : Int32)) h3) (lw_S q2171 q1775 q107 q1776) nd_X1_isIn.2 rfl (le_fr hf rfl) (le_fr hlo rfl) rfl (Nat.le_of_ble_eq_true rfl) dX1_isVoter_11 fun r4 h5 => ?_
  exact s_zret 2 C (by decide) (by decide) rfl dX1_isVoter_14

def g_FinalLinks_looks_j33 (y0 : Int32) (h3 : Hp) : Option (Int32 × Hp) :=
  some (y0, h3)
def g_FinalLinks_looks_j32  (h4 : Hp) : Option (Int32 × Hp) :=
  g_FinalLinks_looks_j33 (-1 : Int32) h4
def g_FinalLinks_looks (x0 : Nat) (x1 : Int32) (x2 : Int32) (h : Hp) : Option (Int32 × Hp) :=
  bn (dsp (tg h x0 % 500) none [(1, g_FinalLinks_isVoter x0 x1 h)]) fun r1 h2 =>
  if r1 = 0 then
    g_FinalLinks_looks_j32 h2
  else
    bn (dsp (tg h2 x0 % 500) none [(1, g_FinalLinks_isBlock x0 x2 h2)]) fun r5 h6 =>
    if r5 = 0 then
      g_FinalLinks_looks_j32 h6
    else
      bn (newO 13 2 h6) fun o7 h8 =>
      bn (g_Looks_init o7 x1 x2 h8) fun _ h9 =>
      bn (dsp (tg h9 x0 % 500) none [(1, g_FinalLinks_does x0 o7 h9)]) fun r10 h11 =>
      g_FinalLinks_looks_j33 r10 h11
theorem ct_g_FinalLinks_looks {G : Gx} {RL : Lv} {l : Launch} (hL : LvA G RL plA) (hJ : JK G RL l) (x0 : Nat) (x1 : Int32) (x2 : Int32) (h : Hp) : Ct id G RL l yX1_looks (ws_ yX1_looks cX1_looks 3 (some .int)) 50 4220 finI [vr x0, .int x1, .int x2] h (g_FinalLinks_looks x0 x1 x2 h) := by
  refine Ct.of (Pl := plA) [(0, vr x0), (1, .int x1), (2, .int x2)] (by decide) hL rfl (Nat.le_of_ble_eq_true rfl) ?_
  intro E C e6 hf hlo e1 e2 e3 e4 e5
  subst e1; subst e2; subst e3
  replace C : Cx E cX1_looks (some .int) RX1 := C
  replace e6 : (eMe E).name = "looks" := e6
  unfold g_FinalLinks_looks
  refine s_aload_n C dX1_looks_0 0 rfl rfl ?_
  refine s_iload_n C dX1_looks_1 1 rfl rfl ?_
  refine s_dk 5 finI [] (fun r1 h2 => ?_) (fun hk => s_dsp 1 (fun ht => c_V C 1 [] 1 RX1 ro_1 (ct_g_FinalLinks_isVoter hL hJ x0 x1 h) (lw_V q2166 q2168 qs22 q107 q2169) nd_X1_isVoter rfl (le_fr hf rfl) (le_fr hlo rfl) rfl (Nat.le_of_ble_eq_true rfl) dX1_looks_2 hk ht) s_dsp0)
  have hj33 : ∀ (y0 : Int32) (h3 : Hp), Sim id E (QM id E finI) h3 33 [] [.int y0] (g_FinalLinks_looks_j33 y0 h3) := by
    intro y0 h3
    exact s_iret C rfl dX1_looks_33
  have hj32 : ∀  (h4 : Hp), Sim id E (QM id E finI) h4 32 [] [] (g_FinalLinks_looks_j32 h4) := by
    intro h4
    refine s_iconst C (-1 : Int32) dX1_looks_32 (by decide) ?_
    exact hj33 _ _
  refine s_if_eq C 32 dX1_looks_5 (by decide) ?_ ?_
  · refine Sim.keep [] rfl ?_
    exact hj32 _
  · refine s_aload_n C dX1_looks_8 0 rfl rfl ?_
    refine s_iload_n C dX1_looks_9 2 rfl rfl ?_
    refine s_dk 13 finI [] (fun r5 h6 => ?_) (fun hk => s_dsp 1 (fun ht => c_V C 1 [] 1 RX1 ro_1 (ct_g_FinalLinks_isBlock hL hJ x0 x2 h2) (lw_V q2135 q2137 qs20 q107 q2138) nd_X1_isBlock rfl (le_fr hf rfl) (le_fr hlo rfl) rfl (Nat.le_of_ble_eq_true rfl) dX1_looks_10 hk ht) s_dsp0)
    refine s_if_eq C 32 dX1_looks_13 (by decide) ?_ ?_
    · refine Sim.keep [] rfl ?_
      exact hj32 _
    · refine s_aload_n C dX1_looks_16 0 rfl rfl ?_
      refine s_newO 13 2 C no_X1_301 (pl_of1 e4 rfl) dX1_looks_17 fun o7 h8 zo7 => ?_
      refine s_dup C dX1_looks_20 rfl ?_
      refine s_iload_n C dX1_looks_21 1 rfl rfl ?_
      refine s_iload_n C dX1_looks_22 2 rfl rfl ?_
      refine c_I C 2 [vr o7, vr x0] zo7 (ct_g_Looks_init hL hJ o7 x1 x2 h8) (lw_meth q2342) q161 q2340 q2341 rfl nd_X15_init.2 rfl (le_fr hf rfl) (le_fr hlo rfl) rfl (Nat.le_of_ble_eq_true rfl) dX1_looks_23 fun _ h9 => ?_
      refine s_dk 29 finI [] (fun r10 h11 => ?_) (fun hk => s_dsp 1 (fun ht => c_V C 1 [] 1 RX1 ro_1 (ct_g_FinalLinks_does hL hJ x0 o7 h9) (lw_V q2220 q2222 qs24 q107 q2223) nd_X1_does rfl (le_fr hf rfl) (le_fr hlo rfl) rfl (Nat.le_of_ble_eq_true rfl) dX1_looks_26 hk ht) s_dsp0)
      refine s_goto C 33 dX1_looks_29 (by decide) ?_
      refine Sim.keep [] rfl ?_
      exact hj33 _ _

def g_Tree_isLeaf_L8 (x1 : Int32) (x2 : Nat) : Unit → Hp → Option (Int32 × Hp) :=
  lp FU fun rec8 v8 h4 =>
    bn (dsp (tg h4 x2 % 500) none [(23, oItHas x2 h4), (27, oKiHas x2 h4)]) fun r5 h6 =>
    if r5 = 0 then
      if nrw 2 (1 : Int32) = (1 : Int32) then some ((1 : Int32), h6) else none
    else
      bn (dsp (tg h6 x2 % 500) none [(23, oItNext x2 h6), (27, oKiNext x2 h6)]) fun r7 h8 =>
      (cst [9] r7 h8).bind fun _ =>
      (getI [9] 0 r7 h8).bind fun a9 =>
      if a9 = x1 then
        if nrw 2 (0 : Int32) = (0 : Int32) then some ((0 : Int32), h8) else none
      else
        rec8 () h8
def g_Tree_isLeaf (x0 : Nat) (x1 : Int32) (h : Hp) : Option (Int32 × Hp) :=
  (getR [3] 1 x0 h).bind fun a1 =>
  bn (dsp (tg h a1 % 500) none [(25, oAlIter a1 h)]) fun r2 h3 =>
  g_Tree_isLeaf_L8 x1 r2 () h3
theorem ct_g_Tree_isLeaf {G : Gx} {RL : Lv} {l : Launch} (hL : LvA G RL plA) (hJ : JK G RL l) (x0 : Nat) (x1 : Int32) (h : Hp) : Ct id G RL l yX3_isLeaf (ws_ yX3_isLeaf cX3_isLeaf 4 (some .boolean)) 41 4022 finI [vr x0, .int x1] h (g_Tree_isLeaf x0 x1 h) := by
  refine Ct.of (Pl := plA) [(0, vr x0), (1, .int x1)] (by decide) hL rfl (Nat.le_of_ble_eq_true rfl) ?_
  intro E C e6 hf hlo e1 e2 e3 e4 e5
  subst e1; subst e2; subst e3
  replace C : Cx E cX3_isLeaf (some .boolean) RX3 := C
  replace e6 : (eMe E).name = "isLeaf" := e6
  unfold g_Tree_isLeaf
  refine s_aload_n C dX3_isLeaf_0 0 rfl rfl ?_
  refine s_getR [3] C (fl1 ⟨fo_X3_12_3, rfl⟩) (pl_of e4 rfl) dX3_isLeaf_1 fun a1 => ?_
  refine s_dk 7 finR [] (fun r2 h3 => ?_) (fun hk => s_dsp 25 (fun ht => c_V C 0 [] 25 RJ2 ro_25 (jk_16 hJ a1 h) (lw_V q414 q415 q416 q111 q417) nd_J2_iterator rfl (le_fr hf rfl) (le_fr hlo rfl) rfl (Nat.le_of_ble_eq_true rfl) dX3_isLeaf_4 hk ht) s_dsp0)
  have hL8 : ∀ (x1 : Int32) (x2 : Nat) (v8 : Unit) (h4 : Hp), Sim id E (QM id E finI) h4 8 [(1, .int x1), (2, vr x2)] [] (g_Tree_isLeaf_L8 x1 x2 v8 h4) := by
    intro x1 x2 v8 h4
    refine Sim.loop (fun v8 => [(1, .int x1), (2, vr x2)]) (fun _ => []) (fun rec8 hr8 v8 h4 => ?_) FU v8 h4
    refine s_aload_n C dX3_isLeaf_8 1 rfl rfl ?_
    refine s_dk 14 finI [] (fun r5 h6 => ?_) (fun hk => s_dsp 23 (fun ht => c_F C 0 [] 23 RJ11 ro_23 (jk_17 hJ x2 h4) (lw_F q438 q442 q444 q121 q446) ⟨q440, q439, q445, q443, q441, by decide +kernel, by decide +kernel⟩ (by decide +kernel) rfl (le_fr hf rfl) (le_fr hlo rfl) rfl (Nat.le_of_ble_eq_true rfl) dX3_isLeaf_9 hk ht) (s_dsp 27 (fun ht => c_F C 0 [] 27 RJ26 ro_27 (jk_32 hJ x2 h4) (lw_F q438 q454 q456 q137 q458) ⟨q440, q439, q457, q455, q453, by decide +kernel, by decide +kernel⟩ (by decide +kernel) rfl (le_fr hf rfl) (le_fr hlo rfl) rfl (Nat.le_of_ble_eq_true rfl) dX3_isLeaf_9 hk ht) s_dsp0))
    refine s_if_eq C 40 dX3_isLeaf_14 (by decide) ?_ ?_
    · refine s_iconst C (1 : Int32) dX3_isLeaf_40 (by decide) ?_
      exact s_zret 2 C (by decide) (by decide) rfl dX3_isLeaf_41
    · refine s_aload_n C dX3_isLeaf_17 1 rfl rfl ?_
      refine s_dk 23 finR [] (fun r7 h8 => ?_) (fun hk => s_dsp 23 (fun ht => c_F C 0 [] 23 RJ11 ro_23 (jk_18 hJ x2 h6) (lw_F q460 q463 q465 q121 q467) ⟨q462, q461, q466, q464, q441, by decide +kernel, by decide +kernel⟩ (by decide +kernel) rfl (le_fr hf rfl) (le_fr hlo rfl) rfl (Nat.le_of_ble_eq_true rfl) dX3_isLeaf_18 hk ht) (s_dsp 27 (fun ht => c_F C 0 [] 27 RJ26 ro_27 (jk_33 hJ x2 h6) (lw_F q460 q548 q550 q138 q552) ⟨q462, q461, q551, q549, q453, by decide +kernel, by decide +kernel⟩ (by decide +kernel) rfl (le_fr hf rfl) (le_fr hlo rfl) rfl (Nat.le_of_ble_eq_true rfl) dX3_isLeaf_18 hk ht) s_dsp0))
      refine s_cast [9] "FinalLinks$Block" C q568 (fl1 ao_FinalLinks_Block_9) dX3_isLeaf_23 ?_
      refine s_astore_n (la' := [(3, vr r7), (1, .int x1), (2, vr x2)]) C 3 dX3_isLeaf_26 rfl (lt_nl e5 rfl) rfl ?_
      refine s_aload_n C dX3_isLeaf_27 0 rfl rfl ?_
      refine s_getI [9] C (fl1 ⟨fo_X3_120_9, rfl⟩) (pl_of e4 rfl) dX3_isLeaf_28 fun a9 => ?_
      refine s_iload_n C dX3_isLeaf_31 1 rfl rfl ?_
      refine s_icmp_ne C 37 dX3_isLeaf_32 (by decide) ?_ ?_
      · refine s_goto C 8 dX3_isLeaf_37 (by decide) ?_
        refine Sim.keep [1, 2] rfl ?_
        exact hr8 _ _
      · refine s_iconst C (0 : Int32) dX3_isLeaf_35 (by decide) ?_
        exact s_zret 2 C (by decide) (by decide) rfl dX3_isLeaf_36
  refine s_astore_n (la' := [(2, vr r2), (0, vr x0), (1, .int x1)]) C 2 dX3_isLeaf_7 rfl (lt_nl e5 rfl) rfl ?_
  refine Sim.keep [2, 0] rfl ?_
  exact hL8 _ _ _ _

def g_Tree_offends_j75 (rec11 : Int32 → Hp → Option (Int32 × Hp)) (x0 : Nat) (x1 : Int32) (x2 : Nat) (x3 : Int32) (x4 : Nat) (h13 : Hp) : Option (Int32 × Hp) :=
  rec11 x3 h13
def g_Tree_offends_j72 (rec11 : Int32 → Hp → Option (Int32 × Hp)) (x0 : Nat) (x1 : Int32) (x2 : Nat) (x4 : Nat) (x6 : Int32) (h14 : Hp) : Option (Int32 × Hp) :=
  g_Tree_offends_j75 rec11 x0 x1 x2 x6 x4 h14
def g_Tree_offends_L11 (x0 : Nat) (x1 : Int32) (x2 : Nat) (x4 : Nat) : Int32 → Hp → Option (Int32 × Hp) :=
  lp FU fun rec11 v11 h4 =>
    bn (dsp (tg h4 x4 % 500) none [(23, oItHas x4 h4), (27, oKiHas x4 h4)]) fun r5 h6 =>
    if r5 = 0 then
      some (v11, h6)
    else
      bn (dsp (tg h6 x4 % 500) none [(23, oItNext x4 h6), (27, oKiNext x4 h6)]) fun r7 h8 =>
      (cst [12] r7 h8).bind fun _ =>
      (getI [512] 0 r7 h8).bind fun a9 =>
      if a9 = x1 then
        (getR [512] 1 r7 h8).bind fun a10 =>
        bn (dsp (tg h8 x0 % 500) none [(3, g_Tree_offend x0 a10 x2 h8)]) fun r11 h12 =>
        if r11 = 0 then
          g_Tree_offends_j75 rec11 x0 x1 x2 v11 x4 h12
        else
          if v11 = 0 then
            g_Tree_offends_j72 rec11 x0 x1 x2 x4 r11 h12
          else
            if v11 ≤ r11 then
              g_Tree_offends_j75 rec11 x0 x1 x2 v11 x4 h12
            else
              g_Tree_offends_j72 rec11 x0 x1 x2 x4 r11 h12
      else
        rec11 v11 h8
def g_Tree_offends (x0 : Nat) (x1 : Int32) (x2 : Nat) (h : Hp) : Option (Int32 × Hp) :=
  (getR [3] 2 x0 h).bind fun a1 =>
  bn (dsp (tg h a1 % 500) none [(25, oAlIter a1 h)]) fun r2 h3 =>
  g_Tree_offends_L11 x0 x1 x2 r2 (0 : Int32) h3
theorem ct_g_Tree_offends {G : Gx} {RL : Lv} {l : Launch} (hL : LvA G RL plA) (hJ : JK G RL l) (x0 : Nat) (x1 : Int32) (x2 : Nat) (h : Hp) : Ct id G RL l yX3_offends (ws_ yX3_offends cX3_offends 7 (some .int)) 45 4107 finI [vr x0, .int x1, vr x2] h (g_Tree_offends x0 x1 x2 h) := by
  refine Ct.of (Pl := plA) [(0, vr x0), (1, .int x1), (2, vr x2)] (by decide) hL rfl (Nat.le_of_ble_eq_true rfl) ?_
  intro E C e6 hf hlo e1 e2 e3 e4 e5
  subst e1; subst e2; subst e3
  replace C : Cx E cX3_offends (some .int) RX3 := C
  replace e6 : (eMe E).name = "offends" := e6
  unfold g_Tree_offends
  refine s_iconst C (0 : Int32) dX3_offends_0 (by decide) ?_
  refine s_istore_n (la' := [(3, .int (0 : Int32)), (0, vr x0), (1, .int x1), (2, vr x2)]) C 3 dX3_offends_1 rfl (lt_nl e5 rfl) rfl ?_
  refine s_aload_n C dX3_offends_2 1 rfl rfl ?_
  refine s_getR [3] C (fl1 ⟨fo_X3_18_3, rfl⟩) (pl_of e4 rfl) dX3_offends_3 fun a1 => ?_
  refine s_dk 9 finR [] (fun r2 h3 => ?_) (fun hk => s_dsp 25 (fun ht => c_V C 0 [] 25 RJ2 ro_25 (jk_16 hJ a1 h) (lw_V q414 q415 q416 q111 q417) nd_J2_iterator rfl (le_fr hf rfl) (le_fr hlo rfl) rfl (Nat.le_of_ble_eq_true rfl) dX3_offends_6 hk ht) s_dsp0)
  have hL11 : ∀ (x0 : Nat) (x1 : Int32) (x2 : Nat) (x4 : Nat) (v11 : Int32) (h4 : Hp), Sim id E (QM id E finI) h4 11 [(0, vr x0), (1, .int x1), (2, vr x2), (3, .int v11), (4, vr x4)] [] (g_Tree_offends_L11 x0 x1 x2 x4 v11 h4) := by
    intro x0 x1 x2 x4 v11 h4
    refine Sim.loop (fun v11 => [(0, vr x0), (1, .int x1), (2, vr x2), (3, .int v11), (4, vr x4)]) (fun _ => []) (fun rec11 hr11 v11 h4 => ?_) FU v11 h4
    refine s_aload C dX3_offends_11 4 rfl ?_
    refine s_dk 18 finI [] (fun r5 h6 => ?_) (fun hk => s_dsp 23 (fun ht => c_F C 0 [] 23 RJ11 ro_23 (jk_17 hJ x4 h4) (lw_F q438 q442 q444 q121 q446) ⟨q440, q439, q445, q443, q441, by decide +kernel, by decide +kernel⟩ (by decide +kernel) rfl (le_fr hf rfl) (le_fr hlo rfl) rfl (Nat.le_of_ble_eq_true rfl) dX3_offends_13 hk ht) (s_dsp 27 (fun ht => c_F C 0 [] 27 RJ26 ro_27 (jk_32 hJ x4 h4) (lw_F q438 q454 q456 q137 q458) ⟨q440, q439, q457, q455, q453, by decide +kernel, by decide +kernel⟩ (by decide +kernel) rfl (le_fr hf rfl) (le_fr hlo rfl) rfl (Nat.le_of_ble_eq_true rfl) dX3_offends_13 hk ht) s_dsp0))
    refine s_if_eq C 78 dX3_offends_18 (by decide) ?_ ?_
    · refine s_iload_n C dX3_offends_78 3 rfl rfl ?_
      exact s_iret C rfl dX3_offends_79
    · refine s_aload C dX3_offends_21 4 rfl ?_
      refine s_dk 28 finR [] (fun r7 h8 => ?_) (fun hk => s_dsp 23 (fun ht => c_F C 0 [] 23 RJ11 ro_23 (jk_18 hJ x4 h6) (lw_F q460 q463 q465 q121 q467) ⟨q462, q461, q466, q464, q441, by decide +kernel, by decide +kernel⟩ (by decide +kernel) rfl (le_fr hf rfl) (le_fr hlo rfl) rfl (Nat.le_of_ble_eq_true rfl) dX3_offends_23 hk ht) (s_dsp 27 (fun ht => c_F C 0 [] 27 RJ26 ro_27 (jk_33 hJ x4 h6) (lw_F q460 q548 q550 q138 q552) ⟨q462, q461, q551, q549, q453, by decide +kernel, by decide +kernel⟩ (by decide +kernel) rfl (le_fr hf rfl) (le_fr hlo rfl) rfl (Nat.le_of_ble_eq_true rfl) dX3_offends_23 hk ht) s_dsp0))
      refine s_cast [12] "FinalLinks$Vote" C q2228 (fl1 ao_FinalLinks_Vote_12) dX3_offends_28 ?_
      refine s_astore (la' := [(5, vr r7), (0, vr x0), (1, .int x1), (2, vr x2), (3, .int v11), (4, vr x4)]) C dX3_offends_31 (lt_nl e5 rfl) rfl ?_
      refine s_aload C dX3_offends_33 0 rfl ?_
      refine s_getI [512] C (fl1 ⟨fo_X3_181_12, rfl⟩) (pl_of e4 rfl) dX3_offends_35 fun a9 => ?_
      refine s_iload_n C dX3_offends_38 2 rfl rfl ?_
      refine s_icmp_eq C 45 dX3_offends_39 (by decide) ?_ ?_
      · refine s_aload_n C dX3_offends_45 1 rfl rfl ?_
        refine s_aload C dX3_offends_46 0 rfl ?_
        refine s_getR [512] C (fl1 ⟨fo_X3_184_12, rfl⟩) (pl_of e4 rfl) dX3_offends_48 fun a10 => ?_
        refine s_aload_n C dX3_offends_51 3 rfl rfl ?_
        refine s_dk 55 finI [] (fun r11 h12 => ?_) (fun hk => s_dsp 3 (fun ht => c_V C 2 [] 3 RX3 ro_3 (ct_g_Tree_offend hL hJ x0 a10 x2 h8) (lw_V q2380 q750 q751 q114 q752) nd_X3_offend rfl (le_fr hf rfl) (le_fr hlo rfl) rfl (Nat.le_of_ble_eq_true rfl) dX3_offends_52 hk ht) s_dsp0)
        refine s_istore (la' := [(6, .int r11), (5, vr r7), (0, vr x0), (1, .int x1), (2, vr x2), (3, .int v11), (4, vr x4)]) C dX3_offends_55 (lt_nl e5 rfl) rfl ?_
        refine s_iload C dX3_offends_57 0 rfl ?_
        have hj75 : ∀ (x3 : Int32) (h13 : Hp), Sim id E (QM id E finI) h13 75 [(0, vr x0), (1, .int x1), (2, vr x2), (3, .int x3), (4, vr x4)] [] (g_Tree_offends_j75 rec11 x0 x1 x2 x3 x4 h13) := by
          intro x3 h13
          refine s_goto C 11 dX3_offends_75 (by decide) ?_
          exact hr11 _ _
        refine s_if_eq C 75 dX3_offends_59 (by decide) ?_ ?_
        · refine Sim.keep [2, 3, 4, 5, 6] rfl ?_
          exact hj75 _ _
        · refine s_iload_n C dX3_offends_62 5 rfl rfl ?_
          have hj72 : ∀ (x6 : Int32) (h14 : Hp), Sim id E (QM id E finI) h14 72 [(0, vr x0), (1, .int x1), (2, vr x2), (4, vr x4), (6, .int x6)] [] (g_Tree_offends_j72 rec11 x0 x1 x2 x4 x6 h14) := by
            intro x6 h14
            refine s_iload C dX3_offends_72 4 rfl ?_
            refine s_istore_n (la' := [(3, .int x6), (0, vr x0), (1, .int x1), (2, vr x2), (4, vr x4), (6, .int x6)]) C 3 dX3_offends_74 rfl (lt_nl e5 rfl) rfl ?_
            refine Sim.keep [1, 2, 3, 0, 4] rfl ?_
            exact hj75 _ _
          refine s_if_eq C 72 dX3_offends_63 (by decide) ?_ ?_
          · refine Sim.keep [2, 3, 4, 6, 0] rfl ?_
            exact hj72 _ _
          · refine s_iload C dX3_offends_66 0 rfl ?_
            refine s_iload_n C dX3_offends_68 5 rfl rfl ?_
            refine s_icmp_ge C 75 dX3_offends_69 (by decide) ?_ ?_
            · refine Sim.keep [2, 3, 4, 5, 6] rfl ?_
              exact hj75 _ _
            · refine Sim.keep [2, 3, 4, 6, 0] rfl ?_
              exact hj72 _ _
      · refine s_goto C 11 dX3_offends_42 (by decide) ?_
        refine Sim.keep [1, 2, 3, 4, 5] rfl ?_
        exact hr11 _ _
  refine s_astore (la' := [(4, vr r2), (3, .int (0 : Int32)), (0, vr x0), (1, .int x1), (2, vr x2)]) C dX3_offends_9 (lt_nl e5 rfl) rfl ?_
  refine Sim.keep [2, 3, 4, 1, 0] rfl ?_
  exact hL11 _ _ _ _ _ _

def g_Integer_bitCount (x0 : Int32) (h : Hp) : Option (Int32 × Hp) :=
  bd ((x0 - ((x0.toUInt32 >>> (1 : UInt32)).toInt32 &&& (1431655765 : Int32)))) fun a1 =>
  bd (((a1 &&& (858993459 : Int32)) + ((a1.toUInt32 >>> (2 : UInt32)).toInt32 &&& (858993459 : Int32)))) fun a2 =>
  bd (((a2 + (a2.toUInt32 >>> (4 : UInt32)).toInt32) &&& (252645135 : Int32))) fun a3 =>
  bd ((a3 + (a3.toUInt32 >>> (8 : UInt32)).toInt32)) fun a4 =>
  bd ((a4 + (a4.toUInt32 >>> (16 : UInt32)).toInt32)) fun a5 =>
  some ((a5 &&& (63 : Int32)), h)
theorem ct_g_Integer_bitCount {G : Gx} {RL : Lv} {l : Launch} (hL : LvA G RL plA) (hJ : JK G RL l) (x0 : Int32) (h : Hp) : Ct id G RL l yJ9_bitCount (ws_ yJ9_bitCount cJ9_bitCount 1 (some .int)) 0 0 finI [.int x0] h (g_Integer_bitCount x0 h) := by
  refine Ct.of (Pl := plA) [(0, .int x0)] (by decide) hL rfl (Nat.le_of_ble_eq_true rfl) ?_
  intro E C e6 hf hlo e1 e2 e3 e4 e5
  subst e1; subst e2; subst e3
  replace C : Cx E cJ9_bitCount (some .int) RJ9 := C
  replace e6 : (eMe E).name = "bitCount" := e6
  unfold g_Integer_bitCount
  refine s_iload_n C dJ9_bitCount_0 0 rfl rfl ?_
  refine s_iload_n C dJ9_bitCount_1 0 rfl rfl ?_
  refine s_iconst C (1 : Int32) dJ9_bitCount_2 (by decide) ?_
  refine s_iushr C (1 : UInt32) dJ9_bitCount_3 (by decide) ?_
  refine s_ldcwi C q2417 dJ9_bitCount_4 ?_
  refine s_iand C dJ9_bitCount_7 ?_
  refine s_isub C dJ9_bitCount_8 ?_
  refine s_bdi fun a1 => ?_
  refine s_istore_n (la' := [(0, .int a1)]) C 0 dJ9_bitCount_9 rfl (lt_nl e5 rfl) rfl ?_
  refine s_iload_n C dJ9_bitCount_10 0 rfl rfl ?_
  refine s_ldcwi C q2418 dJ9_bitCount_11 ?_
  refine s_iand C dJ9_bitCount_14 ?_
  refine s_iload_n C dJ9_bitCount_15 0 rfl rfl ?_
  refine s_iconst C (2 : Int32) dJ9_bitCount_16 (by decide) ?_
  refine s_iushr C (2 : UInt32) dJ9_bitCount_17 (by decide) ?_
  refine s_ldcwi C q2418 dJ9_bitCount_18 ?_
  refine s_iand C dJ9_bitCount_21 ?_
  refine s_iadd C dJ9_bitCount_22 ?_
  refine s_bdi fun a2 => ?_
  refine s_istore_n (la' := [(0, .int a2)]) C 0 dJ9_bitCount_23 rfl (lt_nl e5 rfl) rfl ?_
  refine s_iload_n C dJ9_bitCount_24 0 rfl rfl ?_
  refine s_iload_n C dJ9_bitCount_25 0 rfl rfl ?_
  refine s_iconst C (4 : Int32) dJ9_bitCount_26 (by decide) ?_
  refine s_iushr C (4 : UInt32) dJ9_bitCount_27 (by decide) ?_
  refine s_iadd C dJ9_bitCount_28 ?_
  refine s_ldcwi C q2419 dJ9_bitCount_29 ?_
  refine s_iand C dJ9_bitCount_32 ?_
  refine s_bdi fun a3 => ?_
  refine s_istore_n (la' := [(0, .int a3)]) C 0 dJ9_bitCount_33 rfl (lt_nl e5 rfl) rfl ?_
  refine s_iload_n C dJ9_bitCount_34 0 rfl rfl ?_
  refine s_iload_n C dJ9_bitCount_35 0 rfl rfl ?_
  refine s_bipush C (8 : Int32) dJ9_bitCount_36 (by decide) ?_
  refine s_iushr C (8 : UInt32) dJ9_bitCount_38 (by decide) ?_
  refine s_iadd C dJ9_bitCount_39 ?_
  refine s_bdi fun a4 => ?_
  refine s_istore_n (la' := [(0, .int a4)]) C 0 dJ9_bitCount_40 rfl (lt_nl e5 rfl) rfl ?_
  refine s_iload_n C dJ9_bitCount_41 0 rfl rfl ?_
  refine s_iload_n C dJ9_bitCount_42 0 rfl rfl ?_
  refine s_bipush C (16 : Int32) dJ9_bitCount_43 (by decide) ?_
  refine s_iushr C (16 : UInt32) dJ9_bitCount_45 (by decide) ?_
  refine s_iadd C dJ9_bitCount_46 ?_
  refine s_bdi fun a5 => ?_
  refine s_istore_n (la' := [(0, .int a5)]) C 0 dJ9_bitCount_47 rfl (lt_nl e5 rfl) rfl ?_
  refine s_iload_n C dJ9_bitCount_48 0 rfl rfl ?_
  refine s_bipush C (63 : Int32) dJ9_bitCount_49 (by decide) ?_
  refine s_iand C dJ9_bitCount_51 ?_
  exact s_iret C rfl dJ9_bitCount_52

def g_Judged_needOf_j147 (rec82 : (Int32 × Int32) → Hp → Option (Int32 × Hp)) (x0 : Nat) (x1 : Nat) (x2 : Int32) (x3 : Int32) (x4 : Int32) (x5 : Int32) (h10 : Hp) : Option (Int32 × Hp) :=
  rec82 (x4, (x5 + (1 : Int32))) h10
def g_Judged_needOf_j113 (rec82 : (Int32 × Int32) → Hp → Option (Int32 × Hp)) (x0 : Nat) (x1 : Nat) (x2 : Int32) (x3 : Int32) (x4 : Int32) (x5 : Int32) (h11 : Hp) : Option (Int32 × Hp) :=
  (getR [4] 0 x0 h11).bind fun a12 =>
  (getI [510] 1 x1 h11).bind fun a13 =>
  bn (dsp (tg h11 a12 % 500) none [(3, g_Tree_counts a12 a13 (x2 ||| x5) h11)]) fun r14 h15 =>
  if r14 = 0 then
    g_Judged_needOf_j147 rec82 x0 x1 x2 x3 x4 x5 h15
  else
    bn (g_Integer_bitCount x5 h15) fun r16 h17 =>
    (putI [4] 0 13 x0 x5 h17).bind fun h18 =>
    g_Judged_needOf_j147 rec82 x0 x1 x2 x3 r16 x5 h18
def g_Judged_needOf_L82 (x0 : Nat) (x1 : Nat) (x2 : Int32) (x3 : Int32) : (Int32 × Int32) → Hp → Option (Int32 × Hp) :=
  lp FU fun rec82 v82 h9 =>
    if x3 < v82.2 then
      some (v82.1, h9)
    else
      if (v82.2 &&& (x3 ^^^ (-1 : Int32))) = 0 then
        if v82.1 = (-1 : Int32) then
          g_Judged_needOf_j113 rec82 x0 x1 x2 x3 v82.1 v82.2 h9
        else
          bn (g_Integer_bitCount v82.2 h9) fun r19 h20 =>
          if v82.1 ≤ r19 then
            g_Judged_needOf_j147 rec82 x0 x1 x2 x3 v82.1 v82.2 h20
          else
            g_Judged_needOf_j113 rec82 x0 x1 x2 x3 v82.1 v82.2 h20
      else
        g_Judged_needOf_j147 rec82 x0 x1 x2 x3 v82.1 v82.2 h9
def g_Judged_needOf_j70 (rec14 : (Int32 × Int32) → Hp → Option (Int32 × Hp)) (x0 : Nat) (x1 : Nat) (x2 : Int32) (x3 : Int32) (x4 : Int32) (h23 : Hp) : Option (Int32 × Hp) :=
  rec14 (x3, (x4 + (1 : Int32))) h23
def g_Judged_needOf_L14 (x0 : Nat) (x1 : Nat) (x2 : Int32) : (Int32 × Int32) → Hp → Option (Int32 × Hp) :=
  lp FU fun rec14 v14 h4 =>
    (getR [4] 0 x0 h4).bind fun a5 =>
    (getR [3] 0 a5 h4).bind fun a6 =>
    bn (dsp (tg h4 a6 % 500) none [(2, g_Chain_voters a6 h4)]) fun r7 h8 =>
    if r7 ≤ v14.2 then
      g_Judged_needOf_L82 x0 x1 x2 v14.1 ((-1 : Int32), (0 : Int32)) h8
    else
      bn (g_FinalLinks_isOf x2 v14.2 h8) fun r21 h22 =>
      if r21 = 0 then
        (getI [4] 3 x0 h22).bind fun a24 =>
        bn (g_FinalLinks_isOf a24 v14.2 h22) fun r25 h26 =>
        if r25 = 0 then
          (getR [4] 0 x0 h26).bind fun a27 =>
          bn (dsp (tg h26 a27 % 500) none [(3, g_Tree_offends a27 v14.2 x1 h26)]) fun r28 h29 =>
          if r28 = 0 then
            bd ((v14.1 ||| ((1 : Int32) <<< (v14.2 &&& 31)))) fun a30 =>
            g_Judged_needOf_j70 rec14 x0 x1 x2 a30 v14.2 h29
          else
            g_Judged_needOf_j70 rec14 x0 x1 x2 v14.1 v14.2 h29
        else
          g_Judged_needOf_j70 rec14 x0 x1 x2 v14.1 v14.2 h26
      else
        g_Judged_needOf_j70 rec14 x0 x1 x2 v14.1 v14.2 h22
def g_Judged_needOf (x0 : Nat) (x1 : Nat) (h : Hp) : Option (Int32 × Hp) :=
  (getR [4] 0 x0 h).bind fun a1 =>
  bn (dsp (tg h a1 % 500) none [(3, g_Tree_votersOf a1 x1 h)]) fun r2 h3 =>
  g_Judged_needOf_L14 x0 x1 r2 ((0 : Int32), (0 : Int32)) h3
theorem ct_g_Judged_needOf {G : Gx} {RL : Lv} {l : Launch} (hL : LvA G RL plA) (hJ : JK G RL l) (x0 : Nat) (x1 : Nat) (h : Hp) : Ct id G RL l yX4_needOf (ws_ yX4_needOf cX4_needOf 6 (some .int)) 46 4134 finI [vr x0, vr x1] h (g_Judged_needOf x0 x1 h) := by
  refine Ct.of (Pl := plA) [(0, vr x0), (1, vr x1)] (by decide) hL rfl (Nat.le_of_ble_eq_true rfl) ?_
  intro E C e6 hf hlo e1 e2 e3 e4 e5
  subst e1; subst e2; subst e3
  replace C : Cx E cX4_needOf (some .int) RX4 := C
  replace e6 : (eMe E).name = "needOf" := e6
  unfold g_Judged_needOf
  refine s_aload_n C dX4_needOf_0 0 rfl rfl ?_
  refine s_getR [4] C (fl1 ⟨fo_X4_24_4, rfl⟩) (pl_of e4 rfl) dX4_needOf_1 fun a1 => ?_
  refine s_aload_n C dX4_needOf_4 1 rfl rfl ?_
  refine s_dk 8 finI [] (fun r2 h3 => ?_) (fun hk => s_dsp 3 (fun ht => c_V C 1 [] 3 RX3 ro_3 (ct_g_Tree_votersOf hL hJ a1 x1 h) (lw_V q2412 q2241 q2242 q114 q2243) nd_X3_votersOf rfl (le_fr hf rfl) (le_fr hlo rfl) rfl (Nat.le_of_ble_eq_true rfl) dX4_needOf_5 hk ht) s_dsp0)
  refine s_istore_n (la' := [(2, .int r2), (0, vr x0), (1, vr x1)]) C 2 dX4_needOf_8 rfl (lt_nl e5 rfl) rfl ?_
  refine s_iconst C (0 : Int32) dX4_needOf_9 (by decide) ?_
  refine s_istore_n (la' := [(3, .int (0 : Int32)), (2, .int r2), (0, vr x0), (1, vr x1)]) C 3 dX4_needOf_10 rfl (lt_nl e5 rfl) rfl ?_
  refine s_iconst C (0 : Int32) dX4_needOf_11 (by decide) ?_
  have hL14 : ∀ (x0 : Nat) (x1 : Nat) (x2 : Int32) (v14 : (Int32 × Int32)) (h4 : Hp), Sim id E (QM id E finI) h4 14 [(0, vr x0), (1, vr x1), (2, .int x2), (3, .int v14.1), (4, .int v14.2)] [] (g_Judged_needOf_L14 x0 x1 x2 v14 h4) := by
    intro x0 x1 x2 v14 h4
    refine Sim.loop (fun v14 => [(0, vr x0), (1, vr x1), (2, .int x2), (3, .int v14.1), (4, .int v14.2)]) (fun _ => []) (fun rec14 hr14 v14 h4 => ?_) FU v14 h4
    refine s_iload C dX4_needOf_14 4 rfl ?_
    refine s_aload_n C dX4_needOf_16 0 rfl rfl ?_
    refine s_getR [4] C (fl1 ⟨fo_X4_24_4, rfl⟩) (pl_of e4 rfl) dX4_needOf_17 fun a5 => ?_
    refine s_getR [3] C (fl1 ⟨fo_X4_158_3, rfl⟩) (pl_of e4 rfl) dX4_needOf_20 fun a6 => ?_
    refine s_dk 26 finI [.int v14.2] (fun r7 h8 => ?_) (fun hk => s_dsp 2 (fun ht => c_V C 0 [.int v14.2] 2 RX2 ro_2 (ct_g_Chain_voters hL hJ a6 h4) (lw_V q1365 q1330 q1331 q108 q1332) nd_X2_voters rfl (le_fr hf rfl) (le_fr hlo rfl) rfl (Nat.le_of_ble_eq_true rfl) dX4_needOf_23 hk ht) s_dsp0)
    refine s_icmp_ge C 76 dX4_needOf_26 (by decide) ?_ ?_
    · refine s_iconst C (-1 : Int32) dX4_needOf_76 (by decide) ?_
      refine s_istore (la' := [(4, .int (-1 : Int32)), (0, vr x0), (1, vr x1), (2, .int x2), (3, .int v14.1)]) C dX4_needOf_77 (lt_nl e5 rfl) rfl ?_
      refine s_iconst C (0 : Int32) dX4_needOf_79 (by decide) ?_
      have hL82 : ∀ (x0 : Nat) (x1 : Nat) (x2 : Int32) (x3 : Int32) (v82 : (Int32 × Int32)) (h9 : Hp), Sim id E (QM id E finI) h9 82 [(0, vr x0), (1, vr x1), (2, .int x2), (3, .int x3), (4, .int v82.1), (5, .int v82.2)] [] (g_Judged_needOf_L82 x0 x1 x2 x3 v82 h9) := by
        intro x0 x1 x2 x3 v82 h9
        refine Sim.loop (fun v82 => [(0, vr x0), (1, vr x1), (2, .int x2), (3, .int x3), (4, .int v82.1), (5, .int v82.2)]) (fun _ => []) (fun rec82 hr82 v82 h9 => ?_) FU v82 h9
        refine s_iload C dX4_needOf_82 5 rfl ?_
        refine s_iload_n C dX4_needOf_84 3 rfl rfl ?_
        refine s_icmp_gt C 153 dX4_needOf_85 (by decide) ?_ ?_
        · refine s_iload C dX4_needOf_153 4 rfl ?_
          exact s_iret C rfl dX4_needOf_155
        · refine s_iload C dX4_needOf_88 5 rfl ?_
          refine s_iload_n C dX4_needOf_90 3 rfl rfl ?_
          refine s_iconst C (-1 : Int32) dX4_needOf_91 (by decide) ?_
          refine s_ixor C dX4_needOf_92 ?_
          refine s_iand C dX4_needOf_93 ?_
          have hj147 : ∀ (x4 : Int32) (x5 : Int32) (h10 : Hp), Sim id E (QM id E finI) h10 147 [(0, vr x0), (1, vr x1), (2, .int x2), (3, .int x3), (4, .int x4), (5, .int x5)] [] (g_Judged_needOf_j147 rec82 x0 x1 x2 x3 x4 x5 h10) := by
            intro x4 x5 h10
            refine s_iinc (la' := [(5, .int (x5 + (1 : Int32))), (0, vr x0), (1, vr x1), (2, .int x2), (3, .int x3), (4, .int x4)]) C 5 dX4_needOf_147 rfl rfl (lt_nl e5 rfl) rfl ?_
            refine s_goto C 82 dX4_needOf_150 (by decide) ?_
            refine Sim.keep [1, 2, 3, 4, 5, 0] rfl ?_
            exact hr82 _ _
          refine s_if_ne C 147 dX4_needOf_94 (by decide) ?_ ?_
          · exact hj147 _ _ _
          · refine s_iload C dX4_needOf_97 4 rfl ?_
            refine s_iconst C (-1 : Int32) dX4_needOf_99 (by decide) ?_
            have hj113 : ∀ (x4 : Int32) (x5 : Int32) (h11 : Hp), Sim id E (QM id E finI) h11 113 [(0, vr x0), (1, vr x1), (2, .int x2), (3, .int x3), (4, .int x4), (5, .int x5)] [] (g_Judged_needOf_j113 rec82 x0 x1 x2 x3 x4 x5 h11) := by
              intro x4 x5 h11
              refine s_aload_n C dX4_needOf_113 0 rfl rfl ?_
              refine s_getR [4] C (fl1 ⟨fo_X4_24_4, rfl⟩) (pl_of e4 rfl) dX4_needOf_114 fun a12 => ?_
              refine s_aload_n C dX4_needOf_117 1 rfl rfl ?_
              refine s_getI [510] C (fl1 ⟨fo_X4_127_10, rfl⟩) (pl_of e4 rfl) dX4_needOf_118 fun a13 => ?_
              refine s_iload_n C dX4_needOf_121 2 rfl rfl ?_
              refine s_iload C dX4_needOf_122 5 rfl ?_
              refine s_ior C dX4_needOf_124 ?_
              refine s_dk 128 finI [] (fun r14 h15 => ?_) (fun hk => s_dsp 3 (fun ht => c_V C 2 [] 3 RX3 ro_3 (ct_g_Tree_counts hL hJ a12 a13 (x2 ||| x5) h11) (lw_V q1305 q1306 q1307 q114 q1308) nd_X3_counts rfl (le_fr hf rfl) (le_fr hlo rfl) rfl (Nat.le_of_ble_eq_true rfl) dX4_needOf_125 hk ht) s_dsp0)
              refine s_if_ne C 134 dX4_needOf_128 (by decide) ?_ ?_
              · refine s_iload C dX4_needOf_134 5 rfl ?_
                refine c_S C 1 [] (ct_g_Integer_bitCount hL hJ x5 h15) (lw_S q2414 q2415 q119 q2416) nd_J9_bitCount.2 rfl (le_fr hf rfl) (le_fr hlo rfl) rfl (Nat.le_of_ble_eq_true rfl) dX4_needOf_136 fun r16 h17 => ?_
                refine s_istore (la' := [(4, .int r16), (0, vr x0), (1, vr x1), (2, .int x2), (3, .int x3), (5, .int x5)]) C dX4_needOf_139 (lt_nl e5 rfl) rfl ?_
                refine s_aload_n C dX4_needOf_141 1 rfl rfl ?_
                refine s_iload C dX4_needOf_142 5 rfl ?_
                refine s_putI [4] 0 C (by decide) (by decide) (fl1 ⟨⟨by decide, fo_X4_188_4, rfl⟩, rfl⟩) (pl_of e4 rfl) (fl1 (Or.inl rfl)) dX4_needOf_144 fun h18 => ?_
                refine Sim.keep [1, 2, 3, 4, 0, 5] rfl ?_
                exact hj147 _ _ _
              · refine s_goto C 147 dX4_needOf_131 (by decide) ?_
                exact hj147 _ _ _
            refine s_icmp_eq C 113 dX4_needOf_100 (by decide) ?_ ?_
            · exact hj113 _ _ _
            · refine s_iload C dX4_needOf_103 5 rfl ?_
              refine c_S C 1 [] (ct_g_Integer_bitCount hL hJ v82.2 h9) (lw_S q2414 q2415 q119 q2416) nd_J9_bitCount.2 rfl (le_fr hf rfl) (le_fr hlo rfl) rfl (Nat.le_of_ble_eq_true rfl) dX4_needOf_105 fun r19 h20 => ?_
              refine s_iload C dX4_needOf_108 4 rfl ?_
              refine s_icmp_ge C 147 dX4_needOf_110 (by decide) ?_ ?_
              · exact hj147 _ _ _
              · exact hj113 _ _ _
      refine s_istore (la' := [(5, .int (0 : Int32)), (4, .int (-1 : Int32)), (0, vr x0), (1, vr x1), (2, .int x2), (3, .int v14.1)]) C dX4_needOf_80 (lt_nl e5 rfl) rfl ?_
      refine Sim.keep [2, 3, 4, 5, 1, 0] rfl ?_
      exact hL82 _ _ _ _ _ _
    · refine s_iload_n C dX4_needOf_29 2 rfl rfl ?_
      refine s_iload C dX4_needOf_30 4 rfl ?_
      refine c_SN C 2 [] _ (ct_g_FinalLinks_isOf hL hJ x2 v14.2 h8) (lw_meth q1340) q107 q1351 q1339 nd_X1_isOf.2 rfl (le_fr hf rfl) (le_fr hlo rfl) rfl (Nat.le_of_ble_eq_true rfl) dX4_needOf_32 fun r21 h22 => ?_
      have hj70 : ∀ (x3 : Int32) (x4 : Int32) (h23 : Hp), Sim id E (QM id E finI) h23 70 [(0, vr x0), (1, vr x1), (2, .int x2), (3, .int x3), (4, .int x4)] [] (g_Judged_needOf_j70 rec14 x0 x1 x2 x3 x4 h23) := by
        intro x3 x4 h23
        refine s_iinc (la' := [(4, .int (x4 + (1 : Int32))), (0, vr x0), (1, vr x1), (2, .int x2), (3, .int x3)]) C 4 dX4_needOf_70 rfl rfl (lt_nl e5 rfl) rfl ?_
        refine s_goto C 14 dX4_needOf_73 (by decide) ?_
        refine Sim.keep [1, 2, 3, 4, 0] rfl ?_
        exact hr14 _ _
      refine s_if_ne C 70 dX4_needOf_35 (by decide) ?_ ?_
      · exact hj70 _ _ _
      · refine s_aload_n C dX4_needOf_38 0 rfl rfl ?_
        refine s_getI [4] C (fl1 ⟨fo_X4_69_4, rfl⟩) (pl_of e4 rfl) dX4_needOf_39 fun a24 => ?_
        refine s_iload C dX4_needOf_42 4 rfl ?_
        refine c_SN C 2 [] _ (ct_g_FinalLinks_isOf hL hJ a24 v14.2 h22) (lw_meth q1340) q107 q1351 q1339 nd_X1_isOf.2 rfl (le_fr hf rfl) (le_fr hlo rfl) rfl (Nat.le_of_ble_eq_true rfl) dX4_needOf_44 fun r25 h26 => ?_
        refine s_if_ne C 70 dX4_needOf_47 (by decide) ?_ ?_
        · exact hj70 _ _ _
        · refine s_aload_n C dX4_needOf_50 0 rfl rfl ?_
          refine s_getR [4] C (fl1 ⟨fo_X4_24_4, rfl⟩) (pl_of e4 rfl) dX4_needOf_51 fun a27 => ?_
          refine s_iload C dX4_needOf_54 4 rfl ?_
          refine s_aload_n C dX4_needOf_56 1 rfl rfl ?_
          refine s_dk 60 finI [] (fun r28 h29 => ?_) (fun hk => s_dsp 3 (fun ht => c_V C 2 [] 3 RX3 ro_3 (ct_g_Tree_offends hL hJ a27 v14.2 x1 h26) (lw_V q2413 q2377 q2378 q114 q2379) nd_X3_offends rfl (le_fr hf rfl) (le_fr hlo rfl) rfl (Nat.le_of_ble_eq_true rfl) dX4_needOf_57 hk ht) s_dsp0)
          refine s_if_ne C 70 dX4_needOf_60 (by decide) ?_ ?_
          · exact hj70 _ _ _
          · refine s_iload_n C dX4_needOf_63 3 rfl rfl ?_
            refine s_iconst C (1 : Int32) dX4_needOf_64 (by decide) ?_
            refine s_iload C dX4_needOf_65 4 rfl ?_
            refine s_ishl C (v14.2 &&& 31) dX4_needOf_67 rfl ?_
            refine s_ior C dX4_needOf_68 ?_
            refine s_bdi fun a30 => ?_
            refine s_istore_n (la' := [(3, .int a30), (0, vr x0), (1, vr x1), (2, .int x2), (4, .int v14.2)]) C 3 dX4_needOf_69 rfl (lt_nl e5 rfl) rfl ?_
            refine Sim.keep [1, 2, 3, 0, 4] rfl ?_
            exact hj70 _ _ _
  refine s_istore (la' := [(4, .int (0 : Int32)), (3, .int (0 : Int32)), (2, .int r2), (0, vr x0), (1, vr x1)]) C dX4_needOf_12 (lt_nl e5 rfl) rfl ?_
  refine Sim.keep [3, 4, 2, 1, 0] rfl ?_
  exact hL14 _ _ _ _ _

def g_FinalLinks_need_j44 (x3 : Int32) (h9 : Hp) : Option (Int32 × Hp) :=
  some (x3, h9)
def g_FinalLinks_need (x0 : Nat) (x1 : Int32) (x2 : Int32) (h : Hp) : Option (Int32 × Hp) :=
  bn (dsp (tg h x0 % 500) none [(1, g_FinalLinks_isLink x0 x1 x2 h)]) fun r1 h2 =>
  if r1 = 0 then
    some ((-1 : Int32), h2)
  else
    (getR [1] 6 x0 h2).bind fun a3 =>
    bn (newO 10 2 h2) fun o4 h5 =>
    bn (oLinkInit o4 x1 x2 h5) fun _ h6 =>
    bn (dsp (tg h6 a3 % 500) none [(4, g_Judged_needOf a3 o4 h6)]) fun r7 h8 =>
    if r7 = (-1 : Int32) then
      g_FinalLinks_need_j44 r7 h8
    else
      (getR [1] 6 x0 h8).bind fun a10 =>
      (getI [4] 13 a10 h8).bind fun a11 =>
      (putI [1] 0 11 x0 a11 h8).bind fun h12 =>
      g_FinalLinks_need_j44 r7 h12
theorem ct_g_FinalLinks_need {G : Gx} {RL : Lv} {l : Launch} (hL : LvA G RL plA) (hJ : JK G RL l) (x0 : Nat) (x1 : Int32) (x2 : Int32) (h : Hp) : Ct id G RL l yX1_need (ws_ yX1_need cX1_need 4 (some .int)) 47 4159 finI [vr x0, .int x1, .int x2] h (g_FinalLinks_need x0 x1 x2 h) := by
  refine Ct.of (Pl := plA) [(0, vr x0), (1, .int x1), (2, .int x2)] (by decide) hL rfl (Nat.le_of_ble_eq_true rfl) ?_
  intro E C e6 hf hlo e1 e2 e3 e4 e5
  subst e1; subst e2; subst e3
  replace C : Cx E cX1_need (some .int) RX1 := C
  replace e6 : (eMe E).name = "need" := e6
  unfold g_FinalLinks_need
  refine s_aload_n C dX1_need_0 0 rfl rfl ?_
  refine s_iload_n C dX1_need_1 1 rfl rfl ?_
  refine s_iload_n C dX1_need_2 2 rfl rfl ?_
  refine s_dk 6 finI [] (fun r1 h2 => ?_) (fun hk => s_dsp 1 (fun ht => c_V C 2 [] 1 RX1 ro_1 (ct_g_FinalLinks_isLink hL hJ x0 x1 x2 h) (lw_V q2404 q2406 qs28 q107 q2407) nd_X1_isLink rfl (le_fr hf rfl) (le_fr hlo rfl) rfl (Nat.le_of_ble_eq_true rfl) dX1_need_3 hk ht) s_dsp0)
  refine s_if_ne C 11 dX1_need_6 (by decide) ?_ ?_
  · refine s_aload_n C dX1_need_11 0 rfl rfl ?_
    refine s_getR [1] C (fl1 ⟨fo_X1_48_1, rfl⟩) (pl_of e4 rfl) dX1_need_12 fun a3 => ?_
    refine s_newO 10 2 C no_X1_249 (pl_of1 e4 rfl) dX1_need_15 fun o4 h5 zo4 => ?_
    refine s_dup C dX1_need_18 rfl ?_
    refine s_iload_n C dX1_need_19 1 rfl rfl ?_
    refine s_iload_n C dX1_need_20 2 rfl rfl ?_
    refine c_I C 2 [vr o4, vr a3] zo4 (jk_19 hJ o4 x1 x2 h5) (lw_meth q2270) q157 q2375 q2269 rfl nd_X11_init.2 rfl (le_fr hf rfl) (le_fr hlo rfl) rfl (Nat.le_of_ble_eq_true rfl) dX1_need_21 fun _ h6 => ?_
    refine s_dk 27 finI [] (fun r7 h8 => ?_) (fun hk => s_dsp 4 (fun ht => c_V C 1 [] 4 RX4 ro_4 (ct_g_Judged_needOf hL hJ a3 o4 h6) (lw_V q2408 q2409 q2410 q130 q2411) nd_X4_needOf rfl (le_fr hf rfl) (le_fr hlo rfl) rfl (Nat.le_of_ble_eq_true rfl) dX1_need_24 hk ht) s_dsp0)
    refine s_istore_n (la' := [(3, .int r7), (0, vr x0), (1, .int x1), (2, .int x2)]) C 3 dX1_need_27 rfl (lt_nl e5 rfl) rfl ?_
    refine s_iload_n C dX1_need_28 0 rfl rfl ?_
    refine s_iconst C (-1 : Int32) dX1_need_29 (by decide) ?_
    have hj44 : ∀ (x3 : Int32) (h9 : Hp), Sim id E (QM id E finI) h9 44 [(3, .int x3)] [] (g_FinalLinks_need_j44 x3 h9) := by
      intro x3 h9
      refine s_iload_n C dX1_need_44 0 rfl rfl ?_
      exact s_iret C rfl dX1_need_45
    refine s_icmp_eq C 44 dX1_need_30 (by decide) ?_ ?_
    · refine Sim.keep [0] rfl ?_
      exact hj44 _ _
    · refine s_aload_n C dX1_need_33 1 rfl rfl ?_
      refine s_aload_n C dX1_need_34 1 rfl rfl ?_
      refine s_getR [1] C (fl1 ⟨fo_X1_48_1, rfl⟩) (pl_of e4 rfl) dX1_need_35 fun a10 => ?_
      refine s_getI [4] C (fl1 ⟨fo_X1_360_4, rfl⟩) (pl_of e4 rfl) dX1_need_38 fun a11 => ?_
      refine s_putI [1] 0 C (by decide) (by decide) (fl1 ⟨⟨by decide, fo_X1_59_1, rfl⟩, rfl⟩) (pl_of e4 rfl) (fl1 (Or.inl rfl)) dX1_need_41 fun h12 => ?_
      refine Sim.keep [0] rfl ?_
      exact hj44 _ _
  · refine s_iconst C (-1 : Int32) dX1_need_9 (by decide) ?_
    exact s_iret C rfl dX1_need_10

def g_FinalLinks_needed (x0 : Nat) (h : Hp) : Option (Int32 × Hp) :=
  (getI [1] 11 x0 h).bind fun a1 =>
  some (a1, h)
theorem ct_g_FinalLinks_needed {G : Gx} {RL : Lv} {l : Launch} (hL : LvA G RL plA) (hJ : JK G RL l) (x0 : Nat) (h : Hp) : Ct id G RL l yX1_needed (ws_ yX1_needed cX1_needed 1 (some .int)) 0 0 finI [vr x0] h (g_FinalLinks_needed x0 h) := by
  refine Ct.of (Pl := plA) [(0, vr x0)] (by decide) hL rfl (Nat.le_of_ble_eq_true rfl) ?_
  intro E C e6 hf hlo e1 e2 e3 e4 e5
  subst e1; subst e2; subst e3
  replace C : Cx E cX1_needed (some .int) RX1 := C
  replace e6 : (eMe E).name = "needed" := e6
  unfold g_FinalLinks_needed
  refine s_aload_n C dX1_needed_0 0 rfl rfl ?_
  refine s_getI [1] C (fl1 ⟨fo_X1_59_1, rfl⟩) (pl_of e4 rfl) dX1_needed_1 fun a1 => ?_
  exact s_iret C rfl dX1_needed_4

def g_FinalLinks_now (x0 : Nat) (x1 : Int32) (h : Hp) : Option (Int32 × Hp) :=
  swi x1 (some ((-1 : Int32), h)) [
    ((0 : Int32), (getR [1] 6 x0 h).bind fun a1 =>
    (getI [4] 1 a1 h).bind fun a2 =>
    some (a2, h)),
    ((1 : Int32), (getR [1] 6 x0 h).bind fun a3 =>
    (getI [4] 2 a3 h).bind fun a4 =>
    some (a4, h)),
    ((2 : Int32), (getR [1] 6 x0 h).bind fun a5 =>
    (getI [4] 3 a5 h).bind fun a6 =>
    some (a6, h)),
    ((3 : Int32), (getR [1] 4 x0 h).bind fun a7 =>
    (getR [3] 2 a7 h).bind fun a8 =>
    bn (dsp (tg h a8 % 500) none [(25, oAlSize a8 h)]) fun r9 h10 =>
    some (r9, h10)),
    ((4 : Int32), (getR [1] 4 x0 h).bind fun a11 =>
    (getR [3] 4 a11 h).bind fun a12 =>
    bn (dsp (tg h a12 % 500) none [(22, oMpSize a12 h)]) fun r13 h14 =>
    some (r13, h14)),
    ((5 : Int32), (getR [1] 6 x0 h).bind fun a15 =>
    (getI [4] 4 a15 h).bind fun a16 =>
    some (a16, h)),
    ((6 : Int32), (getR [1] 6 x0 h).bind fun a17 =>
    (getI [4] 5 a17 h).bind fun a18 =>
    some (a18, h)),
    ((7 : Int32), (getR [1] 6 x0 h).bind fun a19 =>
    (getI [4] 6 a19 h).bind fun a20 =>
    some (a20, h)),
    ((8 : Int32), (getR [1] 6 x0 h).bind fun a21 =>
    (getI [4] 7 a21 h).bind fun a22 =>
    some (a22, h))]
theorem ct_g_FinalLinks_now {G : Gx} {RL : Lv} {l : Launch} (hL : LvA G RL plA) (hJ : JK G RL l) (x0 : Nat) (x1 : Int32) (h : Hp) : Ct id G RL l yX1_now (ws_ yX1_now cX1_now 2 (some .int)) 41 4020 finI [vr x0, .int x1] h (g_FinalLinks_now x0 x1 h) := by
  refine Ct.of (Pl := plA) [(0, vr x0), (1, .int x1)] (by decide) hL rfl (Nat.le_of_ble_eq_true rfl) ?_
  intro E C e6 hf hlo e1 e2 e3 e4 e5
  subst e1; subst e2; subst e3
  replace C : Cx E cX1_now (some .int) RX1 := C
  replace e6 : (eMe E).name = "now" := e6
  unfold g_FinalLinks_now
  refine s_iload_n C dX1_now_0 1 rfl rfl ?_
  refine s_tsw C 130 dX1_now_1 [(0 : Int32), (1 : Int32), (2 : Int32), (3 : Int32), (4 : Int32), (5 : Int32), (6 : Int32), (7 : Int32), (8 : Int32)] rfl (by decide +kernel) (by decide) (by decide) ⟨⟨52, by decide, ?_⟩, ⟨⟨60, by decide, ?_⟩, ⟨⟨68, by decide, ?_⟩, ⟨⟨76, by decide, ?_⟩, ⟨⟨87, by decide, ?_⟩, ⟨⟨98, by decide, ?_⟩, ⟨⟨106, by decide, ?_⟩, ⟨⟨114, by decide, ?_⟩, ⟨⟨122, by decide, ?_⟩, trivial⟩⟩⟩⟩⟩⟩⟩⟩⟩ ?_
  · refine s_aload_n C dX1_now_52 0 rfl rfl ?_
    refine s_getR [1] C (fl1 ⟨fo_X1_48_1, rfl⟩) (pl_of e4 rfl) dX1_now_53 fun a1 => ?_
    refine s_getI [4] C (fl1 ⟨fo_X1_329_4, rfl⟩) (pl_of e4 rfl) dX1_now_56 fun a2 => ?_
    exact s_iret C rfl dX1_now_59
  · refine s_aload_n C dX1_now_60 0 rfl rfl ?_
    refine s_getR [1] C (fl1 ⟨fo_X1_48_1, rfl⟩) (pl_of e4 rfl) dX1_now_61 fun a3 => ?_
    refine s_getI [4] C (fl1 ⟨fo_X1_332_4, rfl⟩) (pl_of e4 rfl) dX1_now_64 fun a4 => ?_
    exact s_iret C rfl dX1_now_67
  · refine s_aload_n C dX1_now_68 0 rfl rfl ?_
    refine s_getR [1] C (fl1 ⟨fo_X1_48_1, rfl⟩) (pl_of e4 rfl) dX1_now_69 fun a5 => ?_
    refine s_getI [4] C (fl1 ⟨fo_X1_235_4, rfl⟩) (pl_of e4 rfl) dX1_now_72 fun a6 => ?_
    exact s_iret C rfl dX1_now_75
  · refine s_aload_n C dX1_now_76 0 rfl rfl ?_
    refine s_getR [1] C (fl1 ⟨fo_X1_34_1, rfl⟩) (pl_of e4 rfl) dX1_now_77 fun a7 => ?_
    refine s_getR [3] C (fl1 ⟨fo_X1_138_3, rfl⟩) (pl_of e4 rfl) dX1_now_80 fun a8 => ?_
    refine s_dk 86 finI [] (fun r9 h10 => ?_) (fun hk => s_dsp 25 (fun ht => c_V C 0 [] 25 RJ2 ro_25 (jk_15 hJ a8 h) (lw_V q2196 q731 q732 q111 q733) nd_J2_size rfl (le_fr hf rfl) (le_fr hlo rfl) rfl (Nat.le_of_ble_eq_true rfl) dX1_now_83 hk ht) s_dsp0)
    exact s_iret C rfl dX1_now_86
  · refine s_aload_n C dX1_now_87 0 rfl rfl ?_
    refine s_getR [1] C (fl1 ⟨fo_X1_34_1, rfl⟩) (pl_of e4 rfl) dX1_now_88 fun a11 => ?_
    refine s_getR [3] C (fl1 ⟨fo_X1_335_3, rfl⟩) (pl_of e4 rfl) dX1_now_91 fun a12 => ?_
    refine s_dk 97 finI [] (fun r13 h14 => ?_) (fun hk => s_dsp 22 (fun ht => c_U C 0 [] 22 RJ10 _ ro_22 (jk_26 hJ a12 h) (lw_U q2390 q2391 q2393 q2394 q113 q2395) rfl nd_J4_size.2 rfl (le_fr hf rfl) (le_fr hlo rfl) rfl (Nat.le_of_ble_eq_true rfl) dX1_now_94 hk ht) s_dsp0)
    exact s_iret C rfl dX1_now_97
  · refine s_aload_n C dX1_now_98 0 rfl rfl ?_
    refine s_getR [1] C (fl1 ⟨fo_X1_48_1, rfl⟩) (pl_of e4 rfl) dX1_now_99 fun a15 => ?_
    refine s_getI [4] C (fl1 ⟨fo_X1_342_4, rfl⟩) (pl_of e4 rfl) dX1_now_102 fun a16 => ?_
    exact s_iret C rfl dX1_now_105
  · refine s_aload_n C dX1_now_106 0 rfl rfl ?_
    refine s_getR [1] C (fl1 ⟨fo_X1_48_1, rfl⟩) (pl_of e4 rfl) dX1_now_107 fun a17 => ?_
    refine s_getI [4] C (fl1 ⟨fo_X1_316_4, rfl⟩) (pl_of e4 rfl) dX1_now_110 fun a18 => ?_
    exact s_iret C rfl dX1_now_113
  · refine s_aload_n C dX1_now_114 0 rfl rfl ?_
    refine s_getR [1] C (fl1 ⟨fo_X1_48_1, rfl⟩) (pl_of e4 rfl) dX1_now_115 fun a19 => ?_
    refine s_getI [4] C (fl1 ⟨fo_X1_345_4, rfl⟩) (pl_of e4 rfl) dX1_now_118 fun a20 => ?_
    exact s_iret C rfl dX1_now_121
  · refine s_aload_n C dX1_now_122 0 rfl rfl ?_
    refine s_getR [1] C (fl1 ⟨fo_X1_48_1, rfl⟩) (pl_of e4 rfl) dX1_now_123 fun a21 => ?_
    refine s_getI [4] C (fl1 ⟨fo_X1_348_4, rfl⟩) (pl_of e4 rfl) dX1_now_126 fun a22 => ?_
    exact s_iret C rfl dX1_now_129
  · refine s_iconst C (-1 : Int32) dX1_now_130 (by decide) ?_
    exact s_iret C rfl dX1_now_131

def g_Judged_isChosen_L2 (x0 : Nat) (x1 : Int32) : Int32 → Hp → Option (Int32 × Hp) :=
  lp FU fun rec2 v2 h1 =>
    (getI [4] 12 x0 h1).bind fun a2 =>
    if a2 ≤ v2 then
      if nrw 2 (0 : Int32) = (0 : Int32) then some ((0 : Int32), h1) else none
    else
      (getR [4] 9 x0 h1).bind fun a3 =>
      (aldI [200] a3 v2 h1).bind fun a4 =>
      if a4 = x1 then
        if nrw 2 (1 : Int32) = (1 : Int32) then some ((1 : Int32), h1) else none
      else
        rec2 (v2 + (1 : Int32)) h1
def g_Judged_isChosen (x0 : Nat) (x1 : Int32) (h : Hp) : Option (Int32 × Hp) :=
  g_Judged_isChosen_L2 x0 x1 (0 : Int32) h
theorem ct_g_Judged_isChosen {G : Gx} {RL : Lv} {l : Launch} (hL : LvA G RL plA) (hJ : JK G RL l) (x0 : Nat) (x1 : Int32) (h : Hp) : Ct id G RL l yX4_isChosen (ws_ yX4_isChosen cX4_isChosen 3 (some .boolean)) 0 0 finI [vr x0, .int x1] h (g_Judged_isChosen x0 x1 h) := by
  refine Ct.of (Pl := plA) [(0, vr x0), (1, .int x1)] (by decide) hL rfl (Nat.le_of_ble_eq_true rfl) ?_
  intro E C e6 hf hlo e1 e2 e3 e4 e5
  subst e1; subst e2; subst e3
  replace C : Cx E cX4_isChosen (some .boolean) RX4 := C
  replace e6 : (eMe E).name = "isChosen" := e6
  unfold g_Judged_isChosen
  refine s_iconst C (0 : Int32) dX4_isChosen_0 (by decide) ?_
  have hL2 : ∀ (x0 : Nat) (x1 : Int32) (v2 : Int32) (h1 : Hp), Sim id E (QM id E finI) h1 2 [(0, vr x0), (1, .int x1), (2, .int v2)] [] (g_Judged_isChosen_L2 x0 x1 v2 h1) := by
    intro x0 x1 v2 h1
    refine Sim.loop (fun v2 => [(0, vr x0), (1, .int x1), (2, .int v2)]) (fun _ => []) (fun rec2 hr2 v2 h1 => ?_) FU v2 h1
    refine s_iload_n C dX4_isChosen_2 2 rfl rfl ?_
    refine s_aload_n C dX4_isChosen_3 0 rfl rfl ?_
    refine s_getI [4] C (fl1 ⟨fo_X4_44_4, rfl⟩) (pl_of e4 rfl) dX4_isChosen_4 fun a2 => ?_
    refine s_icmp_ge C 28 dX4_isChosen_7 (by decide) ?_ ?_
    · refine s_iconst C (0 : Int32) dX4_isChosen_28 (by decide) ?_
      exact s_zret 2 C (by decide) (by decide) rfl dX4_isChosen_29
    · refine s_aload_n C dX4_isChosen_10 0 rfl rfl ?_
      refine s_getR [4] C (fl1 ⟨fo_X4_15_4, rfl⟩) (pl_of e4 rfl) dX4_isChosen_11 fun a3 => ?_
      refine s_iload_n C dX4_isChosen_14 2 rfl rfl ?_
      refine s_iald [200] C (fl1 rfl) (pl_of e4 rfl) dX4_isChosen_15 fun a4 => ?_
      refine s_iload_n C dX4_isChosen_16 1 rfl rfl ?_
      refine s_icmp_ne C 22 dX4_isChosen_17 (by decide) ?_ ?_
      · refine s_iinc (la' := [(2, .int (v2 + (1 : Int32))), (0, vr x0), (1, .int x1)]) C 2 dX4_isChosen_22 rfl rfl (lt_nl e5 rfl) rfl ?_
        refine s_goto C 2 dX4_isChosen_25 (by decide) ?_
        refine Sim.keep [1, 2, 0] rfl ?_
        exact hr2 _ _
      · refine s_iconst C (1 : Int32) dX4_isChosen_20 (by decide) ?_
        exact s_zret 2 C (by decide) (by decide) rfl dX4_isChosen_21
  refine s_istore_n (la' := [(2, .int (0 : Int32)), (0, vr x0), (1, .int x1)]) C 2 dX4_isChosen_1 rfl (lt_nl e5 rfl) rfl ?_
  refine Sim.keep [1, 2, 0] rfl ?_
  exact hL2 _ _ _ _
