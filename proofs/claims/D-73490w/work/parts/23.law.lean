/-! THE LAW (printed by hgenlaw.py) -/
set_option maxRecDepth 100000
theorem no_X0_8 : NO RX0 8 1 16 := ⟨by decide, by decide, (RX1, TX1, 16), rfl, q171, q172, q107⟩
theorem no_X0_27 : NO RX0 27 6 58 := ⟨by decide, by decide, (RX6, TX6, 58), rfl, q2905, q2899, q147⟩
theorem nd_X0_block : yX0_block.cls = RX0 ∧ yX0_block.cls ≠ "java/lang/invoke/MethodHandle" ∧ yX0_block.cls ≠ "java/lang/invoke/VarHandle" ∧ (parseMethodDescriptor yX0_block.desc).map (fun d => d.parameters.length) = some 4 := ⟨rfl, by decide +kernel, by decide +kernel, by decide +kernel⟩
theorem nd_X0_guilt : yX0_guilt.cls = RX0 ∧ yX0_guilt.cls ≠ "java/lang/invoke/MethodHandle" ∧ yX0_guilt.cls ≠ "java/lang/invoke/VarHandle" ∧ (parseMethodDescriptor yX0_guilt.desc).map (fun d => d.parameters.length) = some 3 := ⟨rfl, by decide +kernel, by decide +kernel, by decide +kernel⟩
theorem nd_X0_link : yX0_link.cls = RX0 ∧ yX0_link.cls ≠ "java/lang/invoke/MethodHandle" ∧ yX0_link.cls ≠ "java/lang/invoke/VarHandle" ∧ (parseMethodDescriptor yX0_link.desc).map (fun d => d.parameters.length) = some 5 := ⟨rfl, by decide +kernel, by decide +kernel, by decide +kernel⟩
theorem nd_X0_mean : yX0_mean.cls = RX0 ∧ yX0_mean.cls ≠ "java/lang/invoke/MethodHandle" ∧ yX0_mean.cls ≠ "java/lang/invoke/VarHandle" ∧ (parseMethodDescriptor yX0_mean.desc).map (fun d => d.parameters.length) = some 3 := ⟨rfl, by decide +kernel, by decide +kernel, by decide +kernel⟩
def g_Law_block (x0 : Nat) (x1 : Int32) (x2 : Int32) (x3 : Nat) (h : Hp) : Option (Int32 × Hp) :=
  bh (dsp (tg h x0 % 500) none [(1, g_FinalLinks_block x0 x1 x2 h)]) (fun q h => if q = 0 then some (1, h) else none) fun r1 h2 =>
  (astL [203] x3 (0 : Int32) r1.toInt64 h2).bind fun h3 =>
  some ((0 : Int32), h3)
theorem ct_g_Law_block {G : Gx} {RL : Lv} {l : Launch} (hL : LvA G RL plA) (hJ : JK G RL l) (x0 : Nat) (x1 : Int32) (x2 : Int32) (x3 : Nat) (h : Hp) : Ct id G RL l yX0_block (wsW_ yX0_block cX0_block 5 (some .int) [(0, 10, 13, 13)]) 45 4104 finI [vr x0, .int x1, .int x2, vr x3] h (g_Law_block x0 x1 x2 x3 h) := by
  refine Ct.ofH (Pl := plA) [(0, vr x0), (1, .int x1), (2, .int x2), (3, vr x3)] (by decide) hL rfl (Nat.le_of_ble_eq_true rfl) ?_
  intro E C e6 hf hlo e1 e2 e3 e4 e5 e7
  subst e1; subst e2; subst e3
  replace C : Cx E cX0_block (some .int) RX0 := C
  replace e6 : (eMe E).name = "block" := e6
  unfold g_Law_block
  refine s_aload_n C dX0_block_0 3 rfl rfl ?_
  refine s_iconst C (0 : Int32) dX0_block_1 (by decide) ?_
  refine s_aload_n C dX0_block_2 0 rfl rfl ?_
  refine s_iload_n C dX0_block_3 1 rfl rfl ?_
  refine s_iload_n C dX0_block_4 2 rfl rfl ?_
  refine s_dkX 8 finI [.int (0 : Int32), vr x3] (fun _ _ => SimX.catchN C ⟨0, 10, 13, 13⟩ e7 rfl rfl (by decide) rfl q2829 q474 (lt_nl (c := 4) e5 rfl) (Or.inl ⟨dX0_block_13, rfl⟩) dX0_block_15 dX0_block_16) (fun r1 h2 => ?_) (fun hx hk => s_dspX 1 (fun ht => x_V C 2 [.int (0 : Int32), vr x3] 1 RX1 ro_1 (ct_g_FinalLinks_block hL hJ x0 x1 x2 h) (lw_V q2830 q2831 q2832 q107 q2833) nd_X1_block rfl (le_fr hf rfl) (le_fr hlo rfl) rfl (Nat.le_of_ble_eq_true rfl) dX0_block_5 hx hk ht) s_dspX0)
  refine s_i2l C dX0_block_8 ?_
  refine s_last [203] C (fl1 ⟨by decide, rfl⟩) (pl_of e4 rfl) dX0_block_9 fun h3 => ?_
  refine s_goto C 17 dX0_block_10 (by decide) ?_
  refine s_iconst C (0 : Int32) dX0_block_17 (by decide) ?_
  exact s_iret C rfl dX0_block_18

def g_Law_guilt (x0 : Nat) (x1 : Int32) (x2 : Nat) (h : Hp) : Option (Int32 × Hp) :=
  bh (dsp (tg h x0 % 500) none [(1, g_FinalLinks_guilt x0 x1 h)]) (fun q h => if q = 0 then some (1, h) else none) fun r1 h2 =>
  (astL [203] x2 (0 : Int32) r1.toInt64 h2).bind fun h3 =>
  some ((0 : Int32), h3)
theorem ct_g_Law_guilt {G : Gx} {RL : Lv} {l : Launch} (hL : LvA G RL plA) (hJ : JK G RL l) (x0 : Nat) (x1 : Int32) (x2 : Nat) (h : Hp) : Ct id G RL l yX0_guilt (wsW_ yX0_guilt cX0_guilt 4 (some .int) [(0, 9, 12, 13)]) 153 11116 finI [vr x0, .int x1, vr x2] h (g_Law_guilt x0 x1 x2 h) := by
  refine Ct.ofH (Pl := plA) [(0, vr x0), (1, .int x1), (2, vr x2)] (by decide) hL rfl (Nat.le_of_ble_eq_true rfl) ?_
  intro E C e6 hf hlo e1 e2 e3 e4 e5 e7
  subst e1; subst e2; subst e3
  replace C : Cx E cX0_guilt (some .int) RX0 := C
  replace e6 : (eMe E).name = "guilt" := e6
  unfold g_Law_guilt
  refine s_aload_n C dX0_guilt_0 2 rfl rfl ?_
  refine s_iconst C (0 : Int32) dX0_guilt_1 (by decide) ?_
  refine s_aload_n C dX0_guilt_2 0 rfl rfl ?_
  refine s_iload_n C dX0_guilt_3 1 rfl rfl ?_
  refine s_dkX 7 finI [.int (0 : Int32), vr x2] (fun _ _ => SimX.catchN C ⟨0, 9, 12, 13⟩ e7 rfl rfl (by decide) rfl q2829 q474 (lt_nl (c := 3) e5 rfl) (Or.inr ⟨_, dX0_guilt_12, rfl, rfl⟩) dX0_guilt_13 dX0_guilt_14) (fun r1 h2 => ?_) (fun hx hk => s_dspX 1 (fun ht => x_V C 1 [.int (0 : Int32), vr x2] 1 RX1 ro_1 (ct_g_FinalLinks_guilt hL hJ x0 x1 h) (lw_V q2861 q2862 q2863 q107 q2864) nd_X1_guilt rfl (le_fr hf rfl) (le_fr hlo rfl) rfl (Nat.le_of_ble_eq_true rfl) dX0_guilt_4 hx hk ht) s_dspX0)
  refine s_i2l C dX0_guilt_7 ?_
  refine s_last [203] C (fl1 ⟨by decide, rfl⟩) (pl_of e4 rfl) dX0_guilt_8 fun h3 => ?_
  refine s_goto C 15 dX0_guilt_9 (by decide) ?_
  refine s_iconst C (0 : Int32) dX0_guilt_15 (by decide) ?_
  exact s_iret C rfl dX0_guilt_16

def g_Law_link (x0 : Nat) (x1 : Int32) (x2 : Int32) (x3 : Int32) (x4 : Nat) (h : Hp) : Option (Int32 × Hp) :=
  bh (dsp (tg h x0 % 500) none [(1, g_FinalLinks_link x0 x1 x2 x3 h)]) (fun q h => if q = 0 then some (1, h) else none) fun r1 h2 =>
  (astL [203] x4 (0 : Int32) r1.toInt64 h2).bind fun h3 =>
  some ((0 : Int32), h3)
theorem ct_g_Law_link {G : Gx} {RL : Lv} {l : Launch} (hL : LvA G RL plA) (hJ : JK G RL l) (x0 : Nat) (x1 : Int32) (x2 : Int32) (x3 : Int32) (x4 : Nat) (h : Hp) : Ct id G RL l yX0_link (wsW_ yX0_link cX0_link 6 (some .int) [(0, 12, 15, 13)]) 47 4159 finI [vr x0, .int x1, .int x2, .int x3, vr x4] h (g_Law_link x0 x1 x2 x3 x4 h) := by
  refine Ct.ofH (Pl := plA) [(0, vr x0), (1, .int x1), (2, .int x2), (3, .int x3), (4, vr x4)] (by decide) hL rfl (Nat.le_of_ble_eq_true rfl) ?_
  intro E C e6 hf hlo e1 e2 e3 e4 e5 e7
  subst e1; subst e2; subst e3
  replace C : Cx E cX0_link (some .int) RX0 := C
  replace e6 : (eMe E).name = "link" := e6
  unfold g_Law_link
  refine s_aload C dX0_link_0 4 rfl ?_
  refine s_iconst C (0 : Int32) dX0_link_2 (by decide) ?_
  refine s_aload_n C dX0_link_3 0 rfl rfl ?_
  refine s_iload_n C dX0_link_4 1 rfl rfl ?_
  refine s_iload_n C dX0_link_5 2 rfl rfl ?_
  refine s_iload_n C dX0_link_6 3 rfl rfl ?_
  refine s_dkX 10 finI [.int (0 : Int32), vr x4] (fun _ _ => SimX.catchN C ⟨0, 12, 15, 13⟩ e7 rfl rfl (by decide) rfl q2829 q474 (lt_nl (c := 5) e5 rfl) (Or.inl ⟨dX0_link_15, rfl⟩) dX0_link_17 dX0_link_18) (fun r1 h2 => ?_) (fun hx hk => s_dspX 1 (fun ht => x_V C 3 [.int (0 : Int32), vr x4] 1 RX1 ro_1 (ct_g_FinalLinks_link hL hJ x0 x1 x2 x3 h) (lw_V q2849 q2850 q2851 q107 q2852) nd_X1_link rfl (le_fr hf rfl) (le_fr hlo rfl) rfl (Nat.le_of_ble_eq_true rfl) dX0_link_7 hx hk ht) s_dspX0)
  refine s_i2l C dX0_link_10 ?_
  refine s_last [203] C (fl1 ⟨by decide, rfl⟩) (pl_of e4 rfl) dX0_link_11 fun h3 => ?_
  refine s_goto C 19 dX0_link_12 (by decide) ?_
  refine s_iconst C (0 : Int32) dX0_link_19 (by decide) ?_
  exact s_iret C rfl dX0_link_20

def g_Law_mean (x0 : Nat) (x1 : Int32) (x2 : Nat) (h : Hp) : Option (Int32 × Hp) :=
  bh (dsp (tg h x0 % 500) none [(1, g_FinalLinks_mean x0 x1 h)]) (fun q h => if q = 0 then some (1, h) else none) fun r1 h2 =>
  (astL [203] x2 (0 : Int32) r1.toInt64 h2).bind fun h3 =>
  some ((0 : Int32), h3)
theorem ct_g_Law_mean {G : Gx} {RL : Lv} {l : Launch} (hL : LvA G RL plA) (hJ : JK G RL l) (x0 : Nat) (x1 : Int32) (x2 : Nat) (h : Hp) : Ct id G RL l yX0_mean (wsW_ yX0_mean cX0_mean 4 (some .int) [(0, 9, 12, 13)]) 153 11117 finI [vr x0, .int x1, vr x2] h (g_Law_mean x0 x1 x2 h) := by
  refine Ct.ofH (Pl := plA) [(0, vr x0), (1, .int x1), (2, vr x2)] (by decide) hL rfl (Nat.le_of_ble_eq_true rfl) ?_
  intro E C e6 hf hlo e1 e2 e3 e4 e5 e7
  subst e1; subst e2; subst e3
  replace C : Cx E cX0_mean (some .int) RX0 := C
  replace e6 : (eMe E).name = "mean" := e6
  unfold g_Law_mean
  refine s_aload_n C dX0_mean_0 2 rfl rfl ?_
  refine s_iconst C (0 : Int32) dX0_mean_1 (by decide) ?_
  refine s_aload_n C dX0_mean_2 0 rfl rfl ?_
  refine s_iload_n C dX0_mean_3 1 rfl rfl ?_
  refine s_dkX 7 finI [.int (0 : Int32), vr x2] (fun _ _ => SimX.catchN C ⟨0, 9, 12, 13⟩ e7 rfl rfl (by decide) rfl q2829 q474 (lt_nl (c := 3) e5 rfl) (Or.inr ⟨_, dX0_mean_12, rfl, rfl⟩) dX0_mean_13 dX0_mean_14) (fun r1 h2 => ?_) (fun hx hk => s_dspX 1 (fun ht => x_V C 1 [.int (0 : Int32), vr x2] 1 RX1 ro_1 (ct_g_FinalLinks_mean hL hJ x0 x1 h) (lw_V q2883 q2884 q2885 q107 q2886) nd_X1_mean rfl (le_fr hf rfl) (le_fr hlo rfl) rfl (Nat.le_of_ble_eq_true rfl) dX0_mean_4 hx hk ht) s_dspX0)
  refine s_i2l C dX0_mean_7 ?_
  refine s_last [203] C (fl1 ⟨by decide, rfl⟩) (pl_of e4 rfl) dX0_mean_8 fun h3 => ?_
  refine s_goto C 15 dX0_mean_9 (by decide) ?_
  refine s_iconst C (0 : Int32) dX0_mean_15 (by decide) ?_
  exact s_iret C rfl dX0_mean_16
noncomputable def g_law_j1462 (rec23 : Int32 → Hp → Option (Int32 × Hp)) (x0 : Nat) (x1 : Nat) (x2 : Nat) (x3 : Nat) (x4 : Int32) (h12 : Hp) : Option (Int32 × Hp) :=
  rec23 (x4 + (6 : Int32)) h12
noncomputable def g_law_j397 (rec23 : Int32 → Hp → Option (Int32 × Hp)) (x0 : Nat) (x1 : Nat) (x2 : Nat) (x3 : Nat) (x4 : Int32) (h56 : Hp) : Option (Int32 × Hp) :=
  g_law_j1462 rec23 x0 x1 x2 x3 x4 h56
noncomputable def g_law_j662 (rec23 : Int32 → Hp → Option (Int32 × Hp)) (x0 : Nat) (x1 : Nat) (x2 : Nat) (x3 : Nat) (x4 : Int32) (h116 : Hp) : Option (Int32 × Hp) :=
  g_law_j1462 rec23 x0 x1 x2 x3 x4 h116
noncomputable def g_law_j1104 (rec23 : Int32 → Hp → Option (Int32 × Hp)) (x0 : Nat) (x1 : Nat) (x2 : Nat) (x3 : Nat) (x4 : Int32) (h231 : Hp) : Option (Int32 × Hp) :=
  g_law_j1462 rec23 x0 x1 x2 x3 x4 h231
noncomputable def g_law_j1160 (rec23 : Int32 → Hp → Option (Int32 × Hp)) (x0 : Nat) (x1 : Nat) (x2 : Nat) (x3 : Nat) (x4 : Int32) (h242 : Hp) : Option (Int32 × Hp) :=
  g_law_j1462 rec23 x0 x1 x2 x3 x4 h242
noncomputable def g_law_L23 (x0 : Nat) (x1 : Nat) (x2 : Nat) (x3 : Nat) : Int32 → Hp → Option (Int32 × Hp) :=
  lp FU fun rec23 v23 h9 =>
    (alen [700] x0 h9).bind fun a10 =>
    if (a10 - (6 : Int32)) < v23 then
      if nrw 2 (1 : Int32) = (1 : Int32) then some ((1 : Int32), h9) else none
    else
      (aldI [700] x0 v23 h9).bind fun a11 =>
      swi (a11 &&& (63 : Int32)) (g_law_j1462 rec23 x0 x1 x2 x3 v23 h9) [
        ((0 : Int32), (aldI [700] x0 (v23 + (1 : Int32)) h9).bind fun a13 =>
        (aldI [700] x0 (v23 + (2 : Int32)) h9).bind fun a14 =>
        (aldI [700] x0 (v23 + (3 : Int32)) h9).bind fun a15 =>
        (aldI [700] x0 (v23 + (4 : Int32)) h9).bind fun a16 =>
        (aldI [700] x0 (v23 + (5 : Int32)) h9).bind fun a17 =>
        bn (dsp (tg h9 x1 % 500) none [(1, g_FinalLinks_feed x1 a13 a14 a15 a16 a17 h9)]) fun r18 h19 =>
        (aldI [700] x0 (v23 + (1 : Int32)) h19).bind fun a20 =>
        (aldI [700] x0 (v23 + (2 : Int32)) h19).bind fun a21 =>
        (aldI [700] x0 (v23 + (3 : Int32)) h19).bind fun a22 =>
        (aldI [700] x0 (v23 + (4 : Int32)) h19).bind fun a23 =>
        (aldI [700] x0 (v23 + (5 : Int32)) h19).bind fun a24 =>
        if x2 = 0 then none else
        bn (dsp (tg h19 x2 % 500) none [(6, onM x2 (fun M => g_feed a20 a21 a22 a23 a24 M) h19)]) fun r26 h27 =>
        if r18 = r26 then
          g_law_j1462 rec23 x0 x1 x2 x3 v23 h27
        else
          if nrw 2 (0 : Int32) = (0 : Int32) then some ((0 : Int32), h27) else none),
        ((1 : Int32), (aldI [700] x0 (v23 + (1 : Int32)) h9).bind fun a28 =>
        bn (dsp (tg h9 x1 % 500) none [(1, g_FinalLinks_end x1 a28 h9)]) fun r29 h30 =>
        (aldI [700] x0 (v23 + (1 : Int32)) h30).bind fun a31 =>
        if x2 = 0 then none else
        bn (dsp (tg h30 x2 % 500) none [(6, onM x2 (fun M => g_end a31 M) h30)]) fun r33 h34 =>
        if r29 = r33 then
          g_law_j1462 rec23 x0 x1 x2 x3 v23 h34
        else
          if nrw 2 (0 : Int32) = (0 : Int32) then some ((0 : Int32), h34) else none),
        ((2 : Int32), bn (dsp (tg h9 x1 % 500) none [(1, g_FinalLinks_chain x1 h9)]) fun r35 h36 =>
        if x2 = 0 then none else
        bn (dsp (tg h36 x2 % 500) none [(6, onM x2 (fun M => g_chain  M) h36)]) fun r38 h39 =>
        if r35 = r38 then
          g_law_j1462 rec23 x0 x1 x2 x3 v23 h39
        else
          if nrw 2 (0 : Int32) = (0 : Int32) then some ((0 : Int32), h39) else none),
        ((3 : Int32), bn (dsp (tg h9 x1 % 500) none [(1, g_FinalLinks_fault x1 h9)]) fun r40 h41 =>
        if x2 = 0 then none else
        bn (dsp (tg h41 x2 % 500) none [(6, onM x2 (fun M => g_fault  M) h41)]) fun r43 h44 =>
        if r40 = r43 then
          g_law_j1462 rec23 x0 x1 x2 x3 v23 h44
        else
          if nrw 2 (0 : Int32) = (0 : Int32) then some ((0 : Int32), h44) else none),
        ((4 : Int32), (aldI [700] x0 (v23 + (1 : Int32)) h9).bind fun a45 =>
        (aldI [700] x0 (v23 + (2 : Int32)) h9).bind fun a46 =>
        bn (g_Law_block x1 a45 a46 x3 h9) fun r47 h48 =>
        (aldI [700] x0 (v23 + (1 : Int32)) h48).bind fun a49 =>
        (aldI [700] x0 (v23 + (2 : Int32)) h48).bind fun a50 =>
        if x2 = 0 then none else
        bn (dsp (tg h48 x2 % 500) none [(6, onM x2 (fun M => g_block a49 a50 M) h48)]) fun r52 h53 =>
        bn (dsp (tg h53 x2 % 500) none [(6, onM x2 (fun M => g_thrown  M) h53)]) fun r54 h55 =>
        if r54 = r47 then
          if r47 = 0 then
            (aldL [203] x3 (0 : Int32) h55).bind fun a57 =>
            if (lg_cmp a57 r52.toInt64) = 0 then
              g_law_j397 rec23 x0 x1 x2 x3 v23 h55
            else
              if nrw 2 (0 : Int32) = (0 : Int32) then some ((0 : Int32), h55) else none
          else
            g_law_j397 rec23 x0 x1 x2 x3 v23 h55
        else
          if nrw 2 (0 : Int32) = (0 : Int32) then some ((0 : Int32), h55) else none),
        ((5 : Int32), (aldI [700] x0 (v23 + (1 : Int32)) h9).bind fun a58 =>
        (aldI [700] x0 (v23 + (2 : Int32)) h9).bind fun a59 =>
        bn (dsp (tg h9 x1 % 500) none [(1, g_FinalLinks_ahead x1 a58 a59 h9)]) fun r60 h61 =>
        (aldI [700] x0 (v23 + (1 : Int32)) h61).bind fun a62 =>
        (aldI [700] x0 (v23 + (2 : Int32)) h61).bind fun a63 =>
        if x2 = 0 then none else
        bn (dsp (tg h61 x2 % 500) none [(6, onM x2 (fun M => g_ahead a62 a63 M) h61)]) fun r65 h66 =>
        if r60 = r65 then
          g_law_j1462 rec23 x0 x1 x2 x3 v23 h66
        else
          if nrw 2 (0 : Int32) = (0 : Int32) then some ((0 : Int32), h66) else none),
        ((6 : Int32), (aldI [700] x0 (v23 + (1 : Int32)) h9).bind fun a67 =>
        (aldI [700] x0 (v23 + (2 : Int32)) h9).bind fun a68 =>
        bn (dsp (tg h9 x1 % 500) none [(1, g_FinalLinks_fork x1 a67 a68 h9)]) fun r69 h70 =>
        (aldI [700] x0 (v23 + (1 : Int32)) h70).bind fun a71 =>
        (aldI [700] x0 (v23 + (2 : Int32)) h70).bind fun a72 =>
        if x2 = 0 then none else
        bn (dsp (tg h70 x2 % 500) none [(6, onM x2 (fun M => g_fork a71 a72 M) h70)]) fun r74 h75 =>
        if r69 = r74 then
          g_law_j1462 rec23 x0 x1 x2 x3 v23 h75
        else
          if nrw 2 (0 : Int32) = (0 : Int32) then some ((0 : Int32), h75) else none),
        ((7 : Int32), (aldI [700] x0 (v23 + (1 : Int32)) h9).bind fun a76 =>
        (aldI [700] x0 (v23 + (2 : Int32)) h9).bind fun a77 =>
        bn (dsp (tg h9 x1 % 500) none [(1, g_FinalLinks_weight x1 a76 a77 h9)]) fun r78 h79 =>
        (aldI [700] x0 (v23 + (1 : Int32)) h79).bind fun a80 =>
        (aldI [700] x0 (v23 + (2 : Int32)) h79).bind fun a81 =>
        if x2 = 0 then none else
        bn (dsp (tg h79 x2 % 500) none [(6, onM x2 (fun M => g_weight a80 a81 M) h79)]) fun r83 h84 =>
        if r78 = r83 then
          g_law_j1462 rec23 x0 x1 x2 x3 v23 h84
        else
          if nrw 2 (0 : Int32) = (0 : Int32) then some ((0 : Int32), h84) else none),
        ((8 : Int32), (aldI [700] x0 (v23 + (1 : Int32)) h9).bind fun a85 =>
        (aldI [700] x0 (v23 + (2 : Int32)) h9).bind fun a86 =>
        bn (dsp (tg h9 x1 % 500) none [(1, g_FinalLinks_voter x1 a85 a86 h9)]) fun r87 h88 =>
        (aldI [700] x0 (v23 + (1 : Int32)) h88).bind fun a89 =>
        (aldI [700] x0 (v23 + (2 : Int32)) h88).bind fun a90 =>
        if x2 = 0 then none else
        bn (dsp (tg h88 x2 % 500) none [(6, onM x2 (fun M => g_voter a89 a90 M) h88)]) fun r92 h93 =>
        if r87 = r92 then
          g_law_j1462 rec23 x0 x1 x2 x3 v23 h93
        else
          if nrw 2 (0 : Int32) = (0 : Int32) then some ((0 : Int32), h93) else none),
        ((9 : Int32), (aldI [700] x0 (v23 + (1 : Int32)) h9).bind fun a94 =>
        (aldI [700] x0 (v23 + (2 : Int32)) h9).bind fun a95 =>
        bn (dsp (tg h9 x1 % 500) none [(1, g_FinalLinks_vote x1 a94 a95 h9)]) fun r96 h97 =>
        (aldI [700] x0 (v23 + (1 : Int32)) h97).bind fun a98 =>
        (aldI [700] x0 (v23 + (2 : Int32)) h97).bind fun a99 =>
        if x2 = 0 then none else
        bn (dsp (tg h97 x2 % 500) none [(6, onM x2 (fun M => g_vote a98 a99 M) h97)]) fun r101 h102 =>
        if r96 = r101 then
          g_law_j1462 rec23 x0 x1 x2 x3 v23 h102
        else
          if nrw 2 (0 : Int32) = (0 : Int32) then some ((0 : Int32), h102) else none),
        ((10 : Int32), (aldI [700] x0 (v23 + (1 : Int32)) h9).bind fun a103 =>
        (aldI [700] x0 (v23 + (2 : Int32)) h9).bind fun a104 =>
        (aldI [700] x0 (v23 + (3 : Int32)) h9).bind fun a105 =>
        bn (g_Law_link x1 a103 a104 a105 x3 h9) fun r106 h107 =>
        (aldI [700] x0 (v23 + (1 : Int32)) h107).bind fun a108 =>
        (aldI [700] x0 (v23 + (2 : Int32)) h107).bind fun a109 =>
        (aldI [700] x0 (v23 + (3 : Int32)) h107).bind fun a110 =>
        if x2 = 0 then none else
        bn (dsp (tg h107 x2 % 500) none [(6, onM x2 (fun M => g_link a108 a109 a110 M) h107)]) fun r112 h113 =>
        bn (dsp (tg h113 x2 % 500) none [(6, onM x2 (fun M => g_thrown  M) h113)]) fun r114 h115 =>
        if r114 = r106 then
          if r106 = 0 then
            (aldL [203] x3 (0 : Int32) h115).bind fun a117 =>
            if (lg_cmp a117 r112.toInt64) = 0 then
              g_law_j662 rec23 x0 x1 x2 x3 v23 h115
            else
              if nrw 2 (0 : Int32) = (0 : Int32) then some ((0 : Int32), h115) else none
          else
            g_law_j662 rec23 x0 x1 x2 x3 v23 h115
        else
          if nrw 2 (0 : Int32) = (0 : Int32) then some ((0 : Int32), h115) else none),
        ((11 : Int32), (aldI [700] x0 (v23 + (1 : Int32)) h9).bind fun a118 =>
        (aldI [700] x0 (v23 + (2 : Int32)) h9).bind fun a119 =>
        (aldI [700] x0 (v23 + (3 : Int32)) h9).bind fun a120 =>
        bn (dsp (tg h9 x1 % 500) none [(1, g_FinalLinks_votes x1 a118 a119 a120 h9)]) fun r121 h122 =>
        (aldI [700] x0 (v23 + (1 : Int32)) h122).bind fun a123 =>
        (aldI [700] x0 (v23 + (2 : Int32)) h122).bind fun a124 =>
        (aldI [700] x0 (v23 + (3 : Int32)) h122).bind fun a125 =>
        if x2 = 0 then none else
        bn (dsp (tg h122 x2 % 500) none [(6, onM x2 (fun M => g_votes a123 a124 a125 M) h122)]) fun r127 h128 =>
        if r121 = r127 then
          g_law_j1462 rec23 x0 x1 x2 x3 v23 h128
        else
          if nrw 2 (0 : Int32) = (0 : Int32) then some ((0 : Int32), h128) else none),
        ((12 : Int32), (aldI [700] x0 (v23 + (1 : Int32)) h9).bind fun a129 =>
        (aldI [700] x0 (v23 + (2 : Int32)) h9).bind fun a130 =>
        bn (dsp (tg h9 x1 % 500) none [(1, g_FinalLinks_looks x1 a129 a130 h9)]) fun r131 h132 =>
        (aldI [700] x0 (v23 + (1 : Int32)) h132).bind fun a133 =>
        (aldI [700] x0 (v23 + (2 : Int32)) h132).bind fun a134 =>
        if x2 = 0 then none else
        bn (dsp (tg h132 x2 % 500) none [(6, onM x2 (fun M => g_looks a133 a134 M) h132)]) fun r136 h137 =>
        if r131 = r136 then
          g_law_j1462 rec23 x0 x1 x2 x3 v23 h137
        else
          if nrw 2 (0 : Int32) = (0 : Int32) then some ((0 : Int32), h137) else none),
        ((13 : Int32), (aldI [700] x0 (v23 + (1 : Int32)) h9).bind fun a138 =>
        bn (dsp (tg h9 x1 % 500) none [(1, g_FinalLinks_grows x1 a138 h9)]) fun r139 h140 =>
        (aldI [700] x0 (v23 + (1 : Int32)) h140).bind fun a141 =>
        if x2 = 0 then none else
        bn (dsp (tg h140 x2 % 500) none [(6, onM x2 (fun M => g_grows a141 M) h140)]) fun r143 h144 =>
        if r139 = r143 then
          g_law_j1462 rec23 x0 x1 x2 x3 v23 h144
        else
          if nrw 2 (0 : Int32) = (0 : Int32) then some ((0 : Int32), h144) else none),
        ((14 : Int32), bn (dsp (tg h9 x1 % 500) none [(1, g_FinalLinks_undo x1 h9)]) fun r145 h146 =>
        if x2 = 0 then none else
        bn (dsp (tg h146 x2 % 500) none [(6, onM x2 (fun M => g_undo  M) h146)]) fun r148 h149 =>
        if r145 = r148 then
          g_law_j1462 rec23 x0 x1 x2 x3 v23 h149
        else
          if nrw 2 (0 : Int32) = (0 : Int32) then some ((0 : Int32), h149) else none),
        ((15 : Int32), (aldI [700] x0 (v23 + (1 : Int32)) h9).bind fun a150 =>
        (aldI [700] x0 (v23 + (2 : Int32)) h9).bind fun a151 =>
        (aldI [700] x0 (v23 + (3 : Int32)) h9).bind fun a152 =>
        bn (dsp (tg h9 x1 % 500) none [(1, g_FinalLinks_offends x1 a150 a151 a152 h9)]) fun r153 h154 =>
        (aldI [700] x0 (v23 + (1 : Int32)) h154).bind fun a155 =>
        (aldI [700] x0 (v23 + (2 : Int32)) h154).bind fun a156 =>
        (aldI [700] x0 (v23 + (3 : Int32)) h154).bind fun a157 =>
        if x2 = 0 then none else
        bn (dsp (tg h154 x2 % 500) none [(6, onM x2 (fun M => g_offends a155 a156 a157 M) h154)]) fun r159 h160 =>
        if r153 = r159 then
          g_law_j1462 rec23 x0 x1 x2 x3 v23 h160
        else
          if nrw 2 (0 : Int32) = (0 : Int32) then some ((0 : Int32), h160) else none),
        ((16 : Int32), (aldI [700] x0 (v23 + (1 : Int32)) h9).bind fun a161 =>
        (aldI [700] x0 (v23 + (2 : Int32)) h9).bind fun a162 =>
        bn (dsp (tg h9 x1 % 500) none [(1, g_FinalLinks_evidence x1 a161 a162 h9)]) fun r163 h164 =>
        (aldI [700] x0 (v23 + (1 : Int32)) h164).bind fun a165 =>
        (aldI [700] x0 (v23 + (2 : Int32)) h164).bind fun a166 =>
        if x2 = 0 then none else
        bn (dsp (tg h164 x2 % 500) none [(6, onM x2 (fun M => g_evidence a165 a166 M) h164)]) fun r168 h169 =>
        if r163 = r168 then
          g_law_j1462 rec23 x0 x1 x2 x3 v23 h169
        else
          if nrw 2 (0 : Int32) = (0 : Int32) then some ((0 : Int32), h169) else none),
        ((17 : Int32), (aldI [700] x0 (v23 + (1 : Int32)) h9).bind fun a170 =>
        bn (dsp (tg h9 x1 % 500) none [(1, g_FinalLinks_now x1 a170 h9)]) fun r171 h172 =>
        (aldI [700] x0 (v23 + (1 : Int32)) h172).bind fun a173 =>
        if x2 = 0 then none else
        bn (dsp (tg h172 x2 % 500) none [(6, onM x2 (fun M => g_now a173 M) h172)]) fun r175 h176 =>
        if r171 = r175 then
          g_law_j1462 rec23 x0 x1 x2 x3 v23 h176
        else
          if nrw 2 (0 : Int32) = (0 : Int32) then some ((0 : Int32), h176) else none),
        ((18 : Int32), (aldI [700] x0 (v23 + (1 : Int32)) h9).bind fun a177 =>
        bn (dsp (tg h9 x1 % 500) none [(1, g_FinalLinks_chosen x1 a177 h9)]) fun r178 h179 =>
        (aldI [700] x0 (v23 + (1 : Int32)) h179).bind fun a180 =>
        if x2 = 0 then none else
        bn (dsp (tg h179 x2 % 500) none [(6, onM x2 (fun M => g_chosen a180 M) h179)]) fun r182 h183 =>
        if r178 = r182 then
          g_law_j1462 rec23 x0 x1 x2 x3 v23 h183
        else
          if nrw 2 (0 : Int32) = (0 : Int32) then some ((0 : Int32), h183) else none),
        ((19 : Int32), (aldI [700] x0 (v23 + (1 : Int32)) h9).bind fun a184 =>
        (aldI [700] x0 (v23 + (2 : Int32)) h9).bind fun a185 =>
        bn (dsp (tg h9 x1 % 500) none [(1, g_FinalLinks_need x1 a184 a185 h9)]) fun r186 h187 =>
        (aldI [700] x0 (v23 + (1 : Int32)) h187).bind fun a188 =>
        (aldI [700] x0 (v23 + (2 : Int32)) h187).bind fun a189 =>
        if x2 = 0 then none else
        bn (dsp (tg h187 x2 % 500) none [(6, onM x2 (fun M => g_need a188 a189 M) h187)]) fun r191 h192 =>
        if r186 = r191 then
          g_law_j1462 rec23 x0 x1 x2 x3 v23 h192
        else
          if nrw 2 (0 : Int32) = (0 : Int32) then some ((0 : Int32), h192) else none),
        ((20 : Int32), bn (dsp (tg h9 x1 % 500) none [(1, g_FinalLinks_needed x1 h9)]) fun r193 h194 =>
        if x2 = 0 then none else
        bn (dsp (tg h194 x2 % 500) none [(6, onM x2 (fun M => g_needed  M) h194)]) fun r196 h197 =>
        if r193 = r196 then
          g_law_j1462 rec23 x0 x1 x2 x3 v23 h197
        else
          if nrw 2 (0 : Int32) = (0 : Int32) then some ((0 : Int32), h197) else none),
        ((21 : Int32), (aldI [700] x0 (v23 + (1 : Int32)) h9).bind fun a198 =>
        bn (dsp (tg h9 x1 % 500) none [(1, g_FinalLinks_way x1 a198 h9)]) fun r199 h200 =>
        (aldI [700] x0 (v23 + (1 : Int32)) h200).bind fun a201 =>
        if x2 = 0 then none else
        bn (dsp (tg h200 x2 % 500) none [(6, onM x2 (fun M => g_way a201 M) h200)]) fun r203 h204 =>
        if r199 = r203 then
          g_law_j1462 rec23 x0 x1 x2 x3 v23 h204
        else
          if nrw 2 (0 : Int32) = (0 : Int32) then some ((0 : Int32), h204) else none),
        ((22 : Int32), bn (dsp (tg h9 x1 % 500) none [(1, g_FinalLinks_wayFrom x1 h9)]) fun r205 h206 =>
        if x2 = 0 then none else
        bn (dsp (tg h206 x2 % 500) none [(6, onM x2 (fun M => g_wayFrom  M) h206)]) fun r208 h209 =>
        if r205 = r208 then
          g_law_j1462 rec23 x0 x1 x2 x3 v23 h209
        else
          if nrw 2 (0 : Int32) = (0 : Int32) then some ((0 : Int32), h209) else none),
        ((23 : Int32), bn (dsp (tg h9 x1 % 500) none [(1, g_FinalLinks_clash x1 h9)]) fun r210 h211 =>
        if x2 = 0 then none else
        bn (dsp (tg h211 x2 % 500) none [(6, onM x2 (fun M => g_clash  M) h211)]) fun r213 h214 =>
        if r210 = r213 then
          g_law_j1462 rec23 x0 x1 x2 x3 v23 h214
        else
          if nrw 2 (0 : Int32) = (0 : Int32) then some ((0 : Int32), h214) else none),
        ((24 : Int32), (aldI [700] x0 (v23 + (1 : Int32)) h9).bind fun a215 =>
        bn (dsp (tg h9 x1 % 500) none [(1, g_FinalLinks_clashAt x1 a215 h9)]) fun r216 h217 =>
        (aldI [700] x0 (v23 + (1 : Int32)) h217).bind fun a218 =>
        if x2 = 0 then none else
        bn (dsp (tg h217 x2 % 500) none [(6, onM x2 (fun M => g_clashAt a218 M) h217)]) fun r220 h221 =>
        if r216 = r220 then
          g_law_j1462 rec23 x0 x1 x2 x3 v23 h221
        else
          if nrw 2 (0 : Int32) = (0 : Int32) then some ((0 : Int32), h221) else none),
        ((25 : Int32), (aldI [700] x0 (v23 + (1 : Int32)) h9).bind fun a222 =>
        bn (g_Law_guilt x1 a222 x3 h9) fun r223 h224 =>
        (aldI [700] x0 (v23 + (1 : Int32)) h224).bind fun a225 =>
        if x2 = 0 then none else
        bn (dsp (tg h224 x2 % 500) none [(6, onM x2 (fun M => g_guilt a225 M) h224)]) fun r227 h228 =>
        bn (dsp (tg h228 x2 % 500) none [(6, onM x2 (fun M => g_thrown  M) h228)]) fun r229 h230 =>
        if r229 = r223 then
          if r223 = 0 then
            (aldL [203] x3 (0 : Int32) h230).bind fun a232 =>
            if (lg_cmp a232 r227.toInt64) = 0 then
              g_law_j1104 rec23 x0 x1 x2 x3 v23 h230
            else
              if nrw 2 (0 : Int32) = (0 : Int32) then some ((0 : Int32), h230) else none
          else
            g_law_j1104 rec23 x0 x1 x2 x3 v23 h230
        else
          if nrw 2 (0 : Int32) = (0 : Int32) then some ((0 : Int32), h230) else none),
        ((26 : Int32), (aldI [700] x0 (v23 + (1 : Int32)) h9).bind fun a233 =>
        bn (g_Law_mean x1 a233 x3 h9) fun r234 h235 =>
        (aldI [700] x0 (v23 + (1 : Int32)) h235).bind fun a236 =>
        if x2 = 0 then none else
        bn (dsp (tg h235 x2 % 500) none [(6, onM x2 (fun M => g_mean a236 M) h235)]) fun r238 h239 =>
        bn (dsp (tg h239 x2 % 500) none [(6, onM x2 (fun M => g_thrown  M) h239)]) fun r240 h241 =>
        if r240 = r234 then
          if r234 = 0 then
            (aldL [203] x3 (0 : Int32) h241).bind fun a243 =>
            if (lg_cmp a243 r238.toInt64) = 0 then
              g_law_j1160 rec23 x0 x1 x2 x3 v23 h241
            else
              if nrw 2 (0 : Int32) = (0 : Int32) then some ((0 : Int32), h241) else none
          else
            g_law_j1160 rec23 x0 x1 x2 x3 v23 h241
        else
          if nrw 2 (0 : Int32) = (0 : Int32) then some ((0 : Int32), h241) else none),
        ((27 : Int32), (aldI [700] x0 (v23 + (1 : Int32)) h9).bind fun a244 =>
        bn (dsp (tg h9 x1 % 500) none [(1, g_FinalLinks_tag x1 a244 h9)]) fun r245 h246 =>
        (aldI [700] x0 (v23 + (1 : Int32)) h246).bind fun a247 =>
        if x2 = 0 then none else
        bn (dsp (tg h246 x2 % 500) none [(6, onM x2 (fun M => g_tag a247 M) h246)]) fun r249 h250 =>
        if r245 = r249 then
          g_law_j1462 rec23 x0 x1 x2 x3 v23 h250
        else
          if nrw 2 (0 : Int32) = (0 : Int32) then some ((0 : Int32), h250) else none),
        ((28 : Int32), (aldI [700] x0 (v23 + (1 : Int32)) h9).bind fun a251 =>
        bn (dsp (tg h9 x1 % 500) none [(1, g_FinalLinks_byteAt x1 a251 h9)]) fun r252 h253 =>
        (aldI [700] x0 (v23 + (1 : Int32)) h253).bind fun a254 =>
        if x2 = 0 then none else
        bn (dsp (tg h253 x2 % 500) none [(6, onM x2 (fun M => g_byteAt a254 M) h253)]) fun r256 h257 =>
        if r252 = r256 then
          g_law_j1462 rec23 x0 x1 x2 x3 v23 h257
        else
          if nrw 2 (0 : Int32) = (0 : Int32) then some ((0 : Int32), h257) else none),
        ((29 : Int32), (aldI [700] x0 (v23 + (1 : Int32)) h9).bind fun a258 =>
        (aldI [700] x0 (v23 + (2 : Int32)) h9).bind fun a259 =>
        bn (dsp (tg h9 x1 % 500) none [(1, g_FinalLinks_drawn x1 a258 a259 h9)]) fun r260 h261 =>
        (aldI [700] x0 (v23 + (1 : Int32)) h261).bind fun a262 =>
        (aldI [700] x0 (v23 + (2 : Int32)) h261).bind fun a263 =>
        if x2 = 0 then none else
        bn (dsp (tg h261 x2 % 500) none [(6, onM x2 (fun M => g_drawn a262 a263 M) h261)]) fun r265 h266 =>
        if r260 = r265 then
          g_law_j1462 rec23 x0 x1 x2 x3 v23 h266
        else
          if nrw 2 (0 : Int32) = (0 : Int32) then some ((0 : Int32), h266) else none),
        ((30 : Int32), (aldI [700] x0 (v23 + (1 : Int32)) h9).bind fun a267 =>
        (aldI [700] x0 (v23 + (2 : Int32)) h9).bind fun a268 =>
        (aldI [700] x0 (v23 + (3 : Int32)) h9).bind fun a269 =>
        bn (dsp (tg h9 x1 % 500) none [(1, g_FinalLinks_odds x1 a267 a268 a269 h9)]) fun r270 h271 =>
        (aldI [700] x0 (v23 + (1 : Int32)) h271).bind fun a272 =>
        (aldI [700] x0 (v23 + (2 : Int32)) h271).bind fun a273 =>
        (aldI [700] x0 (v23 + (3 : Int32)) h271).bind fun a274 =>
        if x2 = 0 then none else
        bn (dsp (tg h271 x2 % 500) none [(6, onM x2 (fun M => g_odds a272 a273 a274 M) h271)]) fun r276 h277 =>
        if r270 = r276 then
          g_law_j1462 rec23 x0 x1 x2 x3 v23 h277
        else
          if nrw 2 (0 : Int32) = (0 : Int32) then some ((0 : Int32), h277) else none),
        ((31 : Int32), (aldI [700] x0 (v23 + (1 : Int32)) h9).bind fun a278 =>
        bn (dsp (tg h9 x1 % 500) none [(1, g_FinalLinks_book x1 a278 h9)]) fun r279 h280 =>
        (aldI [700] x0 (v23 + (1 : Int32)) h280).bind fun a281 =>
        if x2 = 0 then none else
        bn (dsp (tg h280 x2 % 500) none [(6, onM x2 (fun M => g_book a281 M) h280)]) fun r283 h284 =>
        if r279 = r283 then
          g_law_j1462 rec23 x0 x1 x2 x3 v23 h284
        else
          if nrw 2 (0 : Int32) = (0 : Int32) then some ((0 : Int32), h284) else none),
        ((32 : Int32), (aldI [700] x0 (v23 + (1 : Int32)) h9).bind fun a285 =>
        bn (dsp (tg h9 x1 % 500) none [(1, g_FinalLinks_told x1 a285 h9)]) fun r286 h287 =>
        (aldI [700] x0 (v23 + (1 : Int32)) h287).bind fun a288 =>
        if x2 = 0 then none else
        bn (dsp (tg h287 x2 % 500) none [(6, onM x2 (fun M => g_told a288 M) h287)]) fun r290 h291 =>
        if r286 = r290 then
          g_law_j1462 rec23 x0 x1 x2 x3 v23 h291
        else
          if nrw 2 (0 : Int32) = (0 : Int32) then some ((0 : Int32), h291) else none),
        ((33 : Int32), bn (dsp (tg h9 x1 % 500) none [(1, g_FinalLinks_sentence x1 h9)]) fun r292 h293 =>
        if x2 = 0 then none else
        bn (dsp (tg h293 x2 % 500) none [(6, onM x2 (fun M => g_sentence  M) h293)]) fun r295 h296 =>
        if r292 = r295 then
          g_law_j1462 rec23 x0 x1 x2 x3 v23 h296
        else
          if nrw 2 (0 : Int32) = (0 : Int32) then some ((0 : Int32), h296) else none),
        ((34 : Int32), (aldI [700] x0 (v23 + (1 : Int32)) h9).bind fun a297 =>
        bn (dsp (tg h9 x1 % 500) none [(1, g_FinalLinks_said x1 a297 h9)]) fun r298 h299 =>
        (aldI [700] x0 (v23 + (1 : Int32)) h299).bind fun a300 =>
        if x2 = 0 then none else
        bn (dsp (tg h299 x2 % 500) none [(6, onM x2 (fun M => g_said a300 M) h299)]) fun r302 h303 =>
        if r298 = r302 then
          g_law_j1462 rec23 x0 x1 x2 x3 v23 h303
        else
          if nrw 2 (0 : Int32) = (0 : Int32) then some ((0 : Int32), h303) else none),
        ((35 : Int32), (aldI [700] x0 (v23 + (1 : Int32)) h9).bind fun a304 =>
        bn (dsp (tg h9 x1 % 500) none [(1, g_FinalLinks_image x1 a304 h9)]) fun r305 h306 =>
        (aldI [700] x0 (v23 + (1 : Int32)) h306).bind fun a307 =>
        if x2 = 0 then none else
        bn (dsp (tg h306 x2 % 500) none [(6, onM x2 (fun M => g_image a307 M) h306)]) fun r309 h310 =>
        if r305 = r309 then
          g_law_j1462 rec23 x0 x1 x2 x3 v23 h310
        else
          if nrw 2 (0 : Int32) = (0 : Int32) then some ((0 : Int32), h310) else none),
        ((36 : Int32), (aldI [700] x0 (v23 + (1 : Int32)) h9).bind fun a311 =>
        bn (dsp (tg h9 x1 % 500) none [(1, g_FinalLinks_restore x1 a311 h9)]) fun r312 h313 =>
        (aldI [700] x0 (v23 + (1 : Int32)) h313).bind fun a314 =>
        if x2 = 0 then none else
        bn (dsp (tg h313 x2 % 500) none [(6, onM x2 (fun M => g_restore a314 M) h313)]) fun r316 h317 =>
        if r312 = r316 then
          g_law_j1462 rec23 x0 x1 x2 x3 v23 h317
        else
          if nrw 2 (0 : Int32) = (0 : Int32) then some ((0 : Int32), h317) else none),
        ((37 : Int32), (aldI [700] x0 (v23 + (1 : Int32)) h9).bind fun a318 =>
        bn (dsp (tg h9 x1 % 500) none [(1, g_FinalLinks_count x1 a318 h9)]) fun r319 h320 =>
        (aldI [700] x0 (v23 + (1 : Int32)) h320).bind fun a321 =>
        if x2 = 0 then none else
        bn (dsp (tg h320 x2 % 500) none [(6, onM x2 (fun M => g_count a321 M) h320)]) fun r323 h324 =>
        if r319 = r323 then
          g_law_j1462 rec23 x0 x1 x2 x3 v23 h324
        else
          if nrw 2 (0 : Int32) = (0 : Int32) then some ((0 : Int32), h324) else none)]
noncomputable def g_law (x0 : Nat) (h : Hp) : Option (Int32 × Hp) :=
  bn (newO 1 16 h) fun o1 h2 =>
  bn (g_FinalLinks_init o1 h2) fun _ h3 =>
  bn (newO 6 58 h3) fun o4 h5 =>
  bn (g_FinalLinksModel_init o4 h5) fun _ h6 =>
  bn (newA 203 (1 : Int32) h6) fun o7 h8 =>
  g_law_L23 x0 o1 o4 o7 (0 : Int32) h8
theorem sim_law {E : Ex} (hL : LvA (eG E) (eRL E) plA) (hJ : JK (eG E) (eRL E) (eL E)) (C : Cx E cL_law (some .boolean) RX0) (hf : (eR E).frames = 8192) (hlo : (eR E).locals = 100000) (e4 : ePl E = plA) (e5 : eNL E = 7) (x0 : Nat) (h : Hp) : Sim id E (QM id E finI) h 0 [(0, vr x0)] [] (g_law x0 h) := by
  unfold g_law
  refine s_newO 1 16 C no_X0_8 (pl_of1 e4 rfl) dL_law_0 fun o1 h2 zo1 => ?_
  refine s_dup C dL_law_3 rfl ?_
  refine c_I C 0 [vr o1] zo1 (ct_g_FinalLinks_init hL hJ o1 h2) (lw_meth q175) q107 q173 q174 rfl nd_X1_init.2 rfl (le_fr hf rfl) (le_fr hlo rfl) rfl (Nat.le_of_ble_eq_true rfl) dL_law_4 fun _ h3 => ?_
  refine s_astore_n (la' := [(1, vr o1), (0, vr x0)]) C 1 dL_law_7 rfl (lt_nl e5 rfl) rfl ?_
  refine s_newO 6 58 C no_X0_27 (pl_of1 e4 rfl) dL_law_8 fun o4 h5 zo4 => ?_
  refine s_dup C dL_law_11 rfl ?_
  refine c_I C 0 [vr o4] zo4 (ct_g_FinalLinksModel_init hL hJ o4 h5) (lw_meth q2908) q147 q2906 q2907 rfl nd_X6_init.2 rfl (le_fr hf rfl) (le_fr hlo rfl) rfl (Nat.le_of_ble_eq_true rfl) dL_law_12 fun _ h6 => ?_
  refine s_astore_n (la' := [(2, vr o4), (1, vr o1), (0, vr x0)]) C 2 dL_law_15 rfl (lt_nl e5 rfl) rfl ?_
  refine s_iconst C (1 : Int32) dL_law_16 (by decide) ?_
  refine s_newa 3 .long C q3106 rfl (by decide) (pl_of1 e4 rfl) dL_law_17 fun o7 h8 zo7 => ?_
  refine s_astore_n (la' := [(3, vr o7), (2, vr o4), (1, vr o1), (0, vr x0)]) C 3 dL_law_19 rfl (lt_nl e5 rfl) rfl ?_
  refine s_iconst C (0 : Int32) dL_law_20 (by decide) ?_
  have hL23 : ∀ (x0 : Nat) (x1 : Nat) (x2 : Nat) (x3 : Nat) (v23 : Int32) (h9 : Hp), Sim id E (QM id E finI) h9 23 [(0, vr x0), (1, vr x1), (2, vr x2), (3, vr x3), (4, .int v23)] [] (g_law_L23 x0 x1 x2 x3 v23 h9) := by
    intro x0 x1 x2 x3 v23 h9
    refine Sim.loop (fun v23 => [(0, vr x0), (1, vr x1), (2, vr x2), (3, vr x3), (4, .int v23)]) (fun _ => []) (fun rec23 hr23 v23 h9 => ?_) FU v23 h9
    refine s_iload C dL_law_23 4 rfl ?_
    refine s_aload_n C dL_law_25 0 rfl rfl ?_
    refine s_alen [700] 0 C (fl1 rfl) (pl_of e4 rfl) dL_law_26 fun a10 => ?_
    refine s_bipush C (6 : Int32) dL_law_27 (by decide) ?_
    refine s_isub C dL_law_29 ?_
    refine s_icmp_gt C 1468 dL_law_30 (by decide) ?_ ?_
    · refine s_iconst C (1 : Int32) dL_law_1468 (by decide) ?_
      exact s_zret 2 C (by decide) (by decide) rfl dL_law_1469
    · refine s_aload_n C dL_law_33 0 rfl rfl ?_
      refine s_iload C dL_law_34 4 rfl ?_
      refine s_iald [700] C (fl1 rfl) (pl_of e4 rfl) dL_law_36 fun a11 => ?_
      refine s_bipush C (63 : Int32) dL_law_37 (by decide) ?_
      refine s_iand C dL_law_39 ?_
      have hj1462 : ∀ (x4 : Int32) (h12 : Hp), Sim id E (QM id E finI) h12 1462 [(0, vr x0), (1, vr x1), (2, vr x2), (3, vr x3), (4, .int x4)] [] (g_law_j1462 rec23 x0 x1 x2 x3 x4 h12) := by
        intro x4 h12
        refine s_iinc (la' := [(4, .int (x4 + (6 : Int32))), (0, vr x0), (1, vr x1), (2, vr x2), (3, vr x3)]) C 4 dL_law_1462 rfl rfl (lt_nl e5 rfl) rfl ?_
        refine s_goto C 23 dL_law_1465 (by decide) ?_
        refine Sim.keep [1, 2, 3, 4, 0] rfl ?_
        exact hr23 _ _
      refine s_tsw C 1462 dL_law_40 [(0 : Int32), (1 : Int32), (2 : Int32), (3 : Int32), (4 : Int32), (5 : Int32), (6 : Int32), (7 : Int32), (8 : Int32), (9 : Int32), (10 : Int32), (11 : Int32), (12 : Int32), (13 : Int32), (14 : Int32), (15 : Int32), (16 : Int32), (17 : Int32), (18 : Int32), (19 : Int32), (20 : Int32), (21 : Int32), (22 : Int32), (23 : Int32), (24 : Int32), (25 : Int32), (26 : Int32), (27 : Int32), (28 : Int32), (29 : Int32), (30 : Int32), (31 : Int32), (32 : Int32), (33 : Int32), (34 : Int32), (35 : Int32), (36 : Int32), (37 : Int32)] rfl (by decide +kernel) (by decide) (by decide) ⟨⟨208, by decide, ?_⟩, ⟨⟨281, by decide, ?_⟩, ⟨⟨306, by decide, ?_⟩, ⟨⟨319, by decide, ?_⟩, ⟨⟨332, by decide, ?_⟩, ⟨⟨400, by decide, ?_⟩, ⟨⟨437, by decide, ?_⟩, ⟨⟨474, by decide, ?_⟩, ⟨⟨511, by decide, ?_⟩, ⟨⟨548, by decide, ?_⟩, ⟨⟨585, by decide, ?_⟩, ⟨⟨665, by decide, ?_⟩, ⟨⟨714, by decide, ?_⟩, ⟨⟨751, by decide, ?_⟩, ⟨⟨776, by decide, ?_⟩, ⟨⟨789, by decide, ?_⟩, ⟨⟨838, by decide, ?_⟩, ⟨⟨875, by decide, ?_⟩, ⟨⟨900, by decide, ?_⟩, ⟨⟨925, by decide, ?_⟩, ⟨⟨962, by decide, ?_⟩, ⟨⟨975, by decide, ?_⟩, ⟨⟨1000, by decide, ?_⟩, ⟨⟨1013, by decide, ?_⟩, ⟨⟨1026, by decide, ?_⟩, ⟨⟨1051, by decide, ?_⟩, ⟨⟨1107, by decide, ?_⟩, ⟨⟨1163, by decide, ?_⟩, ⟨⟨1188, by decide, ?_⟩, ⟨⟨1213, by decide, ?_⟩, ⟨⟨1250, by decide, ?_⟩, ⟨⟨1299, by decide, ?_⟩, ⟨⟨1324, by decide, ?_⟩, ⟨⟨1349, by decide, ?_⟩, ⟨⟨1362, by decide, ?_⟩, ⟨⟨1387, by decide, ?_⟩, ⟨⟨1412, by decide, ?_⟩, ⟨⟨1437, by decide, ?_⟩, trivial⟩⟩⟩⟩⟩⟩⟩⟩⟩⟩⟩⟩⟩⟩⟩⟩⟩⟩⟩⟩⟩⟩⟩⟩⟩⟩⟩⟩⟩⟩⟩⟩⟩⟩⟩⟩⟩⟩ ?_
      · refine s_aload_n C dL_law_208 1 rfl rfl ?_
        refine s_aload_n C dL_law_209 0 rfl rfl ?_
        refine s_iload C dL_law_210 4 rfl ?_
        refine s_iconst C (1 : Int32) dL_law_212 (by decide) ?_
        refine s_iadd C dL_law_213 ?_
        refine s_iald [700] C (fl1 rfl) (pl_of e4 rfl) dL_law_214 fun a13 => ?_
        refine s_aload_n C dL_law_215 0 rfl rfl ?_
        refine s_iload C dL_law_216 4 rfl ?_
        refine s_iconst C (2 : Int32) dL_law_218 (by decide) ?_
        refine s_iadd C dL_law_219 ?_
        refine s_iald [700] C (fl1 rfl) (pl_of e4 rfl) dL_law_220 fun a14 => ?_
        refine s_aload_n C dL_law_221 0 rfl rfl ?_
        refine s_iload C dL_law_222 4 rfl ?_
        refine s_iconst C (3 : Int32) dL_law_224 (by decide) ?_
        refine s_iadd C dL_law_225 ?_
        refine s_iald [700] C (fl1 rfl) (pl_of e4 rfl) dL_law_226 fun a15 => ?_
        refine s_aload_n C dL_law_227 0 rfl rfl ?_
        refine s_iload C dL_law_228 4 rfl ?_
        refine s_iconst C (4 : Int32) dL_law_230 (by decide) ?_
        refine s_iadd C dL_law_231 ?_
        refine s_iald [700] C (fl1 rfl) (pl_of e4 rfl) dL_law_232 fun a16 => ?_
        refine s_aload_n C dL_law_233 0 rfl rfl ?_
        refine s_iload C dL_law_234 4 rfl ?_
        refine s_iconst C (5 : Int32) dL_law_236 (by decide) ?_
        refine s_iadd C dL_law_237 ?_
        refine s_iald [700] C (fl1 rfl) (pl_of e4 rfl) dL_law_238 fun a17 => ?_
        refine s_dk 242 finI [] (fun r18 h19 => ?_) (fun hk => s_dsp 1 (fun ht => c_V C 5 [] 1 RX1 ro_1 (ct_g_FinalLinks_feed hL hJ x1 a13 a14 a15 a16 a17 h9) (lw_V q1476 q1477 q1478 q107 q1479) nd_X1_feed rfl (le_fr hf rfl) (le_fr hlo rfl) rfl (Nat.le_of_ble_eq_true rfl) dL_law_239 hk ht) s_dsp0)
        refine s_aload_n C dL_law_242 2 rfl rfl ?_
        refine s_aload_n C dL_law_243 0 rfl rfl ?_
        refine s_iload C dL_law_244 4 rfl ?_
        refine s_iconst C (1 : Int32) dL_law_246 (by decide) ?_
        refine s_iadd C dL_law_247 ?_
        refine s_iald [700] C (fl1 rfl) (pl_of e4 rfl) dL_law_248 fun a20 => ?_
        refine s_aload_n C dL_law_249 0 rfl rfl ?_
        refine s_iload C dL_law_250 4 rfl ?_
        refine s_iconst C (2 : Int32) dL_law_252 (by decide) ?_
        refine s_iadd C dL_law_253 ?_
        refine s_iald [700] C (fl1 rfl) (pl_of e4 rfl) dL_law_254 fun a21 => ?_
        refine s_aload_n C dL_law_255 0 rfl rfl ?_
        refine s_iload C dL_law_256 4 rfl ?_
        refine s_iconst C (3 : Int32) dL_law_258 (by decide) ?_
        refine s_iadd C dL_law_259 ?_
        refine s_iald [700] C (fl1 rfl) (pl_of e4 rfl) dL_law_260 fun a22 => ?_
        refine s_aload_n C dL_law_261 0 rfl rfl ?_
        refine s_iload C dL_law_262 4 rfl ?_
        refine s_iconst C (4 : Int32) dL_law_264 (by decide) ?_
        refine s_iadd C dL_law_265 ?_
        refine s_iald [700] C (fl1 rfl) (pl_of e4 rfl) dL_law_266 fun a23 => ?_
        refine s_aload_n C dL_law_267 0 rfl rfl ?_
        refine s_iload C dL_law_268 4 rfl ?_
        refine s_iconst C (5 : Int32) dL_law_270 (by decide) ?_
        refine s_iadd C dL_law_271 ?_
        refine s_iald [700] C (fl1 rfl) (pl_of e4 rfl) dL_law_272 fun a24 => ?_
        refine s_nz fun z25 => ?_
        refine s_dk 276 finI [.int r18] (fun r26 h27 => ?_) (fun hk => s_dsp 6 (fun ht => c_V C 5 [.int r18] 6 RX6 ro_6 (ct_onM (fun _ M => ct_X6_feed hL ⟨z25, rfl, rfl, rfl, rfl, rfl⟩ M a20 a21 a22 a23 a24) h19) (lw_V q2892 q2893 q2894 q147 q2895) nd_X6_feed rfl (le_fr hf rfl) (le_fr hlo rfl) rfl (Nat.le_of_ble_eq_true rfl) dL_law_273 hk ht) s_dsp0)
        refine s_icmp_eq C 1462 dL_law_276 (by decide) ?_ ?_
        · exact hj1462 _ _
        · refine s_iconst C (0 : Int32) dL_law_279 (by decide) ?_
          exact s_zret 2 C (by decide) (by decide) rfl dL_law_280
      · refine s_aload_n C dL_law_281 1 rfl rfl ?_
        refine s_aload_n C dL_law_282 0 rfl rfl ?_
        refine s_iload C dL_law_283 4 rfl ?_
        refine s_iconst C (1 : Int32) dL_law_285 (by decide) ?_
        refine s_iadd C dL_law_286 ?_
        refine s_iald [700] C (fl1 rfl) (pl_of e4 rfl) dL_law_287 fun a28 => ?_
        refine s_dk 291 finI [] (fun r29 h30 => ?_) (fun hk => s_dsp 1 (fun ht => c_V C 1 [] 1 RX1 ro_1 (ct_g_FinalLinks_end hL hJ x1 a28 h9) (lw_V q1484 q1485 q1486 q107 q1487) nd_X1_end rfl (le_fr hf rfl) (le_fr hlo rfl) rfl (Nat.le_of_ble_eq_true rfl) dL_law_288 hk ht) s_dsp0)
        refine s_aload_n C dL_law_291 2 rfl rfl ?_
        refine s_aload_n C dL_law_292 0 rfl rfl ?_
        refine s_iload C dL_law_293 4 rfl ?_
        refine s_iconst C (1 : Int32) dL_law_295 (by decide) ?_
        refine s_iadd C dL_law_296 ?_
        refine s_iald [700] C (fl1 rfl) (pl_of e4 rfl) dL_law_297 fun a31 => ?_
        refine s_nz fun z32 => ?_
        refine s_dk 301 finI [.int r29] (fun r33 h34 => ?_) (fun hk => s_dsp 6 (fun ht => c_V C 1 [.int r29] 6 RX6 ro_6 (ct_onM (fun _ M => ct_X6_end hL ⟨z32, rfl, rfl, rfl, rfl, rfl⟩ M a31) h30) (lw_V q2901 q2902 q2903 q147 q2904) nd_X6_end rfl (le_fr hf rfl) (le_fr hlo rfl) rfl (Nat.le_of_ble_eq_true rfl) dL_law_298 hk ht) s_dsp0)
        refine s_icmp_eq C 1462 dL_law_301 (by decide) ?_ ?_
        · exact hj1462 _ _
        · refine s_iconst C (0 : Int32) dL_law_304 (by decide) ?_
          exact s_zret 2 C (by decide) (by decide) rfl dL_law_305
      · refine s_aload_n C dL_law_306 1 rfl rfl ?_
        refine s_dk 310 finI [] (fun r35 h36 => ?_) (fun hk => s_dsp 1 (fun ht => c_VW C 0 [] 1 RX1 ro_1 (ct_g_FinalLinks_chain hL hJ x1 h9) (lw_VW q1488 q1489 q1490 q107 q1491) nd_X1_chain rfl (le_fr hf rfl) (le_fr hlo rfl) rfl (Nat.le_of_ble_eq_true rfl) dL_law_307 hk ht) s_dsp0)
        refine s_aload_n C dL_law_310 2 rfl rfl ?_
        refine s_nz fun z37 => ?_
        refine s_dk 314 finI [.int r35] (fun r38 h39 => ?_) (fun hk => s_dsp 6 (fun ht => c_V C 0 [.int r35] 6 RX6 ro_6 (ct_onM (fun _ M => ct_X6_chain hL ⟨z37, rfl, rfl, rfl, rfl, rfl⟩ M ) h36) (lw_V q3108 q3109 q3110 q147 q3111) nd_X6_chain rfl (le_fr hf rfl) (le_fr hlo rfl) rfl (Nat.le_of_ble_eq_true rfl) dL_law_311 hk ht) s_dsp0)
        refine s_icmp_eq C 1462 dL_law_314 (by decide) ?_ ?_
        · exact hj1462 _ _
        · refine s_iconst C (0 : Int32) dL_law_317 (by decide) ?_
          exact s_zret 2 C (by decide) (by decide) rfl dL_law_318
      · refine s_aload_n C dL_law_319 1 rfl rfl ?_
        refine s_dk 323 finI [] (fun r40 h41 => ?_) (fun hk => s_dsp 1 (fun ht => c_V C 0 [] 1 RX1 ro_1 (ct_g_FinalLinks_fault hL hJ x1 h9) (lw_V q2127 q2128 q2129 q107 q2130) nd_X1_fault rfl (le_fr hf rfl) (le_fr hlo rfl) rfl (Nat.le_of_ble_eq_true rfl) dL_law_320 hk ht) s_dsp0)
        refine s_aload_n C dL_law_323 2 rfl rfl ?_
        refine s_nz fun z42 => ?_
        refine s_dk 327 finI [.int r40] (fun r43 h44 => ?_) (fun hk => s_dsp 6 (fun ht => c_V C 0 [.int r40] 6 RX6 ro_6 (ct_onM (fun _ M => ct_X6_fault hL ⟨z42, rfl, rfl, rfl, rfl, rfl⟩ M ) h41) (lw_V q3185 q3186 q3187 q147 q3188) nd_X6_fault rfl (le_fr hf rfl) (le_fr hlo rfl) rfl (Nat.le_of_ble_eq_true rfl) dL_law_324 hk ht) s_dsp0)
        refine s_icmp_eq C 1462 dL_law_327 (by decide) ?_ ?_
        · exact hj1462 _ _
        · refine s_iconst C (0 : Int32) dL_law_330 (by decide) ?_
          exact s_zret 2 C (by decide) (by decide) rfl dL_law_331
      · refine s_aload_n C dL_law_332 1 rfl rfl ?_
        refine s_aload_n C dL_law_333 0 rfl rfl ?_
        refine s_iload C dL_law_334 4 rfl ?_
        refine s_iconst C (1 : Int32) dL_law_336 (by decide) ?_
        refine s_iadd C dL_law_337 ?_
        refine s_iald [700] C (fl1 rfl) (pl_of e4 rfl) dL_law_338 fun a45 => ?_
        refine s_aload_n C dL_law_339 0 rfl rfl ?_
        refine s_iload C dL_law_340 4 rfl ?_
        refine s_iconst C (2 : Int32) dL_law_342 (by decide) ?_
        refine s_iadd C dL_law_343 ?_
        refine s_iald [700] C (fl1 rfl) (pl_of e4 rfl) dL_law_344 fun a46 => ?_
        refine s_aload_n C dL_law_345 3 rfl rfl ?_
        refine c_SW C 4 [] (ct_g_Law_block hL hJ x1 a45 a46 x3 h9) (lw_SW q2826 q2827 q106 q2828) nd_X0_block.2 rfl (le_fr hf rfl) (le_fr hlo rfl) rfl (Nat.le_of_ble_eq_true rfl) dL_law_346 fun r47 h48 => ?_
        refine s_istore (la' := [(5, .int r47), (0, vr x0), (1, vr x1), (2, vr x2), (3, vr x3), (4, .int v23)]) C dL_law_349 (lt_nl e5 rfl) rfl ?_
        refine s_aload_n C dL_law_351 3 rfl rfl ?_
        refine s_aload_n C dL_law_352 1 rfl rfl ?_
        refine s_iload C dL_law_353 5 rfl ?_
        refine s_iconst C (1 : Int32) dL_law_355 (by decide) ?_
        refine s_iadd C dL_law_356 ?_
        refine s_iald [700] C (fl1 rfl) (pl_of e4 rfl) dL_law_357 fun a49 => ?_
        refine s_aload_n C dL_law_358 1 rfl rfl ?_
        refine s_iload C dL_law_359 5 rfl ?_
        refine s_iconst C (2 : Int32) dL_law_361 (by decide) ?_
        refine s_iadd C dL_law_362 ?_
        refine s_iald [700] C (fl1 rfl) (pl_of e4 rfl) dL_law_363 fun a50 => ?_
        refine s_nz fun z51 => ?_
        refine s_dk 367 finI [] (fun r52 h53 => ?_) (fun hk => s_dsp 6 (fun ht => c_V C 2 [] 6 RX6 ro_6 (ct_onM (fun _ M => ct_X6_block hL ⟨z51, rfl, rfl, rfl, rfl, rfl⟩ M a49 a50) h48) (lw_V q3189 q3190 q3191 q147 q3192) nd_X6_block rfl (le_fr hf rfl) (le_fr hlo rfl) rfl (Nat.le_of_ble_eq_true rfl) dL_law_364 hk ht) s_dsp0)
        refine s_istore (la' := [(6, .int r52), (5, .int r47), (0, vr x0), (1, vr x1), (2, vr x2), (3, vr x3), (4, .int v23)]) C dL_law_367 (lt_nl e5 rfl) rfl ?_
        refine s_aload_n C dL_law_369 4 rfl rfl ?_
        refine s_dk 373 finI [] (fun r54 h55 => ?_) (fun hk => s_dsp 6 (fun ht => c_V C 0 [] 6 RX6 ro_6 (ct_onM (fun _ M => ct_X6_thrown hL ⟨z51, rfl, rfl, rfl, rfl, rfl⟩ M ) h53) (lw_V q2888 q2889 q2890 q147 q2891) nd_X6_thrown rfl (le_fr hf rfl) (le_fr hlo rfl) rfl (Nat.le_of_ble_eq_true rfl) dL_law_370 hk ht) s_dsp0)
        refine s_iload C dL_law_373 1 rfl ?_
        refine s_icmp_eq C 380 dL_law_375 (by decide) ?_ ?_
        · refine s_iload C dL_law_380 1 rfl ?_
          have hj397 : ∀ (x4 : Int32) (h56 : Hp), Sim id E (QM id E finI) h56 397 [(0, vr x0), (1, vr x1), (2, vr x2), (3, vr x3), (4, .int x4)] [] (g_law_j397 rec23 x0 x1 x2 x3 x4 h56) := by
            intro x4 h56
            refine s_goto C 1462 dL_law_397 (by decide) ?_
            exact hj1462 _ _
          refine s_if_ne C 397 dL_law_382 (by decide) ?_ ?_
          · refine Sim.keep [2, 3, 4, 5, 6] rfl ?_
            exact hj397 _ _
          · refine s_aload_n C dL_law_385 5 rfl rfl ?_
            refine s_iconst C (0 : Int32) dL_law_386 (by decide) ?_
            refine s_lald [203] C (fl1 rfl) (pl_of e4 rfl) dL_law_387 fun a57 => ?_
            refine s_iload C dL_law_388 0 rfl ?_
            refine s_i2l C dL_law_390 ?_
            refine s_lcmp C dL_law_391 ?_
            refine s_if_eq C 397 dL_law_392 (by decide) ?_ ?_
            · refine Sim.keep [2, 3, 4, 5, 6] rfl ?_
              exact hj397 _ _
            · refine s_iconst C (0 : Int32) dL_law_395 (by decide) ?_
              exact s_zret 2 C (by decide) (by decide) rfl dL_law_396
        · refine s_iconst C (0 : Int32) dL_law_378 (by decide) ?_
          exact s_zret 2 C (by decide) (by decide) rfl dL_law_379
      · refine s_aload_n C dL_law_400 1 rfl rfl ?_
        refine s_aload_n C dL_law_401 0 rfl rfl ?_
        refine s_iload C dL_law_402 4 rfl ?_
        refine s_iconst C (1 : Int32) dL_law_404 (by decide) ?_
        refine s_iadd C dL_law_405 ?_
        refine s_iald [700] C (fl1 rfl) (pl_of e4 rfl) dL_law_406 fun a58 => ?_
        refine s_aload_n C dL_law_407 0 rfl rfl ?_
        refine s_iload C dL_law_408 4 rfl ?_
        refine s_iconst C (2 : Int32) dL_law_410 (by decide) ?_
        refine s_iadd C dL_law_411 ?_
        refine s_iald [700] C (fl1 rfl) (pl_of e4 rfl) dL_law_412 fun a59 => ?_
        refine s_dk 416 finI [] (fun r60 h61 => ?_) (fun hk => s_dsp 1 (fun ht => c_V C 2 [] 1 RX1 ro_1 (ct_g_FinalLinks_ahead hL hJ x1 a58 a59 h9) (lw_V q2131 q2132 q2133 q107 q2134) nd_X1_ahead rfl (le_fr hf rfl) (le_fr hlo rfl) rfl (Nat.le_of_ble_eq_true rfl) dL_law_413 hk ht) s_dsp0)
        refine s_aload_n C dL_law_416 2 rfl rfl ?_
        refine s_aload_n C dL_law_417 0 rfl rfl ?_
        refine s_iload C dL_law_418 4 rfl ?_
        refine s_iconst C (1 : Int32) dL_law_420 (by decide) ?_
        refine s_iadd C dL_law_421 ?_
        refine s_iald [700] C (fl1 rfl) (pl_of e4 rfl) dL_law_422 fun a62 => ?_
        refine s_aload_n C dL_law_423 0 rfl rfl ?_
        refine s_iload C dL_law_424 4 rfl ?_
        refine s_iconst C (2 : Int32) dL_law_426 (by decide) ?_
        refine s_iadd C dL_law_427 ?_
        refine s_iald [700] C (fl1 rfl) (pl_of e4 rfl) dL_law_428 fun a63 => ?_
        refine s_nz fun z64 => ?_
        refine s_dk 432 finI [.int r60] (fun r65 h66 => ?_) (fun hk => s_dsp 6 (fun ht => c_V C 2 [.int r60] 6 RX6 ro_6 (ct_onM (fun _ M => ct_X6_ahead hL ⟨z64, rfl, rfl, rfl, rfl, rfl⟩ M a62 a63) h61) (lw_V q3271 q3272 q3273 q147 q3274) nd_X6_ahead rfl (le_fr hf rfl) (le_fr hlo rfl) rfl (Nat.le_of_ble_eq_true rfl) dL_law_429 hk ht) s_dsp0)
        refine s_icmp_eq C 1462 dL_law_432 (by decide) ?_ ?_
        · exact hj1462 _ _
        · refine s_iconst C (0 : Int32) dL_law_435 (by decide) ?_
          exact s_zret 2 C (by decide) (by decide) rfl dL_law_436
      · refine s_aload_n C dL_law_437 1 rfl rfl ?_
        refine s_aload_n C dL_law_438 0 rfl rfl ?_
        refine s_iload C dL_law_439 4 rfl ?_
        refine s_iconst C (1 : Int32) dL_law_441 (by decide) ?_
        refine s_iadd C dL_law_442 ?_
        refine s_iald [700] C (fl1 rfl) (pl_of e4 rfl) dL_law_443 fun a67 => ?_
        refine s_aload_n C dL_law_444 0 rfl rfl ?_
        refine s_iload C dL_law_445 4 rfl ?_
        refine s_iconst C (2 : Int32) dL_law_447 (by decide) ?_
        refine s_iadd C dL_law_448 ?_
        refine s_iald [700] C (fl1 rfl) (pl_of e4 rfl) dL_law_449 fun a68 => ?_
        refine s_dk 453 finI [] (fun r69 h70 => ?_) (fun hk => s_dsp 1 (fun ht => c_V C 2 [] 1 RX1 ro_1 (ct_g_FinalLinks_fork hL hJ x1 a67 a68 h9) (lw_V q2146 q2147 q2148 q107 q2149) nd_X1_fork rfl (le_fr hf rfl) (le_fr hlo rfl) rfl (Nat.le_of_ble_eq_true rfl) dL_law_450 hk ht) s_dsp0)
        refine s_aload_n C dL_law_453 2 rfl rfl ?_
        refine s_aload_n C dL_law_454 0 rfl rfl ?_
        refine s_iload C dL_law_455 4 rfl ?_
        refine s_iconst C (1 : Int32) dL_law_457 (by decide) ?_
        refine s_iadd C dL_law_458 ?_
        refine s_iald [700] C (fl1 rfl) (pl_of e4 rfl) dL_law_459 fun a71 => ?_
        refine s_aload_n C dL_law_460 0 rfl rfl ?_
        refine s_iload C dL_law_461 4 rfl ?_
        refine s_iconst C (2 : Int32) dL_law_463 (by decide) ?_
        refine s_iadd C dL_law_464 ?_
        refine s_iald [700] C (fl1 rfl) (pl_of e4 rfl) dL_law_465 fun a72 => ?_
        refine s_nz fun z73 => ?_
        refine s_dk 469 finI [.int r69] (fun r74 h75 => ?_) (fun hk => s_dsp 6 (fun ht => c_V C 2 [.int r69] 6 RX6 ro_6 (ct_onM (fun _ M => ct_X6_fork hL ⟨z73, rfl, rfl, rfl, rfl, rfl⟩ M a71 a72) h70) (lw_V q3279 q3280 q3281 q147 q3282) nd_X6_fork rfl (le_fr hf rfl) (le_fr hlo rfl) rfl (Nat.le_of_ble_eq_true rfl) dL_law_466 hk ht) s_dsp0)
        refine s_icmp_eq C 1462 dL_law_469 (by decide) ?_ ?_
        · exact hj1462 _ _
        · refine s_iconst C (0 : Int32) dL_law_472 (by decide) ?_
          exact s_zret 2 C (by decide) (by decide) rfl dL_law_473
      · refine s_aload_n C dL_law_474 1 rfl rfl ?_
        refine s_aload_n C dL_law_475 0 rfl rfl ?_
        refine s_iload C dL_law_476 4 rfl ?_
        refine s_iconst C (1 : Int32) dL_law_478 (by decide) ?_
        refine s_iadd C dL_law_479 ?_
        refine s_iald [700] C (fl1 rfl) (pl_of e4 rfl) dL_law_480 fun a76 => ?_
        refine s_aload_n C dL_law_481 0 rfl rfl ?_
        refine s_iload C dL_law_482 4 rfl ?_
        refine s_iconst C (2 : Int32) dL_law_484 (by decide) ?_
        refine s_iadd C dL_law_485 ?_
        refine s_iald [700] C (fl1 rfl) (pl_of e4 rfl) dL_law_486 fun a77 => ?_
        refine s_dk 490 finI [] (fun r78 h79 => ?_) (fun hk => s_dsp 1 (fun ht => c_V C 2 [] 1 RX1 ro_1 (ct_g_FinalLinks_weight hL hJ x1 a76 a77 h9) (lw_V q2154 q2155 q2156 q107 q2157) nd_X1_weight rfl (le_fr hf rfl) (le_fr hlo rfl) rfl (Nat.le_of_ble_eq_true rfl) dL_law_487 hk ht) s_dsp0)
        refine s_aload_n C dL_law_490 2 rfl rfl ?_
        refine s_aload_n C dL_law_491 0 rfl rfl ?_
        refine s_iload C dL_law_492 4 rfl ?_
        refine s_iconst C (1 : Int32) dL_law_494 (by decide) ?_
        refine s_iadd C dL_law_495 ?_
        refine s_iald [700] C (fl1 rfl) (pl_of e4 rfl) dL_law_496 fun a80 => ?_
        refine s_aload_n C dL_law_497 0 rfl rfl ?_
        refine s_iload C dL_law_498 4 rfl ?_
        refine s_iconst C (2 : Int32) dL_law_500 (by decide) ?_
        refine s_iadd C dL_law_501 ?_
        refine s_iald [700] C (fl1 rfl) (pl_of e4 rfl) dL_law_502 fun a81 => ?_
        refine s_nz fun z82 => ?_
        refine s_dk 506 finI [.int r78] (fun r83 h84 => ?_) (fun hk => s_dsp 6 (fun ht => c_V C 2 [.int r78] 6 RX6 ro_6 (ct_onM (fun _ M => ct_X6_weight hL ⟨z82, rfl, rfl, rfl, rfl, rfl⟩ M a80 a81) h79) (lw_V q3283 q3284 q3285 q147 q3286) nd_X6_weight rfl (le_fr hf rfl) (le_fr hlo rfl) rfl (Nat.le_of_ble_eq_true rfl) dL_law_503 hk ht) s_dsp0)
        refine s_icmp_eq C 1462 dL_law_506 (by decide) ?_ ?_
        · exact hj1462 _ _
        · refine s_iconst C (0 : Int32) dL_law_509 (by decide) ?_
          exact s_zret 2 C (by decide) (by decide) rfl dL_law_510
      · refine s_aload_n C dL_law_511 1 rfl rfl ?_
        refine s_aload_n C dL_law_512 0 rfl rfl ?_
        refine s_iload C dL_law_513 4 rfl ?_
        refine s_iconst C (1 : Int32) dL_law_515 (by decide) ?_
        refine s_iadd C dL_law_516 ?_
        refine s_iald [700] C (fl1 rfl) (pl_of e4 rfl) dL_law_517 fun a85 => ?_
        refine s_aload_n C dL_law_518 0 rfl rfl ?_
        refine s_iload C dL_law_519 4 rfl ?_
        refine s_iconst C (2 : Int32) dL_law_521 (by decide) ?_
        refine s_iadd C dL_law_522 ?_
        refine s_iald [700] C (fl1 rfl) (pl_of e4 rfl) dL_law_523 fun a86 => ?_
        refine s_dk 527 finI [] (fun r87 h88 => ?_) (fun hk => s_dsp 1 (fun ht => c_V C 2 [] 1 RX1 ro_1 (ct_g_FinalLinks_voter hL hJ x1 a85 a86 h9) (lw_V q2173 q2174 q2175 q107 q2176) nd_X1_voter rfl (le_fr hf rfl) (le_fr hlo rfl) rfl (Nat.le_of_ble_eq_true rfl) dL_law_524 hk ht) s_dsp0)
        refine s_aload_n C dL_law_527 2 rfl rfl ?_
        refine s_aload_n C dL_law_528 0 rfl rfl ?_
        refine s_iload C dL_law_529 4 rfl ?_
        refine s_iconst C (1 : Int32) dL_law_531 (by decide) ?_
        refine s_iadd C dL_law_532 ?_
        refine s_iald [700] C (fl1 rfl) (pl_of e4 rfl) dL_law_533 fun a89 => ?_
        refine s_aload_n C dL_law_534 0 rfl rfl ?_
        refine s_iload C dL_law_535 4 rfl ?_
        refine s_iconst C (2 : Int32) dL_law_537 (by decide) ?_
        refine s_iadd C dL_law_538 ?_
        refine s_iald [700] C (fl1 rfl) (pl_of e4 rfl) dL_law_539 fun a90 => ?_
        refine s_nz fun z91 => ?_
        refine s_dk 543 finI [.int r87] (fun r92 h93 => ?_) (fun hk => s_dsp 6 (fun ht => c_V C 2 [.int r87] 6 RX6 ro_6 (ct_onM (fun _ M => ct_X6_voter hL ⟨z91, rfl, rfl, rfl, rfl, rfl⟩ M a89 a90) h88) (lw_V q3291 q3292 q3293 q147 q3294) nd_X6_voter rfl (le_fr hf rfl) (le_fr hlo rfl) rfl (Nat.le_of_ble_eq_true rfl) dL_law_540 hk ht) s_dsp0)
        refine s_icmp_eq C 1462 dL_law_543 (by decide) ?_ ?_
        · exact hj1462 _ _
        · refine s_iconst C (0 : Int32) dL_law_546 (by decide) ?_
          exact s_zret 2 C (by decide) (by decide) rfl dL_law_547
      · refine s_aload_n C dL_law_548 1 rfl rfl ?_
        refine s_aload_n C dL_law_549 0 rfl rfl ?_
        refine s_iload C dL_law_550 4 rfl ?_
        refine s_iconst C (1 : Int32) dL_law_552 (by decide) ?_
        refine s_iadd C dL_law_553 ?_
        refine s_iald [700] C (fl1 rfl) (pl_of e4 rfl) dL_law_554 fun a94 => ?_
        refine s_aload_n C dL_law_555 0 rfl rfl ?_
        refine s_iload C dL_law_556 4 rfl ?_
        refine s_iconst C (2 : Int32) dL_law_558 (by decide) ?_
        refine s_iadd C dL_law_559 ?_
        refine s_iald [700] C (fl1 rfl) (pl_of e4 rfl) dL_law_560 fun a95 => ?_
        refine s_dk 564 finI [] (fun r96 h97 => ?_) (fun hk => s_dsp 1 (fun ht => c_V C 2 [] 1 RX1 ro_1 (ct_g_FinalLinks_vote hL hJ x1 a94 a95 h9) (lw_V q2188 q2189 q2190 q107 q2191) nd_X1_vote rfl (le_fr hf rfl) (le_fr hlo rfl) rfl (Nat.le_of_ble_eq_true rfl) dL_law_561 hk ht) s_dsp0)
        refine s_aload_n C dL_law_564 2 rfl rfl ?_
        refine s_aload_n C dL_law_565 0 rfl rfl ?_
        refine s_iload C dL_law_566 4 rfl ?_
        refine s_iconst C (1 : Int32) dL_law_568 (by decide) ?_
        refine s_iadd C dL_law_569 ?_
        refine s_iald [700] C (fl1 rfl) (pl_of e4 rfl) dL_law_570 fun a98 => ?_
        refine s_aload_n C dL_law_571 0 rfl rfl ?_
        refine s_iload C dL_law_572 4 rfl ?_
        refine s_iconst C (2 : Int32) dL_law_574 (by decide) ?_
        refine s_iadd C dL_law_575 ?_
        refine s_iald [700] C (fl1 rfl) (pl_of e4 rfl) dL_law_576 fun a99 => ?_
        refine s_nz fun z100 => ?_
        refine s_dk 580 finI [.int r96] (fun r101 h102 => ?_) (fun hk => s_dsp 6 (fun ht => c_V C 2 [.int r96] 6 RX6 ro_6 (ct_onM (fun _ M => ct_X6_vote hL ⟨z100, rfl, rfl, rfl, rfl, rfl⟩ M a98 a99) h97) (lw_V q3299 q3300 q3301 q147 q3302) nd_X6_vote rfl (le_fr hf rfl) (le_fr hlo rfl) rfl (Nat.le_of_ble_eq_true rfl) dL_law_577 hk ht) s_dsp0)
        refine s_icmp_eq C 1462 dL_law_580 (by decide) ?_ ?_
        · exact hj1462 _ _
        · refine s_iconst C (0 : Int32) dL_law_583 (by decide) ?_
          exact s_zret 2 C (by decide) (by decide) rfl dL_law_584
      · refine s_aload_n C dL_law_585 1 rfl rfl ?_
        refine s_aload_n C dL_law_586 0 rfl rfl ?_
        refine s_iload C dL_law_587 4 rfl ?_
        refine s_iconst C (1 : Int32) dL_law_589 (by decide) ?_
        refine s_iadd C dL_law_590 ?_
        refine s_iald [700] C (fl1 rfl) (pl_of e4 rfl) dL_law_591 fun a103 => ?_
        refine s_aload_n C dL_law_592 0 rfl rfl ?_
        refine s_iload C dL_law_593 4 rfl ?_
        refine s_iconst C (2 : Int32) dL_law_595 (by decide) ?_
        refine s_iadd C dL_law_596 ?_
        refine s_iald [700] C (fl1 rfl) (pl_of e4 rfl) dL_law_597 fun a104 => ?_
        refine s_aload_n C dL_law_598 0 rfl rfl ?_
        refine s_iload C dL_law_599 4 rfl ?_
        refine s_iconst C (3 : Int32) dL_law_601 (by decide) ?_
        refine s_iadd C dL_law_602 ?_
        refine s_iald [700] C (fl1 rfl) (pl_of e4 rfl) dL_law_603 fun a105 => ?_
        refine s_aload_n C dL_law_604 3 rfl rfl ?_
        refine c_SW C 5 [] (ct_g_Law_link hL hJ x1 a103 a104 a105 x3 h9) (lw_SW q2846 q2847 q106 q2848) nd_X0_link.2 rfl (le_fr hf rfl) (le_fr hlo rfl) rfl (Nat.le_of_ble_eq_true rfl) dL_law_605 fun r106 h107 => ?_
        refine s_istore (la' := [(5, .int r106), (0, vr x0), (1, vr x1), (2, vr x2), (3, vr x3), (4, .int v23)]) C dL_law_608 (lt_nl e5 rfl) rfl ?_
        refine s_aload_n C dL_law_610 3 rfl rfl ?_
        refine s_aload_n C dL_law_611 1 rfl rfl ?_
        refine s_iload C dL_law_612 5 rfl ?_
        refine s_iconst C (1 : Int32) dL_law_614 (by decide) ?_
        refine s_iadd C dL_law_615 ?_
        refine s_iald [700] C (fl1 rfl) (pl_of e4 rfl) dL_law_616 fun a108 => ?_
        refine s_aload_n C dL_law_617 1 rfl rfl ?_
        refine s_iload C dL_law_618 5 rfl ?_
        refine s_iconst C (2 : Int32) dL_law_620 (by decide) ?_
        refine s_iadd C dL_law_621 ?_
        refine s_iald [700] C (fl1 rfl) (pl_of e4 rfl) dL_law_622 fun a109 => ?_
        refine s_aload_n C dL_law_623 1 rfl rfl ?_
        refine s_iload C dL_law_624 5 rfl ?_
        refine s_iconst C (3 : Int32) dL_law_626 (by decide) ?_
        refine s_iadd C dL_law_627 ?_
        refine s_iald [700] C (fl1 rfl) (pl_of e4 rfl) dL_law_628 fun a110 => ?_
        refine s_nz fun z111 => ?_
        refine s_dk 632 finI [] (fun r112 h113 => ?_) (fun hk => s_dsp 6 (fun ht => c_V C 3 [] 6 RX6 ro_6 (ct_onM (fun _ M => ct_X6_link hL ⟨z111, rfl, rfl, rfl, rfl, rfl⟩ M a108 a109 a110) h107) (lw_V q3303 q3304 q3305 q147 q3306) nd_X6_link rfl (le_fr hf rfl) (le_fr hlo rfl) rfl (Nat.le_of_ble_eq_true rfl) dL_law_629 hk ht) s_dsp0)
        refine s_istore (la' := [(6, .int r112), (5, .int r106), (0, vr x0), (1, vr x1), (2, vr x2), (3, vr x3), (4, .int v23)]) C dL_law_632 (lt_nl e5 rfl) rfl ?_
        refine s_aload_n C dL_law_634 4 rfl rfl ?_
        refine s_dk 638 finI [] (fun r114 h115 => ?_) (fun hk => s_dsp 6 (fun ht => c_V C 0 [] 6 RX6 ro_6 (ct_onM (fun _ M => ct_X6_thrown hL ⟨z111, rfl, rfl, rfl, rfl, rfl⟩ M ) h113) (lw_V q2888 q2889 q2890 q147 q2891) nd_X6_thrown rfl (le_fr hf rfl) (le_fr hlo rfl) rfl (Nat.le_of_ble_eq_true rfl) dL_law_635 hk ht) s_dsp0)
        refine s_iload C dL_law_638 1 rfl ?_
        refine s_icmp_eq C 645 dL_law_640 (by decide) ?_ ?_
        · refine s_iload C dL_law_645 1 rfl ?_
          have hj662 : ∀ (x4 : Int32) (h116 : Hp), Sim id E (QM id E finI) h116 662 [(0, vr x0), (1, vr x1), (2, vr x2), (3, vr x3), (4, .int x4)] [] (g_law_j662 rec23 x0 x1 x2 x3 x4 h116) := by
            intro x4 h116
            refine s_goto C 1462 dL_law_662 (by decide) ?_
            exact hj1462 _ _
          refine s_if_ne C 662 dL_law_647 (by decide) ?_ ?_
          · refine Sim.keep [2, 3, 4, 5, 6] rfl ?_
            exact hj662 _ _
          · refine s_aload_n C dL_law_650 5 rfl rfl ?_
            refine s_iconst C (0 : Int32) dL_law_651 (by decide) ?_
            refine s_lald [203] C (fl1 rfl) (pl_of e4 rfl) dL_law_652 fun a117 => ?_
            refine s_iload C dL_law_653 0 rfl ?_
            refine s_i2l C dL_law_655 ?_
            refine s_lcmp C dL_law_656 ?_
            refine s_if_eq C 662 dL_law_657 (by decide) ?_ ?_
            · refine Sim.keep [2, 3, 4, 5, 6] rfl ?_
              exact hj662 _ _
            · refine s_iconst C (0 : Int32) dL_law_660 (by decide) ?_
              exact s_zret 2 C (by decide) (by decide) rfl dL_law_661
        · refine s_iconst C (0 : Int32) dL_law_643 (by decide) ?_
          exact s_zret 2 C (by decide) (by decide) rfl dL_law_644
      · refine s_aload_n C dL_law_665 1 rfl rfl ?_
        refine s_aload_n C dL_law_666 0 rfl rfl ?_
        refine s_iload C dL_law_667 4 rfl ?_
        refine s_iconst C (1 : Int32) dL_law_669 (by decide) ?_
        refine s_iadd C dL_law_670 ?_
        refine s_iald [700] C (fl1 rfl) (pl_of e4 rfl) dL_law_671 fun a118 => ?_
        refine s_aload_n C dL_law_672 0 rfl rfl ?_
        refine s_iload C dL_law_673 4 rfl ?_
        refine s_iconst C (2 : Int32) dL_law_675 (by decide) ?_
        refine s_iadd C dL_law_676 ?_
        refine s_iald [700] C (fl1 rfl) (pl_of e4 rfl) dL_law_677 fun a119 => ?_
        refine s_aload_n C dL_law_678 0 rfl rfl ?_
        refine s_iload C dL_law_679 4 rfl ?_
        refine s_iconst C (3 : Int32) dL_law_681 (by decide) ?_
        refine s_iadd C dL_law_682 ?_
        refine s_iald [700] C (fl1 rfl) (pl_of e4 rfl) dL_law_683 fun a120 => ?_
        refine s_dk 687 finI [] (fun r121 h122 => ?_) (fun hk => s_dsp 1 (fun ht => c_V C 3 [] 1 RX1 ro_1 (ct_g_FinalLinks_votes hL hJ x1 a118 a119 a120 h9) (lw_V q2197 q2198 q2199 q107 q2200) nd_X1_votes rfl (le_fr hf rfl) (le_fr hlo rfl) rfl (Nat.le_of_ble_eq_true rfl) dL_law_684 hk ht) s_dsp0)
        refine s_aload_n C dL_law_687 2 rfl rfl ?_
        refine s_aload_n C dL_law_688 0 rfl rfl ?_
        refine s_iload C dL_law_689 4 rfl ?_
        refine s_iconst C (1 : Int32) dL_law_691 (by decide) ?_
        refine s_iadd C dL_law_692 ?_
        refine s_iald [700] C (fl1 rfl) (pl_of e4 rfl) dL_law_693 fun a123 => ?_
        refine s_aload_n C dL_law_694 0 rfl rfl ?_
        refine s_iload C dL_law_695 4 rfl ?_
        refine s_iconst C (2 : Int32) dL_law_697 (by decide) ?_
        refine s_iadd C dL_law_698 ?_
        refine s_iald [700] C (fl1 rfl) (pl_of e4 rfl) dL_law_699 fun a124 => ?_
        refine s_aload_n C dL_law_700 0 rfl rfl ?_
        refine s_iload C dL_law_701 4 rfl ?_
        refine s_iconst C (3 : Int32) dL_law_703 (by decide) ?_
        refine s_iadd C dL_law_704 ?_
        refine s_iald [700] C (fl1 rfl) (pl_of e4 rfl) dL_law_705 fun a125 => ?_
        refine s_nz fun z126 => ?_
        refine s_dk 709 finI [.int r121] (fun r127 h128 => ?_) (fun hk => s_dsp 6 (fun ht => c_V C 3 [.int r121] 6 RX6 ro_6 (ct_onM (fun _ M => ct_X6_votes hL ⟨z126, rfl, rfl, rfl, rfl, rfl⟩ M a123 a124 a125) h122) (lw_V q3311 q3312 q3313 q147 q3314) nd_X6_votes rfl (le_fr hf rfl) (le_fr hlo rfl) rfl (Nat.le_of_ble_eq_true rfl) dL_law_706 hk ht) s_dsp0)
        refine s_icmp_eq C 1462 dL_law_709 (by decide) ?_ ?_
        · exact hj1462 _ _
        · refine s_iconst C (0 : Int32) dL_law_712 (by decide) ?_
          exact s_zret 2 C (by decide) (by decide) rfl dL_law_713
      · refine s_aload_n C dL_law_714 1 rfl rfl ?_
        refine s_aload_n C dL_law_715 0 rfl rfl ?_
        refine s_iload C dL_law_716 4 rfl ?_
        refine s_iconst C (1 : Int32) dL_law_718 (by decide) ?_
        refine s_iadd C dL_law_719 ?_
        refine s_iald [700] C (fl1 rfl) (pl_of e4 rfl) dL_law_720 fun a129 => ?_
        refine s_aload_n C dL_law_721 0 rfl rfl ?_
        refine s_iload C dL_law_722 4 rfl ?_
        refine s_iconst C (2 : Int32) dL_law_724 (by decide) ?_
        refine s_iadd C dL_law_725 ?_
        refine s_iald [700] C (fl1 rfl) (pl_of e4 rfl) dL_law_726 fun a130 => ?_
        refine s_dk 730 finI [] (fun r131 h132 => ?_) (fun hk => s_dsp 1 (fun ht => c_V C 2 [] 1 RX1 ro_1 (ct_g_FinalLinks_looks hL hJ x1 a129 a130 h9) (lw_V q2334 q2335 q2336 q107 q2337) nd_X1_looks rfl (le_fr hf rfl) (le_fr hlo rfl) rfl (Nat.le_of_ble_eq_true rfl) dL_law_727 hk ht) s_dsp0)
        refine s_aload_n C dL_law_730 2 rfl rfl ?_
        refine s_aload_n C dL_law_731 0 rfl rfl ?_
        refine s_iload C dL_law_732 4 rfl ?_
        refine s_iconst C (1 : Int32) dL_law_734 (by decide) ?_
        refine s_iadd C dL_law_735 ?_
        refine s_iald [700] C (fl1 rfl) (pl_of e4 rfl) dL_law_736 fun a133 => ?_
        refine s_aload_n C dL_law_737 0 rfl rfl ?_
        refine s_iload C dL_law_738 4 rfl ?_
        refine s_iconst C (2 : Int32) dL_law_740 (by decide) ?_
        refine s_iadd C dL_law_741 ?_
        refine s_iald [700] C (fl1 rfl) (pl_of e4 rfl) dL_law_742 fun a134 => ?_
        refine s_nz fun z135 => ?_
        refine s_dk 746 finI [.int r131] (fun r136 h137 => ?_) (fun hk => s_dsp 6 (fun ht => c_V C 2 [.int r131] 6 RX6 ro_6 (ct_onM (fun _ M => ct_X6_looks hL ⟨z135, rfl, rfl, rfl, rfl, rfl⟩ M a133 a134) h132) (lw_V q3335 q3336 q3337 q147 q3338) nd_X6_looks rfl (le_fr hf rfl) (le_fr hlo rfl) rfl (Nat.le_of_ble_eq_true rfl) dL_law_743 hk ht) s_dsp0)
        refine s_icmp_eq C 1462 dL_law_746 (by decide) ?_ ?_
        · exact hj1462 _ _
        · refine s_iconst C (0 : Int32) dL_law_749 (by decide) ?_
          exact s_zret 2 C (by decide) (by decide) rfl dL_law_750
      · refine s_aload_n C dL_law_751 1 rfl rfl ?_
        refine s_aload_n C dL_law_752 0 rfl rfl ?_
        refine s_iload C dL_law_753 4 rfl ?_
        refine s_iconst C (1 : Int32) dL_law_755 (by decide) ?_
        refine s_iadd C dL_law_756 ?_
        refine s_iald [700] C (fl1 rfl) (pl_of e4 rfl) dL_law_757 fun a138 => ?_
        refine s_dk 761 finI [] (fun r139 h140 => ?_) (fun hk => s_dsp 1 (fun ht => c_V C 1 [] 1 RX1 ro_1 (ct_g_FinalLinks_grows hL hJ x1 a138 h9) (lw_V q2351 q2352 q2353 q107 q2354) nd_X1_grows rfl (le_fr hf rfl) (le_fr hlo rfl) rfl (Nat.le_of_ble_eq_true rfl) dL_law_758 hk ht) s_dsp0)
        refine s_aload_n C dL_law_761 2 rfl rfl ?_
        refine s_aload_n C dL_law_762 0 rfl rfl ?_
        refine s_iload C dL_law_763 4 rfl ?_
        refine s_iconst C (1 : Int32) dL_law_765 (by decide) ?_
        refine s_iadd C dL_law_766 ?_
        refine s_iald [700] C (fl1 rfl) (pl_of e4 rfl) dL_law_767 fun a141 => ?_
        refine s_nz fun z142 => ?_
        refine s_dk 771 finI [.int r139] (fun r143 h144 => ?_) (fun hk => s_dsp 6 (fun ht => c_V C 1 [.int r139] 6 RX6 ro_6 (ct_onM (fun _ M => ct_X6_grows hL ⟨z142, rfl, rfl, rfl, rfl, rfl⟩ M a141) h140) (lw_V q3343 q3344 q3345 q147 q3346) nd_X6_grows rfl (le_fr hf rfl) (le_fr hlo rfl) rfl (Nat.le_of_ble_eq_true rfl) dL_law_768 hk ht) s_dsp0)
        refine s_icmp_eq C 1462 dL_law_771 (by decide) ?_ ?_
        · exact hj1462 _ _
        · refine s_iconst C (0 : Int32) dL_law_774 (by decide) ?_
          exact s_zret 2 C (by decide) (by decide) rfl dL_law_775
      · refine s_aload_n C dL_law_776 1 rfl rfl ?_
        refine s_dk 780 finI [] (fun r145 h146 => ?_) (fun hk => s_dsp 1 (fun ht => c_V C 0 [] 1 RX1 ro_1 (ct_g_FinalLinks_undo hL hJ x1 h9) (lw_V q2365 q2366 q2367 q107 q2368) nd_X1_undo rfl (le_fr hf rfl) (le_fr hlo rfl) rfl (Nat.le_of_ble_eq_true rfl) dL_law_777 hk ht) s_dsp0)
        refine s_aload_n C dL_law_780 2 rfl rfl ?_
        refine s_nz fun z147 => ?_
        refine s_dk 784 finI [.int r145] (fun r148 h149 => ?_) (fun hk => s_dsp 6 (fun ht => c_V C 0 [.int r145] 6 RX6 ro_6 (ct_onM (fun _ M => ct_X6_undo hL ⟨z147, rfl, rfl, rfl, rfl, rfl⟩ M ) h146) (lw_V q3351 q3352 q3353 q147 q3354) nd_X6_undo rfl (le_fr hf rfl) (le_fr hlo rfl) rfl (Nat.le_of_ble_eq_true rfl) dL_law_781 hk ht) s_dsp0)
        refine s_icmp_eq C 1462 dL_law_784 (by decide) ?_ ?_
        · exact hj1462 _ _
        · refine s_iconst C (0 : Int32) dL_law_787 (by decide) ?_
          exact s_zret 2 C (by decide) (by decide) rfl dL_law_788
      · refine s_aload_n C dL_law_789 1 rfl rfl ?_
        refine s_aload_n C dL_law_790 0 rfl rfl ?_
        refine s_iload C dL_law_791 4 rfl ?_
        refine s_iconst C (1 : Int32) dL_law_793 (by decide) ?_
        refine s_iadd C dL_law_794 ?_
        refine s_iald [700] C (fl1 rfl) (pl_of e4 rfl) dL_law_795 fun a150 => ?_
        refine s_aload_n C dL_law_796 0 rfl rfl ?_
        refine s_iload C dL_law_797 4 rfl ?_
        refine s_iconst C (2 : Int32) dL_law_799 (by decide) ?_
        refine s_iadd C dL_law_800 ?_
        refine s_iald [700] C (fl1 rfl) (pl_of e4 rfl) dL_law_801 fun a151 => ?_
        refine s_aload_n C dL_law_802 0 rfl rfl ?_
        refine s_iload C dL_law_803 4 rfl ?_
        refine s_iconst C (3 : Int32) dL_law_805 (by decide) ?_
        refine s_iadd C dL_law_806 ?_
        refine s_iald [700] C (fl1 rfl) (pl_of e4 rfl) dL_law_807 fun a152 => ?_
        refine s_dk 811 finI [] (fun r153 h154 => ?_) (fun hk => s_dsp 1 (fun ht => c_V C 3 [] 1 RX1 ro_1 (ct_g_FinalLinks_offends hL hJ x1 a150 a151 a152 h9) (lw_V q2369 q2370 q2371 q107 q2372) nd_X1_offends rfl (le_fr hf rfl) (le_fr hlo rfl) rfl (Nat.le_of_ble_eq_true rfl) dL_law_808 hk ht) s_dsp0)
        refine s_aload_n C dL_law_811 2 rfl rfl ?_
        refine s_aload_n C dL_law_812 0 rfl rfl ?_
        refine s_iload C dL_law_813 4 rfl ?_
        refine s_iconst C (1 : Int32) dL_law_815 (by decide) ?_
        refine s_iadd C dL_law_816 ?_
        refine s_iald [700] C (fl1 rfl) (pl_of e4 rfl) dL_law_817 fun a155 => ?_
        refine s_aload_n C dL_law_818 0 rfl rfl ?_
        refine s_iload C dL_law_819 4 rfl ?_
        refine s_iconst C (2 : Int32) dL_law_821 (by decide) ?_
        refine s_iadd C dL_law_822 ?_
        refine s_iald [700] C (fl1 rfl) (pl_of e4 rfl) dL_law_823 fun a156 => ?_
        refine s_aload_n C dL_law_824 0 rfl rfl ?_
        refine s_iload C dL_law_825 4 rfl ?_
        refine s_iconst C (3 : Int32) dL_law_827 (by decide) ?_
        refine s_iadd C dL_law_828 ?_
        refine s_iald [700] C (fl1 rfl) (pl_of e4 rfl) dL_law_829 fun a157 => ?_
        refine s_nz fun z158 => ?_
        refine s_dk 833 finI [.int r153] (fun r159 h160 => ?_) (fun hk => s_dsp 6 (fun ht => c_V C 3 [.int r153] 6 RX6 ro_6 (ct_onM (fun _ M => ct_X6_offends hL ⟨z158, rfl, rfl, rfl, rfl, rfl⟩ M a155 a156 a157) h154) (lw_V q3359 q3360 q3361 q147 q3362) nd_X6_offends rfl (le_fr hf rfl) (le_fr hlo rfl) rfl (Nat.le_of_ble_eq_true rfl) dL_law_830 hk ht) s_dsp0)
        refine s_icmp_eq C 1462 dL_law_833 (by decide) ?_ ?_
        · exact hj1462 _ _
        · refine s_iconst C (0 : Int32) dL_law_836 (by decide) ?_
          exact s_zret 2 C (by decide) (by decide) rfl dL_law_837
      · refine s_aload_n C dL_law_838 1 rfl rfl ?_
        refine s_aload_n C dL_law_839 0 rfl rfl ?_
        refine s_iload C dL_law_840 4 rfl ?_
        refine s_iconst C (1 : Int32) dL_law_842 (by decide) ?_
        refine s_iadd C dL_law_843 ?_
        refine s_iald [700] C (fl1 rfl) (pl_of e4 rfl) dL_law_844 fun a161 => ?_
        refine s_aload_n C dL_law_845 0 rfl rfl ?_
        refine s_iload C dL_law_846 4 rfl ?_
        refine s_iconst C (2 : Int32) dL_law_848 (by decide) ?_
        refine s_iadd C dL_law_849 ?_
        refine s_iald [700] C (fl1 rfl) (pl_of e4 rfl) dL_law_850 fun a162 => ?_
        refine s_dk 854 finI [] (fun r163 h164 => ?_) (fun hk => s_dsp 1 (fun ht => c_V C 2 [] 1 RX1 ro_1 (ct_g_FinalLinks_evidence hL hJ x1 a161 a162 h9) (lw_V q2381 q2382 q2383 q107 q2384) nd_X1_evidence rfl (le_fr hf rfl) (le_fr hlo rfl) rfl (Nat.le_of_ble_eq_true rfl) dL_law_851 hk ht) s_dsp0)
        refine s_aload_n C dL_law_854 2 rfl rfl ?_
        refine s_aload_n C dL_law_855 0 rfl rfl ?_
        refine s_iload C dL_law_856 4 rfl ?_
        refine s_iconst C (1 : Int32) dL_law_858 (by decide) ?_
        refine s_iadd C dL_law_859 ?_
        refine s_iald [700] C (fl1 rfl) (pl_of e4 rfl) dL_law_860 fun a165 => ?_
        refine s_aload_n C dL_law_861 0 rfl rfl ?_
        refine s_iload C dL_law_862 4 rfl ?_
        refine s_iconst C (2 : Int32) dL_law_864 (by decide) ?_
        refine s_iadd C dL_law_865 ?_
        refine s_iald [700] C (fl1 rfl) (pl_of e4 rfl) dL_law_866 fun a166 => ?_
        refine s_nz fun z167 => ?_
        refine s_dk 870 finI [.int r163] (fun r168 h169 => ?_) (fun hk => s_dsp 6 (fun ht => c_V C 2 [.int r163] 6 RX6 ro_6 (ct_onM (fun _ M => ct_X6_evidence hL ⟨z167, rfl, rfl, rfl, rfl, rfl⟩ M a165 a166) h164) (lw_V q3367 q3368 q3369 q147 q3370) nd_X6_evidence rfl (le_fr hf rfl) (le_fr hlo rfl) rfl (Nat.le_of_ble_eq_true rfl) dL_law_867 hk ht) s_dsp0)
        refine s_icmp_eq C 1462 dL_law_870 (by decide) ?_ ?_
        · exact hj1462 _ _
        · refine s_iconst C (0 : Int32) dL_law_873 (by decide) ?_
          exact s_zret 2 C (by decide) (by decide) rfl dL_law_874
      · refine s_aload_n C dL_law_875 1 rfl rfl ?_
        refine s_aload_n C dL_law_876 0 rfl rfl ?_
        refine s_iload C dL_law_877 4 rfl ?_
        refine s_iconst C (1 : Int32) dL_law_879 (by decide) ?_
        refine s_iadd C dL_law_880 ?_
        refine s_iald [700] C (fl1 rfl) (pl_of e4 rfl) dL_law_881 fun a170 => ?_
        refine s_dk 885 finI [] (fun r171 h172 => ?_) (fun hk => s_dsp 1 (fun ht => c_V C 1 [] 1 RX1 ro_1 (ct_g_FinalLinks_now hL hJ x1 a170 h9) (lw_V q2386 q2387 q2388 q107 q2389) nd_X1_now rfl (le_fr hf rfl) (le_fr hlo rfl) rfl (Nat.le_of_ble_eq_true rfl) dL_law_882 hk ht) s_dsp0)
        refine s_aload_n C dL_law_885 2 rfl rfl ?_
        refine s_aload_n C dL_law_886 0 rfl rfl ?_
        refine s_iload C dL_law_887 4 rfl ?_
        refine s_iconst C (1 : Int32) dL_law_889 (by decide) ?_
        refine s_iadd C dL_law_890 ?_
        refine s_iald [700] C (fl1 rfl) (pl_of e4 rfl) dL_law_891 fun a173 => ?_
        refine s_nz fun z174 => ?_
        refine s_dk 895 finI [.int r171] (fun r175 h176 => ?_) (fun hk => s_dsp 6 (fun ht => c_V C 1 [.int r171] 6 RX6 ro_6 (ct_onM (fun _ M => ct_X6_now hL ⟨z174, rfl, rfl, rfl, rfl, rfl⟩ M a173) h172) (lw_V q3371 q3372 q3373 q147 q3374) nd_X6_now rfl (le_fr hf rfl) (le_fr hlo rfl) rfl (Nat.le_of_ble_eq_true rfl) dL_law_892 hk ht) s_dsp0)
        refine s_icmp_eq C 1462 dL_law_895 (by decide) ?_ ?_
        · exact hj1462 _ _
        · refine s_iconst C (0 : Int32) dL_law_898 (by decide) ?_
          exact s_zret 2 C (by decide) (by decide) rfl dL_law_899
      · refine s_aload_n C dL_law_900 1 rfl rfl ?_
        refine s_aload_n C dL_law_901 0 rfl rfl ?_
        refine s_iload C dL_law_902 4 rfl ?_
        refine s_iconst C (1 : Int32) dL_law_904 (by decide) ?_
        refine s_iadd C dL_law_905 ?_
        refine s_iald [700] C (fl1 rfl) (pl_of e4 rfl) dL_law_906 fun a177 => ?_
        refine s_dk 910 finI [] (fun r178 h179 => ?_) (fun hk => s_dsp 1 (fun ht => c_V C 1 [] 1 RX1 ro_1 (ct_g_FinalLinks_chosen hL hJ x1 a177 h9) (lw_V q2396 q2397 q2398 q107 q2399) nd_X1_chosen rfl (le_fr hf rfl) (le_fr hlo rfl) rfl (Nat.le_of_ble_eq_true rfl) dL_law_907 hk ht) s_dsp0)
        refine s_aload_n C dL_law_910 2 rfl rfl ?_
        refine s_aload_n C dL_law_911 0 rfl rfl ?_
        refine s_iload C dL_law_912 4 rfl ?_
        refine s_iconst C (1 : Int32) dL_law_914 (by decide) ?_
        refine s_iadd C dL_law_915 ?_
        refine s_iald [700] C (fl1 rfl) (pl_of e4 rfl) dL_law_916 fun a180 => ?_
        refine s_nz fun z181 => ?_
        refine s_dk 920 finI [.int r178] (fun r182 h183 => ?_) (fun hk => s_dsp 6 (fun ht => c_V C 1 [.int r178] 6 RX6 ro_6 (ct_onM (fun _ M => ct_X6_chosen hL ⟨z181, rfl, rfl, rfl, rfl, rfl⟩ M a180) h179) (lw_V q3375 q3376 q3377 q147 q3378) nd_X6_chosen rfl (le_fr hf rfl) (le_fr hlo rfl) rfl (Nat.le_of_ble_eq_true rfl) dL_law_917 hk ht) s_dsp0)
        refine s_icmp_eq C 1462 dL_law_920 (by decide) ?_ ?_
        · exact hj1462 _ _
        · refine s_iconst C (0 : Int32) dL_law_923 (by decide) ?_
          exact s_zret 2 C (by decide) (by decide) rfl dL_law_924
      · refine s_aload_n C dL_law_925 1 rfl rfl ?_
        refine s_aload_n C dL_law_926 0 rfl rfl ?_
        refine s_iload C dL_law_927 4 rfl ?_
        refine s_iconst C (1 : Int32) dL_law_929 (by decide) ?_
        refine s_iadd C dL_law_930 ?_
        refine s_iald [700] C (fl1 rfl) (pl_of e4 rfl) dL_law_931 fun a184 => ?_
        refine s_aload_n C dL_law_932 0 rfl rfl ?_
        refine s_iload C dL_law_933 4 rfl ?_
        refine s_iconst C (2 : Int32) dL_law_935 (by decide) ?_
        refine s_iadd C dL_law_936 ?_
        refine s_iald [700] C (fl1 rfl) (pl_of e4 rfl) dL_law_937 fun a185 => ?_
        refine s_dk 941 finI [] (fun r186 h187 => ?_) (fun hk => s_dsp 1 (fun ht => c_V C 2 [] 1 RX1 ro_1 (ct_g_FinalLinks_need hL hJ x1 a184 a185 h9) (lw_V q2400 q2401 q2402 q107 q2403) nd_X1_need rfl (le_fr hf rfl) (le_fr hlo rfl) rfl (Nat.le_of_ble_eq_true rfl) dL_law_938 hk ht) s_dsp0)
        refine s_aload_n C dL_law_941 2 rfl rfl ?_
        refine s_aload_n C dL_law_942 0 rfl rfl ?_
        refine s_iload C dL_law_943 4 rfl ?_
        refine s_iconst C (1 : Int32) dL_law_945 (by decide) ?_
        refine s_iadd C dL_law_946 ?_
        refine s_iald [700] C (fl1 rfl) (pl_of e4 rfl) dL_law_947 fun a188 => ?_
        refine s_aload_n C dL_law_948 0 rfl rfl ?_
        refine s_iload C dL_law_949 4 rfl ?_
        refine s_iconst C (2 : Int32) dL_law_951 (by decide) ?_
        refine s_iadd C dL_law_952 ?_
        refine s_iald [700] C (fl1 rfl) (pl_of e4 rfl) dL_law_953 fun a189 => ?_
        refine s_nz fun z190 => ?_
        refine s_dk 957 finI [.int r186] (fun r191 h192 => ?_) (fun hk => s_dsp 6 (fun ht => c_V C 2 [.int r186] 6 RX6 ro_6 (ct_onM (fun _ M => ct_X6_need hL ⟨z190, rfl, rfl, rfl, rfl, rfl⟩ M a188 a189) h187) (lw_V q3379 q3380 q3381 q147 q3382) nd_X6_need rfl (le_fr hf rfl) (le_fr hlo rfl) rfl (Nat.le_of_ble_eq_true rfl) dL_law_954 hk ht) s_dsp0)
        refine s_icmp_eq C 1462 dL_law_957 (by decide) ?_ ?_
        · exact hj1462 _ _
        · refine s_iconst C (0 : Int32) dL_law_960 (by decide) ?_
          exact s_zret 2 C (by decide) (by decide) rfl dL_law_961
      · refine s_aload_n C dL_law_962 1 rfl rfl ?_
        refine s_dk 966 finI [] (fun r193 h194 => ?_) (fun hk => s_dsp 1 (fun ht => c_V C 0 [] 1 RX1 ro_1 (ct_g_FinalLinks_needed hL hJ x1 h9) (lw_V q2420 q2421 q2422 q107 q2423) nd_X1_needed rfl (le_fr hf rfl) (le_fr hlo rfl) rfl (Nat.le_of_ble_eq_true rfl) dL_law_963 hk ht) s_dsp0)
        refine s_aload_n C dL_law_966 2 rfl rfl ?_
        refine s_nz fun z195 => ?_
        refine s_dk 970 finI [.int r193] (fun r196 h197 => ?_) (fun hk => s_dsp 6 (fun ht => c_V C 0 [.int r193] 6 RX6 ro_6 (ct_onM (fun _ M => ct_X6_needed hL ⟨z195, rfl, rfl, rfl, rfl, rfl⟩ M ) h194) (lw_V q3390 q3391 q3392 q147 q3393) nd_X6_needed rfl (le_fr hf rfl) (le_fr hlo rfl) rfl (Nat.le_of_ble_eq_true rfl) dL_law_967 hk ht) s_dsp0)
        refine s_icmp_eq C 1462 dL_law_970 (by decide) ?_ ?_
        · exact hj1462 _ _
        · refine s_iconst C (0 : Int32) dL_law_973 (by decide) ?_
          exact s_zret 2 C (by decide) (by decide) rfl dL_law_974
      · refine s_aload_n C dL_law_975 1 rfl rfl ?_
        refine s_aload_n C dL_law_976 0 rfl rfl ?_
        refine s_iload C dL_law_977 4 rfl ?_
        refine s_iconst C (1 : Int32) dL_law_979 (by decide) ?_
        refine s_iadd C dL_law_980 ?_
        refine s_iald [700] C (fl1 rfl) (pl_of e4 rfl) dL_law_981 fun a198 => ?_
        refine s_dk 985 finI [] (fun r199 h200 => ?_) (fun hk => s_dsp 1 (fun ht => c_V C 1 [] 1 RX1 ro_1 (ct_g_FinalLinks_way hL hJ x1 a198 h9) (lw_V q2424 q2425 q2426 q107 q2427) nd_X1_way rfl (le_fr hf rfl) (le_fr hlo rfl) rfl (Nat.le_of_ble_eq_true rfl) dL_law_982 hk ht) s_dsp0)
        refine s_aload_n C dL_law_985 2 rfl rfl ?_
        refine s_aload_n C dL_law_986 0 rfl rfl ?_
        refine s_iload C dL_law_987 4 rfl ?_
        refine s_iconst C (1 : Int32) dL_law_989 (by decide) ?_
        refine s_iadd C dL_law_990 ?_
        refine s_iald [700] C (fl1 rfl) (pl_of e4 rfl) dL_law_991 fun a201 => ?_
        refine s_nz fun z202 => ?_
        refine s_dk 995 finI [.int r199] (fun r203 h204 => ?_) (fun hk => s_dsp 6 (fun ht => c_V C 1 [.int r199] 6 RX6 ro_6 (ct_onM (fun _ M => ct_X6_way hL ⟨z202, rfl, rfl, rfl, rfl, rfl⟩ M a201) h200) (lw_V q3394 q3395 q3396 q147 q3397) nd_X6_way rfl (le_fr hf rfl) (le_fr hlo rfl) rfl (Nat.le_of_ble_eq_true rfl) dL_law_992 hk ht) s_dsp0)
        refine s_icmp_eq C 1462 dL_law_995 (by decide) ?_ ?_
        · exact hj1462 _ _
        · refine s_iconst C (0 : Int32) dL_law_998 (by decide) ?_
          exact s_zret 2 C (by decide) (by decide) rfl dL_law_999
      · refine s_aload_n C dL_law_1000 1 rfl rfl ?_
        refine s_dk 1004 finI [] (fun r205 h206 => ?_) (fun hk => s_dsp 1 (fun ht => c_V C 0 [] 1 RX1 ro_1 (ct_g_FinalLinks_wayFrom hL hJ x1 h9) (lw_V q2430 q2431 q2432 q107 q2433) nd_X1_wayFrom rfl (le_fr hf rfl) (le_fr hlo rfl) rfl (Nat.le_of_ble_eq_true rfl) dL_law_1001 hk ht) s_dsp0)
        refine s_aload_n C dL_law_1004 2 rfl rfl ?_
        refine s_nz fun z207 => ?_
        refine s_dk 1008 finI [.int r205] (fun r208 h209 => ?_) (fun hk => s_dsp 6 (fun ht => c_V C 0 [.int r205] 6 RX6 ro_6 (ct_onM (fun _ M => ct_X6_wayFrom hL ⟨z207, rfl, rfl, rfl, rfl, rfl⟩ M ) h206) (lw_V q3398 q3399 q3400 q147 q3401) nd_X6_wayFrom rfl (le_fr hf rfl) (le_fr hlo rfl) rfl (Nat.le_of_ble_eq_true rfl) dL_law_1005 hk ht) s_dsp0)
        refine s_icmp_eq C 1462 dL_law_1008 (by decide) ?_ ?_
        · exact hj1462 _ _
        · refine s_iconst C (0 : Int32) dL_law_1011 (by decide) ?_
          exact s_zret 2 C (by decide) (by decide) rfl dL_law_1012
      · refine s_aload_n C dL_law_1013 1 rfl rfl ?_
        refine s_dk 1017 finI [] (fun r210 h211 => ?_) (fun hk => s_dsp 1 (fun ht => c_V C 0 [] 1 RX1 ro_1 (ct_g_FinalLinks_clash hL hJ x1 h9) (lw_V q2434 q2435 q2436 q107 q2437) nd_X1_clash rfl (le_fr hf rfl) (le_fr hlo rfl) rfl (Nat.le_of_ble_eq_true rfl) dL_law_1014 hk ht) s_dsp0)
        refine s_aload_n C dL_law_1017 2 rfl rfl ?_
        refine s_nz fun z212 => ?_
        refine s_dk 1021 finI [.int r210] (fun r213 h214 => ?_) (fun hk => s_dsp 6 (fun ht => c_V C 0 [.int r210] 6 RX6 ro_6 (ct_onM (fun _ M => ct_X6_clash hL ⟨z212, rfl, rfl, rfl, rfl, rfl⟩ M ) h211) (lw_V q3402 q3403 q3404 q147 q3405) nd_X6_clash rfl (le_fr hf rfl) (le_fr hlo rfl) rfl (Nat.le_of_ble_eq_true rfl) dL_law_1018 hk ht) s_dsp0)
        refine s_icmp_eq C 1462 dL_law_1021 (by decide) ?_ ?_
        · exact hj1462 _ _
        · refine s_iconst C (0 : Int32) dL_law_1024 (by decide) ?_
          exact s_zret 2 C (by decide) (by decide) rfl dL_law_1025
      · refine s_aload_n C dL_law_1026 1 rfl rfl ?_
        refine s_aload_n C dL_law_1027 0 rfl rfl ?_
        refine s_iload C dL_law_1028 4 rfl ?_
        refine s_iconst C (1 : Int32) dL_law_1030 (by decide) ?_
        refine s_iadd C dL_law_1031 ?_
        refine s_iald [700] C (fl1 rfl) (pl_of e4 rfl) dL_law_1032 fun a215 => ?_
        refine s_dk 1036 finI [] (fun r216 h217 => ?_) (fun hk => s_dsp 1 (fun ht => c_V C 1 [] 1 RX1 ro_1 (ct_g_FinalLinks_clashAt hL hJ x1 a215 h9) (lw_V q2450 q2451 q2452 q107 q2453) nd_X1_clashAt rfl (le_fr hf rfl) (le_fr hlo rfl) rfl (Nat.le_of_ble_eq_true rfl) dL_law_1033 hk ht) s_dsp0)
        refine s_aload_n C dL_law_1036 2 rfl rfl ?_
        refine s_aload_n C dL_law_1037 0 rfl rfl ?_
        refine s_iload C dL_law_1038 4 rfl ?_
        refine s_iconst C (1 : Int32) dL_law_1040 (by decide) ?_
        refine s_iadd C dL_law_1041 ?_
        refine s_iald [700] C (fl1 rfl) (pl_of e4 rfl) dL_law_1042 fun a218 => ?_
        refine s_nz fun z219 => ?_
        refine s_dk 1046 finI [.int r216] (fun r220 h221 => ?_) (fun hk => s_dsp 6 (fun ht => c_V C 1 [.int r216] 6 RX6 ro_6 (ct_onM (fun _ M => ct_X6_clashAt hL ⟨z219, rfl, rfl, rfl, rfl, rfl⟩ M a218) h217) (lw_V q3410 q3411 q3412 q147 q3413) nd_X6_clashAt rfl (le_fr hf rfl) (le_fr hlo rfl) rfl (Nat.le_of_ble_eq_true rfl) dL_law_1043 hk ht) s_dsp0)
        refine s_icmp_eq C 1462 dL_law_1046 (by decide) ?_ ?_
        · exact hj1462 _ _
        · refine s_iconst C (0 : Int32) dL_law_1049 (by decide) ?_
          exact s_zret 2 C (by decide) (by decide) rfl dL_law_1050
      · refine s_aload_n C dL_law_1051 1 rfl rfl ?_
        refine s_aload_n C dL_law_1052 0 rfl rfl ?_
        refine s_iload C dL_law_1053 4 rfl ?_
        refine s_iconst C (1 : Int32) dL_law_1055 (by decide) ?_
        refine s_iadd C dL_law_1056 ?_
        refine s_iald [700] C (fl1 rfl) (pl_of e4 rfl) dL_law_1057 fun a222 => ?_
        refine s_aload_n C dL_law_1058 3 rfl rfl ?_
        refine c_SW C 3 [] (ct_g_Law_guilt hL hJ x1 a222 x3 h9) (lw_SW q2858 q2859 q106 q2860) nd_X0_guilt.2 rfl (le_fr hf rfl) (le_fr hlo rfl) rfl (Nat.le_of_ble_eq_true rfl) dL_law_1059 fun r223 h224 => ?_
        refine s_istore (la' := [(5, .int r223), (0, vr x0), (1, vr x1), (2, vr x2), (3, vr x3), (4, .int v23)]) C dL_law_1062 (lt_nl e5 rfl) rfl ?_
        refine s_aload_n C dL_law_1064 3 rfl rfl ?_
        refine s_aload_n C dL_law_1065 1 rfl rfl ?_
        refine s_iload C dL_law_1066 5 rfl ?_
        refine s_iconst C (1 : Int32) dL_law_1068 (by decide) ?_
        refine s_iadd C dL_law_1069 ?_
        refine s_iald [700] C (fl1 rfl) (pl_of e4 rfl) dL_law_1070 fun a225 => ?_
        refine s_nz fun z226 => ?_
        refine s_dk 1074 finI [] (fun r227 h228 => ?_) (fun hk => s_dsp 6 (fun ht => c_V C 1 [] 6 RX6 ro_6 (ct_onM (fun _ M => ct_X6_guilt hL ⟨z226, rfl, rfl, rfl, rfl, rfl⟩ M a225) h224) (lw_V q3414 q3415 q3416 q147 q3417) nd_X6_guilt rfl (le_fr hf rfl) (le_fr hlo rfl) rfl (Nat.le_of_ble_eq_true rfl) dL_law_1071 hk ht) s_dsp0)
        refine s_istore (la' := [(6, .int r227), (5, .int r223), (0, vr x0), (1, vr x1), (2, vr x2), (3, vr x3), (4, .int v23)]) C dL_law_1074 (lt_nl e5 rfl) rfl ?_
        refine s_aload_n C dL_law_1076 4 rfl rfl ?_
        refine s_dk 1080 finI [] (fun r229 h230 => ?_) (fun hk => s_dsp 6 (fun ht => c_V C 0 [] 6 RX6 ro_6 (ct_onM (fun _ M => ct_X6_thrown hL ⟨z226, rfl, rfl, rfl, rfl, rfl⟩ M ) h228) (lw_V q2888 q2889 q2890 q147 q2891) nd_X6_thrown rfl (le_fr hf rfl) (le_fr hlo rfl) rfl (Nat.le_of_ble_eq_true rfl) dL_law_1077 hk ht) s_dsp0)
        refine s_iload C dL_law_1080 1 rfl ?_
        refine s_icmp_eq C 1087 dL_law_1082 (by decide) ?_ ?_
        · refine s_iload C dL_law_1087 1 rfl ?_
          have hj1104 : ∀ (x4 : Int32) (h231 : Hp), Sim id E (QM id E finI) h231 1104 [(0, vr x0), (1, vr x1), (2, vr x2), (3, vr x3), (4, .int x4)] [] (g_law_j1104 rec23 x0 x1 x2 x3 x4 h231) := by
            intro x4 h231
            refine s_goto C 1462 dL_law_1104 (by decide) ?_
            exact hj1462 _ _
          refine s_if_ne C 1104 dL_law_1089 (by decide) ?_ ?_
          · refine Sim.keep [2, 3, 4, 5, 6] rfl ?_
            exact hj1104 _ _
          · refine s_aload_n C dL_law_1092 5 rfl rfl ?_
            refine s_iconst C (0 : Int32) dL_law_1093 (by decide) ?_
            refine s_lald [203] C (fl1 rfl) (pl_of e4 rfl) dL_law_1094 fun a232 => ?_
            refine s_iload C dL_law_1095 0 rfl ?_
            refine s_i2l C dL_law_1097 ?_
            refine s_lcmp C dL_law_1098 ?_
            refine s_if_eq C 1104 dL_law_1099 (by decide) ?_ ?_
            · refine Sim.keep [2, 3, 4, 5, 6] rfl ?_
              exact hj1104 _ _
            · refine s_iconst C (0 : Int32) dL_law_1102 (by decide) ?_
              exact s_zret 2 C (by decide) (by decide) rfl dL_law_1103
        · refine s_iconst C (0 : Int32) dL_law_1085 (by decide) ?_
          exact s_zret 2 C (by decide) (by decide) rfl dL_law_1086
      · refine s_aload_n C dL_law_1107 1 rfl rfl ?_
        refine s_aload_n C dL_law_1108 0 rfl rfl ?_
        refine s_iload C dL_law_1109 4 rfl ?_
        refine s_iconst C (1 : Int32) dL_law_1111 (by decide) ?_
        refine s_iadd C dL_law_1112 ?_
        refine s_iald [700] C (fl1 rfl) (pl_of e4 rfl) dL_law_1113 fun a233 => ?_
        refine s_aload_n C dL_law_1114 3 rfl rfl ?_
        refine c_SW C 3 [] (ct_g_Law_mean hL hJ x1 a233 x3 h9) (lw_SW q2880 q2881 q106 q2882) nd_X0_mean.2 rfl (le_fr hf rfl) (le_fr hlo rfl) rfl (Nat.le_of_ble_eq_true rfl) dL_law_1115 fun r234 h235 => ?_
        refine s_istore (la' := [(5, .int r234), (0, vr x0), (1, vr x1), (2, vr x2), (3, vr x3), (4, .int v23)]) C dL_law_1118 (lt_nl e5 rfl) rfl ?_
        refine s_aload_n C dL_law_1120 3 rfl rfl ?_
        refine s_aload_n C dL_law_1121 1 rfl rfl ?_
        refine s_iload C dL_law_1122 5 rfl ?_
        refine s_iconst C (1 : Int32) dL_law_1124 (by decide) ?_
        refine s_iadd C dL_law_1125 ?_
        refine s_iald [700] C (fl1 rfl) (pl_of e4 rfl) dL_law_1126 fun a236 => ?_
        refine s_nz fun z237 => ?_
        refine s_dk 1130 finI [] (fun r238 h239 => ?_) (fun hk => s_dsp 6 (fun ht => c_V C 1 [] 6 RX6 ro_6 (ct_onM (fun _ M => ct_X6_mean hL ⟨z237, rfl, rfl, rfl, rfl, rfl⟩ M a236) h235) (lw_V q3421 q3422 q3423 q147 q3424) nd_X6_mean rfl (le_fr hf rfl) (le_fr hlo rfl) rfl (Nat.le_of_ble_eq_true rfl) dL_law_1127 hk ht) s_dsp0)
        refine s_istore (la' := [(6, .int r238), (5, .int r234), (0, vr x0), (1, vr x1), (2, vr x2), (3, vr x3), (4, .int v23)]) C dL_law_1130 (lt_nl e5 rfl) rfl ?_
        refine s_aload_n C dL_law_1132 4 rfl rfl ?_
        refine s_dk 1136 finI [] (fun r240 h241 => ?_) (fun hk => s_dsp 6 (fun ht => c_V C 0 [] 6 RX6 ro_6 (ct_onM (fun _ M => ct_X6_thrown hL ⟨z237, rfl, rfl, rfl, rfl, rfl⟩ M ) h239) (lw_V q2888 q2889 q2890 q147 q2891) nd_X6_thrown rfl (le_fr hf rfl) (le_fr hlo rfl) rfl (Nat.le_of_ble_eq_true rfl) dL_law_1133 hk ht) s_dsp0)
        refine s_iload C dL_law_1136 1 rfl ?_
        refine s_icmp_eq C 1143 dL_law_1138 (by decide) ?_ ?_
        · refine s_iload C dL_law_1143 1 rfl ?_
          have hj1160 : ∀ (x4 : Int32) (h242 : Hp), Sim id E (QM id E finI) h242 1160 [(0, vr x0), (1, vr x1), (2, vr x2), (3, vr x3), (4, .int x4)] [] (g_law_j1160 rec23 x0 x1 x2 x3 x4 h242) := by
            intro x4 h242
            refine s_goto C 1462 dL_law_1160 (by decide) ?_
            exact hj1462 _ _
          refine s_if_ne C 1160 dL_law_1145 (by decide) ?_ ?_
          · refine Sim.keep [2, 3, 4, 5, 6] rfl ?_
            exact hj1160 _ _
          · refine s_aload_n C dL_law_1148 5 rfl rfl ?_
            refine s_iconst C (0 : Int32) dL_law_1149 (by decide) ?_
            refine s_lald [203] C (fl1 rfl) (pl_of e4 rfl) dL_law_1150 fun a243 => ?_
            refine s_iload C dL_law_1151 0 rfl ?_
            refine s_i2l C dL_law_1153 ?_
            refine s_lcmp C dL_law_1154 ?_
            refine s_if_eq C 1160 dL_law_1155 (by decide) ?_ ?_
            · refine Sim.keep [2, 3, 4, 5, 6] rfl ?_
              exact hj1160 _ _
            · refine s_iconst C (0 : Int32) dL_law_1158 (by decide) ?_
              exact s_zret 2 C (by decide) (by decide) rfl dL_law_1159
        · refine s_iconst C (0 : Int32) dL_law_1141 (by decide) ?_
          exact s_zret 2 C (by decide) (by decide) rfl dL_law_1142
      · refine s_aload_n C dL_law_1163 1 rfl rfl ?_
        refine s_aload_n C dL_law_1164 0 rfl rfl ?_
        refine s_iload C dL_law_1165 4 rfl ?_
        refine s_iconst C (1 : Int32) dL_law_1167 (by decide) ?_
        refine s_iadd C dL_law_1168 ?_
        refine s_iald [700] C (fl1 rfl) (pl_of e4 rfl) dL_law_1169 fun a244 => ?_
        refine s_dk 1173 finI [] (fun r245 h246 => ?_) (fun hk => s_dsp 1 (fun ht => c_V C 1 [] 1 RX1 ro_1 (ct_g_FinalLinks_tag hL hJ x1 a244 h9) (lw_V q2455 q2456 q2457 q107 q2458) nd_X1_tag rfl (le_fr hf rfl) (le_fr hlo rfl) rfl (Nat.le_of_ble_eq_true rfl) dL_law_1170 hk ht) s_dsp0)
        refine s_aload_n C dL_law_1173 2 rfl rfl ?_
        refine s_aload_n C dL_law_1174 0 rfl rfl ?_
        refine s_iload C dL_law_1175 4 rfl ?_
        refine s_iconst C (1 : Int32) dL_law_1177 (by decide) ?_
        refine s_iadd C dL_law_1178 ?_
        refine s_iald [700] C (fl1 rfl) (pl_of e4 rfl) dL_law_1179 fun a247 => ?_
        refine s_nz fun z248 => ?_
        refine s_dk 1183 finI [.int r245] (fun r249 h250 => ?_) (fun hk => s_dsp 6 (fun ht => c_V C 1 [.int r245] 6 RX6 ro_6 (ct_onM (fun _ M => ct_X6_tag hL ⟨z248, rfl, rfl, rfl, rfl, rfl⟩ M a247) h246) (lw_V q3425 q3426 q3427 q147 q3428) nd_X6_tag rfl (le_fr hf rfl) (le_fr hlo rfl) rfl (Nat.le_of_ble_eq_true rfl) dL_law_1180 hk ht) s_dsp0)
        refine s_icmp_eq C 1462 dL_law_1183 (by decide) ?_ ?_
        · exact hj1462 _ _
        · refine s_iconst C (0 : Int32) dL_law_1186 (by decide) ?_
          exact s_zret 2 C (by decide) (by decide) rfl dL_law_1187
      · refine s_aload_n C dL_law_1188 1 rfl rfl ?_
        refine s_aload_n C dL_law_1189 0 rfl rfl ?_
        refine s_iload C dL_law_1190 4 rfl ?_
        refine s_iconst C (1 : Int32) dL_law_1192 (by decide) ?_
        refine s_iadd C dL_law_1193 ?_
        refine s_iald [700] C (fl1 rfl) (pl_of e4 rfl) dL_law_1194 fun a251 => ?_
        refine s_dk 1198 finI [] (fun r252 h253 => ?_) (fun hk => s_dsp 1 (fun ht => c_V C 1 [] 1 RX1 ro_1 (ct_g_FinalLinks_byteAt hL hJ x1 a251 h9) (lw_V q2492 q2493 q2494 q107 q2495) nd_X1_byteAt rfl (le_fr hf rfl) (le_fr hlo rfl) rfl (Nat.le_of_ble_eq_true rfl) dL_law_1195 hk ht) s_dsp0)
        refine s_aload_n C dL_law_1198 2 rfl rfl ?_
        refine s_aload_n C dL_law_1199 0 rfl rfl ?_
        refine s_iload C dL_law_1200 4 rfl ?_
        refine s_iconst C (1 : Int32) dL_law_1202 (by decide) ?_
        refine s_iadd C dL_law_1203 ?_
        refine s_iald [700] C (fl1 rfl) (pl_of e4 rfl) dL_law_1204 fun a254 => ?_
        refine s_nz fun z255 => ?_
        refine s_dk 1208 finI [.int r252] (fun r256 h257 => ?_) (fun hk => s_dsp 6 (fun ht => c_V C 1 [.int r252] 6 RX6 ro_6 (ct_onM (fun _ M => ct_X6_byteAt hL ⟨z255, rfl, rfl, rfl, rfl, rfl⟩ M a254) h253) (lw_V q3444 q3445 q3446 q147 q3447) nd_X6_byteAt rfl (le_fr hf rfl) (le_fr hlo rfl) rfl (Nat.le_of_ble_eq_true rfl) dL_law_1205 hk ht) s_dsp0)
        refine s_icmp_eq C 1462 dL_law_1208 (by decide) ?_ ?_
        · exact hj1462 _ _
        · refine s_iconst C (0 : Int32) dL_law_1211 (by decide) ?_
          exact s_zret 2 C (by decide) (by decide) rfl dL_law_1212
      · refine s_aload_n C dL_law_1213 1 rfl rfl ?_
        refine s_aload_n C dL_law_1214 0 rfl rfl ?_
        refine s_iload C dL_law_1215 4 rfl ?_
        refine s_iconst C (1 : Int32) dL_law_1217 (by decide) ?_
        refine s_iadd C dL_law_1218 ?_
        refine s_iald [700] C (fl1 rfl) (pl_of e4 rfl) dL_law_1219 fun a258 => ?_
        refine s_aload_n C dL_law_1220 0 rfl rfl ?_
        refine s_iload C dL_law_1221 4 rfl ?_
        refine s_iconst C (2 : Int32) dL_law_1223 (by decide) ?_
        refine s_iadd C dL_law_1224 ?_
        refine s_iald [700] C (fl1 rfl) (pl_of e4 rfl) dL_law_1225 fun a259 => ?_
        refine s_dk 1229 finI [] (fun r260 h261 => ?_) (fun hk => s_dsp 1 (fun ht => c_V C 2 [] 1 RX1 ro_1 (ct_g_FinalLinks_drawn hL hJ x1 a258 a259 h9) (lw_V q2507 q2508 q2509 q107 q2510) nd_X1_drawn rfl (le_fr hf rfl) (le_fr hlo rfl) rfl (Nat.le_of_ble_eq_true rfl) dL_law_1226 hk ht) s_dsp0)
        refine s_aload_n C dL_law_1229 2 rfl rfl ?_
        refine s_aload_n C dL_law_1230 0 rfl rfl ?_
        refine s_iload C dL_law_1231 4 rfl ?_
        refine s_iconst C (1 : Int32) dL_law_1233 (by decide) ?_
        refine s_iadd C dL_law_1234 ?_
        refine s_iald [700] C (fl1 rfl) (pl_of e4 rfl) dL_law_1235 fun a262 => ?_
        refine s_aload_n C dL_law_1236 0 rfl rfl ?_
        refine s_iload C dL_law_1237 4 rfl ?_
        refine s_iconst C (2 : Int32) dL_law_1239 (by decide) ?_
        refine s_iadd C dL_law_1240 ?_
        refine s_iald [700] C (fl1 rfl) (pl_of e4 rfl) dL_law_1241 fun a263 => ?_
        refine s_nz fun z264 => ?_
        refine s_dk 1245 finI [.int r260] (fun r265 h266 => ?_) (fun hk => s_dsp 6 (fun ht => c_V C 2 [.int r260] 6 RX6 ro_6 (ct_onM (fun _ M => ct_X6_drawn hL ⟨z264, rfl, rfl, rfl, rfl, rfl⟩ M a262 a263) h261) (lw_V q3448 q3449 q3450 q147 q3451) nd_X6_drawn rfl (le_fr hf rfl) (le_fr hlo rfl) rfl (Nat.le_of_ble_eq_true rfl) dL_law_1242 hk ht) s_dsp0)
        refine s_icmp_eq C 1462 dL_law_1245 (by decide) ?_ ?_
        · exact hj1462 _ _
        · refine s_iconst C (0 : Int32) dL_law_1248 (by decide) ?_
          exact s_zret 2 C (by decide) (by decide) rfl dL_law_1249
      · refine s_aload_n C dL_law_1250 1 rfl rfl ?_
        refine s_aload_n C dL_law_1251 0 rfl rfl ?_
        refine s_iload C dL_law_1252 4 rfl ?_
        refine s_iconst C (1 : Int32) dL_law_1254 (by decide) ?_
        refine s_iadd C dL_law_1255 ?_
        refine s_iald [700] C (fl1 rfl) (pl_of e4 rfl) dL_law_1256 fun a267 => ?_
        refine s_aload_n C dL_law_1257 0 rfl rfl ?_
        refine s_iload C dL_law_1258 4 rfl ?_
        refine s_iconst C (2 : Int32) dL_law_1260 (by decide) ?_
        refine s_iadd C dL_law_1261 ?_
        refine s_iald [700] C (fl1 rfl) (pl_of e4 rfl) dL_law_1262 fun a268 => ?_
        refine s_aload_n C dL_law_1263 0 rfl rfl ?_
        refine s_iload C dL_law_1264 4 rfl ?_
        refine s_iconst C (3 : Int32) dL_law_1266 (by decide) ?_
        refine s_iadd C dL_law_1267 ?_
        refine s_iald [700] C (fl1 rfl) (pl_of e4 rfl) dL_law_1268 fun a269 => ?_
        refine s_dk 1272 finI [] (fun r270 h271 => ?_) (fun hk => s_dsp 1 (fun ht => c_V C 3 [] 1 RX1 ro_1 (ct_g_FinalLinks_odds hL hJ x1 a267 a268 a269 h9) (lw_V q2533 q2534 q2535 q107 q2536) nd_X1_odds rfl (le_fr hf rfl) (le_fr hlo rfl) rfl (Nat.le_of_ble_eq_true rfl) dL_law_1269 hk ht) s_dsp0)
        refine s_aload_n C dL_law_1272 2 rfl rfl ?_
        refine s_aload_n C dL_law_1273 0 rfl rfl ?_
        refine s_iload C dL_law_1274 4 rfl ?_
        refine s_iconst C (1 : Int32) dL_law_1276 (by decide) ?_
        refine s_iadd C dL_law_1277 ?_
        refine s_iald [700] C (fl1 rfl) (pl_of e4 rfl) dL_law_1278 fun a272 => ?_
        refine s_aload_n C dL_law_1279 0 rfl rfl ?_
        refine s_iload C dL_law_1280 4 rfl ?_
        refine s_iconst C (2 : Int32) dL_law_1282 (by decide) ?_
        refine s_iadd C dL_law_1283 ?_
        refine s_iald [700] C (fl1 rfl) (pl_of e4 rfl) dL_law_1284 fun a273 => ?_
        refine s_aload_n C dL_law_1285 0 rfl rfl ?_
        refine s_iload C dL_law_1286 4 rfl ?_
        refine s_iconst C (3 : Int32) dL_law_1288 (by decide) ?_
        refine s_iadd C dL_law_1289 ?_
        refine s_iald [700] C (fl1 rfl) (pl_of e4 rfl) dL_law_1290 fun a274 => ?_
        refine s_nz fun z275 => ?_
        refine s_dk 1294 finI [.int r270] (fun r276 h277 => ?_) (fun hk => s_dsp 6 (fun ht => c_V C 3 [.int r270] 6 RX6 ro_6 (ct_onM (fun _ M => ct_X6_odds hL ⟨z275, rfl, rfl, rfl, rfl, rfl⟩ M a272 a273 a274) h271) (lw_V q3461 q3462 q3463 q147 q3464) nd_X6_odds rfl (le_fr hf rfl) (le_fr hlo rfl) rfl (Nat.le_of_ble_eq_true rfl) dL_law_1291 hk ht) s_dsp0)
        refine s_icmp_eq C 1462 dL_law_1294 (by decide) ?_ ?_
        · exact hj1462 _ _
        · refine s_iconst C (0 : Int32) dL_law_1297 (by decide) ?_
          exact s_zret 2 C (by decide) (by decide) rfl dL_law_1298
      · refine s_aload_n C dL_law_1299 1 rfl rfl ?_
        refine s_aload_n C dL_law_1300 0 rfl rfl ?_
        refine s_iload C dL_law_1301 4 rfl ?_
        refine s_iconst C (1 : Int32) dL_law_1303 (by decide) ?_
        refine s_iadd C dL_law_1304 ?_
        refine s_iald [700] C (fl1 rfl) (pl_of e4 rfl) dL_law_1305 fun a278 => ?_
        refine s_dk 1309 finI [] (fun r279 h280 => ?_) (fun hk => s_dsp 1 (fun ht => c_VW C 1 [] 1 RX1 ro_1 (ct_g_FinalLinks_book hL hJ x1 a278 h9) (lw_VW q2541 q2542 q2543 q107 q2544) nd_X1_book rfl (le_fr hf rfl) (le_fr hlo rfl) rfl (Nat.le_of_ble_eq_true rfl) dL_law_1306 hk ht) s_dsp0)
        refine s_aload_n C dL_law_1309 2 rfl rfl ?_
        refine s_aload_n C dL_law_1310 0 rfl rfl ?_
        refine s_iload C dL_law_1311 4 rfl ?_
        refine s_iconst C (1 : Int32) dL_law_1313 (by decide) ?_
        refine s_iadd C dL_law_1314 ?_
        refine s_iald [700] C (fl1 rfl) (pl_of e4 rfl) dL_law_1315 fun a281 => ?_
        refine s_nz fun z282 => ?_
        refine s_dk 1319 finI [.int r279] (fun r283 h284 => ?_) (fun hk => s_dsp 6 (fun ht => c_V C 1 [.int r279] 6 RX6 ro_6 (ct_onM (fun _ M => ct_X6_book hL ⟨z282, rfl, rfl, rfl, rfl, rfl⟩ M a281) h280) (lw_V q3469 q3470 q3471 q147 q3472) nd_X6_book rfl (le_fr hf rfl) (le_fr hlo rfl) rfl (Nat.le_of_ble_eq_true rfl) dL_law_1316 hk ht) s_dsp0)
        refine s_icmp_eq C 1462 dL_law_1319 (by decide) ?_ ?_
        · exact hj1462 _ _
        · refine s_iconst C (0 : Int32) dL_law_1322 (by decide) ?_
          exact s_zret 2 C (by decide) (by decide) rfl dL_law_1323
      · refine s_aload_n C dL_law_1324 1 rfl rfl ?_
        refine s_aload_n C dL_law_1325 0 rfl rfl ?_
        refine s_iload C dL_law_1326 4 rfl ?_
        refine s_iconst C (1 : Int32) dL_law_1328 (by decide) ?_
        refine s_iadd C dL_law_1329 ?_
        refine s_iald [700] C (fl1 rfl) (pl_of e4 rfl) dL_law_1330 fun a285 => ?_
        refine s_dk 1334 finI [] (fun r286 h287 => ?_) (fun hk => s_dsp 1 (fun ht => c_V C 1 [] 1 RX1 ro_1 (ct_g_FinalLinks_told hL hJ x1 a285 h9) (lw_V q2621 q2622 q2623 q107 q2624) nd_X1_told rfl (le_fr hf rfl) (le_fr hlo rfl) rfl (Nat.le_of_ble_eq_true rfl) dL_law_1331 hk ht) s_dsp0)
        refine s_aload_n C dL_law_1334 2 rfl rfl ?_
        refine s_aload_n C dL_law_1335 0 rfl rfl ?_
        refine s_iload C dL_law_1336 4 rfl ?_
        refine s_iconst C (1 : Int32) dL_law_1338 (by decide) ?_
        refine s_iadd C dL_law_1339 ?_
        refine s_iald [700] C (fl1 rfl) (pl_of e4 rfl) dL_law_1340 fun a288 => ?_
        refine s_nz fun z289 => ?_
        refine s_dk 1344 finI [.int r286] (fun r290 h291 => ?_) (fun hk => s_dsp 6 (fun ht => c_V C 1 [.int r286] 6 RX6 ro_6 (ct_onM (fun _ M => ct_X6_told hL ⟨z289, rfl, rfl, rfl, rfl, rfl⟩ M a288) h287) (lw_V q3481 q3482 q3483 q147 q3484) nd_X6_told rfl (le_fr hf rfl) (le_fr hlo rfl) rfl (Nat.le_of_ble_eq_true rfl) dL_law_1341 hk ht) s_dsp0)
        refine s_icmp_eq C 1462 dL_law_1344 (by decide) ?_ ?_
        · exact hj1462 _ _
        · refine s_iconst C (0 : Int32) dL_law_1347 (by decide) ?_
          exact s_zret 2 C (by decide) (by decide) rfl dL_law_1348
      · refine s_aload_n C dL_law_1349 1 rfl rfl ?_
        refine s_dk 1353 finI [] (fun r292 h293 => ?_) (fun hk => s_dsp 1 (fun ht => c_VW C 0 [] 1 RX1 ro_1 (ct_g_FinalLinks_sentence hL hJ x1 h9) (lw_VW q2625 q2626 q2627 q107 q2628) nd_X1_sentence rfl (le_fr hf rfl) (le_fr hlo rfl) rfl (Nat.le_of_ble_eq_true rfl) dL_law_1350 hk ht) s_dsp0)
        refine s_aload_n C dL_law_1353 2 rfl rfl ?_
        refine s_nz fun z294 => ?_
        refine s_dk 1357 finI [.int r292] (fun r295 h296 => ?_) (fun hk => s_dsp 6 (fun ht => c_V C 0 [.int r292] 6 RX6 ro_6 (ct_onM (fun _ M => ct_X6_sentence hL ⟨z294, rfl, rfl, rfl, rfl, rfl⟩ M ) h293) (lw_V q3485 q3486 q3487 q147 q3488) nd_X6_sentence rfl (le_fr hf rfl) (le_fr hlo rfl) rfl (Nat.le_of_ble_eq_true rfl) dL_law_1354 hk ht) s_dsp0)
        refine s_icmp_eq C 1462 dL_law_1357 (by decide) ?_ ?_
        · exact hj1462 _ _
        · refine s_iconst C (0 : Int32) dL_law_1360 (by decide) ?_
          exact s_zret 2 C (by decide) (by decide) rfl dL_law_1361
      · refine s_aload_n C dL_law_1362 1 rfl rfl ?_
        refine s_aload_n C dL_law_1363 0 rfl rfl ?_
        refine s_iload C dL_law_1364 4 rfl ?_
        refine s_iconst C (1 : Int32) dL_law_1366 (by decide) ?_
        refine s_iadd C dL_law_1367 ?_
        refine s_iald [700] C (fl1 rfl) (pl_of e4 rfl) dL_law_1368 fun a297 => ?_
        refine s_dk 1372 finI [] (fun r298 h299 => ?_) (fun hk => s_dsp 1 (fun ht => c_V C 1 [] 1 RX1 ro_1 (ct_g_FinalLinks_said hL hJ x1 a297 h9) (lw_V q2778 q2779 q2780 q107 q2781) nd_X1_said rfl (le_fr hf rfl) (le_fr hlo rfl) rfl (Nat.le_of_ble_eq_true rfl) dL_law_1369 hk ht) s_dsp0)
        refine s_aload_n C dL_law_1372 2 rfl rfl ?_
        refine s_aload_n C dL_law_1373 0 rfl rfl ?_
        refine s_iload C dL_law_1374 4 rfl ?_
        refine s_iconst C (1 : Int32) dL_law_1376 (by decide) ?_
        refine s_iadd C dL_law_1377 ?_
        refine s_iald [700] C (fl1 rfl) (pl_of e4 rfl) dL_law_1378 fun a300 => ?_
        refine s_nz fun z301 => ?_
        refine s_dk 1382 finI [.int r298] (fun r302 h303 => ?_) (fun hk => s_dsp 6 (fun ht => c_V C 1 [.int r298] 6 RX6 ro_6 (ct_onM (fun _ M => ct_X6_said hL ⟨z301, rfl, rfl, rfl, rfl, rfl⟩ M a300) h299) (lw_V q3513 q3514 q3515 q147 q3516) nd_X6_said rfl (le_fr hf rfl) (le_fr hlo rfl) rfl (Nat.le_of_ble_eq_true rfl) dL_law_1379 hk ht) s_dsp0)
        refine s_icmp_eq C 1462 dL_law_1382 (by decide) ?_ ?_
        · exact hj1462 _ _
        · refine s_iconst C (0 : Int32) dL_law_1385 (by decide) ?_
          exact s_zret 2 C (by decide) (by decide) rfl dL_law_1386
      · refine s_aload_n C dL_law_1387 1 rfl rfl ?_
        refine s_aload_n C dL_law_1388 0 rfl rfl ?_
        refine s_iload C dL_law_1389 4 rfl ?_
        refine s_iconst C (1 : Int32) dL_law_1391 (by decide) ?_
        refine s_iadd C dL_law_1392 ?_
        refine s_iald [700] C (fl1 rfl) (pl_of e4 rfl) dL_law_1393 fun a304 => ?_
        refine s_dk 1397 finI [] (fun r305 h306 => ?_) (fun hk => s_dsp 1 (fun ht => c_V C 1 [] 1 RX1 ro_1 (ct_g_FinalLinks_image hL hJ x1 a304 h9) (lw_V q2814 q2815 q2816 q107 q2817) nd_X1_image rfl (le_fr hf rfl) (le_fr hlo rfl) rfl (Nat.le_of_ble_eq_true rfl) dL_law_1394 hk ht) s_dsp0)
        refine s_aload_n C dL_law_1397 2 rfl rfl ?_
        refine s_aload_n C dL_law_1398 0 rfl rfl ?_
        refine s_iload C dL_law_1399 4 rfl ?_
        refine s_iconst C (1 : Int32) dL_law_1401 (by decide) ?_
        refine s_iadd C dL_law_1402 ?_
        refine s_iald [700] C (fl1 rfl) (pl_of e4 rfl) dL_law_1403 fun a307 => ?_
        refine s_nz fun z308 => ?_
        refine s_dk 1407 finI [.int r305] (fun r309 h310 => ?_) (fun hk => s_dsp 6 (fun ht => c_V C 1 [.int r305] 6 RX6 ro_6 (ct_onM (fun _ M => ct_X6_image hL ⟨z308, rfl, rfl, rfl, rfl, rfl⟩ M a307) h306) (lw_V q3528 q3529 q3530 q147 q3531) nd_X6_image rfl (le_fr hf rfl) (le_fr hlo rfl) rfl (Nat.le_of_ble_eq_true rfl) dL_law_1404 hk ht) s_dsp0)
        refine s_icmp_eq C 1462 dL_law_1407 (by decide) ?_ ?_
        · exact hj1462 _ _
        · refine s_iconst C (0 : Int32) dL_law_1410 (by decide) ?_
          exact s_zret 2 C (by decide) (by decide) rfl dL_law_1411
      · refine s_aload_n C dL_law_1412 1 rfl rfl ?_
        refine s_aload_n C dL_law_1413 0 rfl rfl ?_
        refine s_iload C dL_law_1414 4 rfl ?_
        refine s_iconst C (1 : Int32) dL_law_1416 (by decide) ?_
        refine s_iadd C dL_law_1417 ?_
        refine s_iald [700] C (fl1 rfl) (pl_of e4 rfl) dL_law_1418 fun a311 => ?_
        refine s_dk 1422 finI [] (fun r312 h313 => ?_) (fun hk => s_dsp 1 (fun ht => c_V C 1 [] 1 RX1 ro_1 (ct_g_FinalLinks_restore hL hJ x1 a311 h9) (lw_V q2818 q2819 q2820 q107 q2821) nd_X1_restore rfl (le_fr hf rfl) (le_fr hlo rfl) rfl (Nat.le_of_ble_eq_true rfl) dL_law_1419 hk ht) s_dsp0)
        refine s_aload_n C dL_law_1422 2 rfl rfl ?_
        refine s_aload_n C dL_law_1423 0 rfl rfl ?_
        refine s_iload C dL_law_1424 4 rfl ?_
        refine s_iconst C (1 : Int32) dL_law_1426 (by decide) ?_
        refine s_iadd C dL_law_1427 ?_
        refine s_iald [700] C (fl1 rfl) (pl_of e4 rfl) dL_law_1428 fun a314 => ?_
        refine s_nz fun z315 => ?_
        refine s_dk 1432 finI [.int r312] (fun r316 h317 => ?_) (fun hk => s_dsp 6 (fun ht => c_V C 1 [.int r312] 6 RX6 ro_6 (ct_onM (fun _ M => ct_X6_restore hL ⟨z315, rfl, rfl, rfl, rfl, rfl⟩ M a314) h313) (lw_V q3532 q3533 q3534 q147 q3535) nd_X6_restore rfl (le_fr hf rfl) (le_fr hlo rfl) rfl (Nat.le_of_ble_eq_true rfl) dL_law_1429 hk ht) s_dsp0)
        refine s_icmp_eq C 1462 dL_law_1432 (by decide) ?_ ?_
        · exact hj1462 _ _
        · refine s_iconst C (0 : Int32) dL_law_1435 (by decide) ?_
          exact s_zret 2 C (by decide) (by decide) rfl dL_law_1436
      · refine s_aload_n C dL_law_1437 1 rfl rfl ?_
        refine s_aload_n C dL_law_1438 0 rfl rfl ?_
        refine s_iload C dL_law_1439 4 rfl ?_
        refine s_iconst C (1 : Int32) dL_law_1441 (by decide) ?_
        refine s_iadd C dL_law_1442 ?_
        refine s_iald [700] C (fl1 rfl) (pl_of e4 rfl) dL_law_1443 fun a318 => ?_
        refine s_dk 1447 finI [] (fun r319 h320 => ?_) (fun hk => s_dsp 1 (fun ht => c_V C 1 [] 1 RX1 ro_1 (ct_g_FinalLinks_count hL hJ x1 a318 h9) (lw_V q2822 q2823 q2824 q107 q2825) nd_X1_count rfl (le_fr hf rfl) (le_fr hlo rfl) rfl (Nat.le_of_ble_eq_true rfl) dL_law_1444 hk ht) s_dsp0)
        refine s_aload_n C dL_law_1447 2 rfl rfl ?_
        refine s_aload_n C dL_law_1448 0 rfl rfl ?_
        refine s_iload C dL_law_1449 4 rfl ?_
        refine s_iconst C (1 : Int32) dL_law_1451 (by decide) ?_
        refine s_iadd C dL_law_1452 ?_
        refine s_iald [700] C (fl1 rfl) (pl_of e4 rfl) dL_law_1453 fun a321 => ?_
        refine s_nz fun z322 => ?_
        refine s_dk 1457 finI [.int r319] (fun r323 h324 => ?_) (fun hk => s_dsp 6 (fun ht => c_V C 1 [.int r319] 6 RX6 ro_6 (ct_onM (fun _ M => ct_X6_count hL ⟨z322, rfl, rfl, rfl, rfl, rfl⟩ M a321) h320) (lw_V q3536 q3537 q3538 q147 q3539) nd_X6_count rfl (le_fr hf rfl) (le_fr hlo rfl) rfl (Nat.le_of_ble_eq_true rfl) dL_law_1454 hk ht) s_dsp0)
        refine s_icmp_eq C 1462 dL_law_1457 (by decide) ?_ ?_
        · exact hj1462 _ _
        · refine s_iconst C (0 : Int32) dL_law_1460 (by decide) ?_
          exact s_zret 2 C (by decide) (by decide) rfl dL_law_1461
      · exact hj1462 _ _
  refine s_istore (la' := [(4, .int (0 : Int32)), (3, vr o7), (2, vr o4), (1, vr o1), (0, vr x0)]) C dL_law_21 (lt_nl e5 rfl) rfl ?_
  refine Sim.keep [4, 3, 2, 1, 0] rfl ?_
  exact hL23 _ _ _ _ _ _
