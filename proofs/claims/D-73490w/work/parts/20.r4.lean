/-! THE LIBRARY'S METHODS ON THE RAW HEAP (printed by hgenraw.py) -/
set_option maxRecDepth 100000
def g_HashMapTreeNode_balanceInsertion_j37 (x0 : Nat) (h4 : Hp) : Option (Nat × Hp) :=
  some (x0, h4)
def g_HashMapTreeNode_balanceInsertion_j218 (rec5 : (Nat × Nat) → Hp → Option (Nat × Hp)) (x0 : Nat) (x1 : Nat) (x2 : Nat) (x3 : Nat) (h9 : Hp) : Option (Nat × Hp) :=
  if x2 = 0 then
    rec5 (x0, x1) h9
  else
    (putI [32] 2 10 x2 (0 : Int32) h9).bind fun h10 =>
    if x3 = 0 then
      rec5 (x0, x1) h10
    else
      (putI [32] 2 10 x3 (1 : Int32) h10).bind fun h11 =>
      bn (g_HashMapTreeNode_rotateLeft x0 x3 h11) fun r12 h13 =>
      rec5 (r12, x1) h13
def g_HashMapTreeNode_balanceInsertion_j217 (rec5 : (Nat × Nat) → Hp → Option (Nat × Hp)) (x0 : Nat) (x1 : Nat) (x2 : Nat) (y0 : Nat) (h17 : Hp) : Option (Nat × Hp) :=
  g_HashMapTreeNode_balanceInsertion_j218 rec5 x0 x1 x2 y0 h17
def g_HashMapTreeNode_balanceInsertion_j184 (rec5 : (Nat × Nat) → Hp → Option (Nat × Hp)) (x0 : Nat) (x1 : Nat) (x2 : Nat) (x3 : Nat) (h7 : Hp) : Option (Nat × Hp) :=
  (getR [32] 7 x2 h7).bind fun a8 =>
  if x1 = a8 then
    bn (g_HashMapTreeNode_rotateRight x0 x2 h7) fun r14 h15 =>
    (getR [32] 6 x2 h15).bind fun a16 =>
    if a16 = 0 then
      g_HashMapTreeNode_balanceInsertion_j217 rec5 r14 x2 a16 0 h15
    else
      (getR [32] 6 a16 h15).bind fun a18 =>
      g_HashMapTreeNode_balanceInsertion_j217 rec5 r14 x2 a16 a18 h15
  else
    g_HashMapTreeNode_balanceInsertion_j218 rec5 x0 x1 x2 x3 h7
def g_HashMapTreeNode_balanceInsertion_j123 (rec5 : (Nat × Nat) → Hp → Option (Nat × Hp)) (x0 : Nat) (x1 : Nat) (x2 : Nat) (x3 : Nat) (h26 : Hp) : Option (Nat × Hp) :=
  if x2 = 0 then
    rec5 (x0, x1) h26
  else
    (putI [32] 2 10 x2 (0 : Int32) h26).bind fun h27 =>
    if x3 = 0 then
      rec5 (x0, x1) h27
    else
      (putI [32] 2 10 x3 (1 : Int32) h27).bind fun h28 =>
      bn (g_HashMapTreeNode_rotateRight x0 x3 h28) fun r29 h30 =>
      rec5 (r29, x1) h30
def g_HashMapTreeNode_balanceInsertion_j122 (rec5 : (Nat × Nat) → Hp → Option (Nat × Hp)) (x0 : Nat) (x1 : Nat) (x2 : Nat) (y0 : Nat) (h34 : Hp) : Option (Nat × Hp) :=
  g_HashMapTreeNode_balanceInsertion_j123 rec5 x0 x1 x2 y0 h34
def g_HashMapTreeNode_balanceInsertion_j89 (rec5 : (Nat × Nat) → Hp → Option (Nat × Hp)) (x0 : Nat) (x1 : Nat) (x2 : Nat) (x3 : Nat) (h24 : Hp) : Option (Nat × Hp) :=
  (getR [32] 8 x2 h24).bind fun a25 =>
  if x1 = a25 then
    bn (g_HashMapTreeNode_rotateLeft x0 x2 h24) fun r31 h32 =>
    (getR [32] 6 x2 h32).bind fun a33 =>
    if a33 = 0 then
      g_HashMapTreeNode_balanceInsertion_j122 rec5 r31 x2 a33 0 h32
    else
      (getR [32] 6 a33 h32).bind fun a35 =>
      g_HashMapTreeNode_balanceInsertion_j122 rec5 r31 x2 a33 a35 h32
  else
    g_HashMapTreeNode_balanceInsertion_j123 rec5 x0 x1 x2 x3 h24
def g_HashMapTreeNode_balanceInsertion_L5  : (Nat × Nat) → Hp → Option (Nat × Hp) :=
  lp FU fun rec5 v5 h1 =>
    (getR [32] 6 v5.2 h1).bind fun a2 =>
    if a2 = 0 then
      (putI [32] 2 10 v5.2 (0 : Int32) h1).bind fun h40 =>
      some (v5.2, h40)
    else
      (getI [32] 10 a2 h1).bind fun a3 =>
      if a3 = 0 then
        g_HashMapTreeNode_balanceInsertion_j37 v5.1 h1
      else
        (getR [32] 6 a2 h1).bind fun a5 =>
        if a5 = 0 then
          g_HashMapTreeNode_balanceInsertion_j37 v5.1 h1
        else
          (getR [32] 7 a5 h1).bind fun a6 =>
          if a2 = a6 then
            (getR [32] 8 a5 h1).bind fun a23 =>
            if a23 = 0 then
              g_HashMapTreeNode_balanceInsertion_j89 rec5 v5.1 v5.2 a2 a5 h1
            else
              (getI [32] 10 a23 h1).bind fun a36 =>
              if a36 = 0 then
                g_HashMapTreeNode_balanceInsertion_j89 rec5 v5.1 v5.2 a2 a5 h1
              else
                (putI [32] 2 10 a23 (0 : Int32) h1).bind fun h37 =>
                (putI [32] 2 10 a2 (0 : Int32) h37).bind fun h38 =>
                (putI [32] 2 10 a5 (1 : Int32) h38).bind fun h39 =>
                rec5 (v5.1, a5) h39
          else
            if a6 = 0 then
              g_HashMapTreeNode_balanceInsertion_j184 rec5 v5.1 v5.2 a2 a5 h1
            else
              (getI [32] 10 a6 h1).bind fun a19 =>
              if a19 = 0 then
                g_HashMapTreeNode_balanceInsertion_j184 rec5 v5.1 v5.2 a2 a5 h1
              else
                (putI [32] 2 10 a6 (0 : Int32) h1).bind fun h20 =>
                (putI [32] 2 10 a2 (0 : Int32) h20).bind fun h21 =>
                (putI [32] 2 10 a5 (1 : Int32) h21).bind fun h22 =>
                rec5 (v5.1, a5) h22
def g_HashMapTreeNode_balanceInsertion (x0 : Nat) (x1 : Nat) (h : Hp) : Option (Nat × Hp) :=
  (putI [32] 2 10 x1 (1 : Int32) h).bind fun h41 =>
  g_HashMapTreeNode_balanceInsertion_L5 (x0, x1) h41
theorem ct_g_HashMapTreeNode_balanceInsertion {G : Gx} {RL : Lv} {l : Launch} (hL : LvA G RL plR) (x0 : Nat) (x1 : Nat) (h : Hp) : Ct id G RL l yJ36_balanceInsertion (ws_ yJ36_balanceInsertion cJ36_balanceInsertion 6 (some (.object "java/util/HashMap$TreeNode"))) 1 24 finR [vr x0, vr x1] h (g_HashMapTreeNode_balanceInsertion x0 x1 h) := by
  refine Ct.of (Pl := plR) [(0, vr x0), (1, vr x1)] (by decide) hL rfl (Nat.le_of_ble_eq_true rfl) ?_
  intro E C e6 hf hlo e1 e2 e3 e4 e5
  subst e1; subst e2; subst e3
  replace C : Cx E cJ36_balanceInsertion (some (.object "java/util/HashMap$TreeNode")) RJ36 := C
  replace e6 : (eMe E).name = "balanceInsertion" := e6
  unfold g_HashMapTreeNode_balanceInsertion
  refine s_aload_n C dJ36_balanceInsertion_0 1 rfl rfl ?_
  refine s_iconst C (1 : Int32) dJ36_balanceInsertion_1 (by decide) ?_
  have hL5 : ∀  (v5 : (Nat × Nat)) (h1 : Hp), Sim id E (QM id E finR) h1 5 [(0, vr v5.1), (1, vr v5.2)] [] (g_HashMapTreeNode_balanceInsertion_L5  v5 h1) := by
    intro v5 h1
    refine Sim.loop (fun v5 => [(0, vr v5.1), (1, vr v5.2)]) (fun _ => []) (fun rec5 hr5 v5 h1 => ?_) FU v5 h1
    refine s_aload_n C dJ36_balanceInsertion_5 1 rfl rfl ?_
    refine s_getR [32] C (fl1 ⟨fo_J36_9_32, rfl⟩) (pl_of e4 rfl) dJ36_balanceInsertion_6 fun a2 => ?_
    refine s_dup C dJ36_balanceInsertion_9 rfl ?_
    refine s_astore_n (la' := [(2, vr a2), (0, vr v5.1), (1, vr v5.2)]) C 2 dJ36_balanceInsertion_10 rfl (lt_nl e5 rfl) rfl ?_
    refine s_ifnonnull C 21 dJ36_balanceInsertion_11 (by decide) ?_ ?_
    · refine s_aload_n C dJ36_balanceInsertion_21 0 rfl rfl ?_
      refine s_getI [32] C (fl1 ⟨fo_J36_93_32, rfl⟩) (pl_of e4 rfl) dJ36_balanceInsertion_22 fun a3 => ?_
      have hj37 : ∀ (x0 : Nat) (h4 : Hp), Sim id E (QM id E finR) h4 37 [(0, vr x0)] [] (g_HashMapTreeNode_balanceInsertion_j37 x0 h4) := by
        intro x0 h4
        refine s_aload_n C dJ36_balanceInsertion_37 0 rfl rfl ?_
        exact s_aret C (Or.inl ⟨_, rfl⟩) rfl dJ36_balanceInsertion_38
      refine s_if_eq C 37 dJ36_balanceInsertion_25 (by decide) ?_ ?_
      · refine Sim.keep [1] rfl ?_
        exact hj37 _ _
      · refine s_aload_n C dJ36_balanceInsertion_28 0 rfl rfl ?_
        refine s_getR [32] C (fl1 ⟨fo_J36_9_32, rfl⟩) (pl_of e4 rfl) dJ36_balanceInsertion_29 fun a5 => ?_
        refine s_dup C dJ36_balanceInsertion_32 rfl ?_
        refine s_astore_n (la' := [(3, vr a5), (2, vr a2), (0, vr v5.1), (1, vr v5.2)]) C 3 dJ36_balanceInsertion_33 rfl (lt_nl e5 rfl) rfl ?_
        refine s_ifnonnull C 39 dJ36_balanceInsertion_34 (by decide) ?_ ?_
        · refine s_aload_n C dJ36_balanceInsertion_39 1 rfl rfl ?_
          refine s_aload_n C dJ36_balanceInsertion_40 0 rfl rfl ?_
          refine s_getR [32] C (fl1 ⟨fo_J36_39_32, rfl⟩) (pl_of e4 rfl) dJ36_balanceInsertion_41 fun a6 => ?_
          refine s_dup C dJ36_balanceInsertion_44 rfl ?_
          refine s_astore (la' := [(4, vr a6), (3, vr a5), (2, vr a2), (0, vr v5.1), (1, vr v5.2)]) C dJ36_balanceInsertion_45 (lt_nl e5 rfl) rfl ?_
          refine s_acmp_ne 150 C dJ36_balanceInsertion_47 (by decide) ?_ ?_
          · refine s_aload C dJ36_balanceInsertion_150 0 rfl ?_
            have hj184 : ∀ (x0 : Nat) (x1 : Nat) (x2 : Nat) (x3 : Nat) (h7 : Hp), Sim id E (QM id E finR) h7 184 [(0, vr x0), (1, vr x1), (2, vr x2), (3, vr x3)] [] (g_HashMapTreeNode_balanceInsertion_j184 rec5 x0 x1 x2 x3 h7) := by
              intro x0 x1 x2 x3 h7
              refine s_aload_n C dJ36_balanceInsertion_184 1 rfl rfl ?_
              refine s_aload_n C dJ36_balanceInsertion_185 2 rfl rfl ?_
              refine s_getR [32] C (fl1 ⟨fo_J36_39_32, rfl⟩) (pl_of e4 rfl) dJ36_balanceInsertion_186 fun a8 => ?_
              have hj218 : ∀ (x0 : Nat) (x1 : Nat) (x2 : Nat) (x3 : Nat) (h9 : Hp), Sim id E (QM id E finR) h9 218 [(0, vr x0), (1, vr x1), (2, vr x2), (3, vr x3)] [] (g_HashMapTreeNode_balanceInsertion_j218 rec5 x0 x1 x2 x3 h9) := by
                intro x0 x1 x2 x3 h9
                refine s_aload_n C dJ36_balanceInsertion_218 2 rfl rfl ?_
                refine s_ifnull C 5 dJ36_balanceInsertion_219 (by decide) ?_ ?_
                · refine Sim.keep [0, 1] rfl ?_
                  exact hr5 _ _
                · refine s_aload_n C dJ36_balanceInsertion_222 2 rfl rfl ?_
                  refine s_iconst C (0 : Int32) dJ36_balanceInsertion_223 (by decide) ?_
                  refine s_putI [32] 2 C (by decide) (by decide) (fl1 ⟨⟨by decide, fo_J36_93_32, rfl⟩, rfl⟩) (pl_of e4 rfl) (fl1 (Or.inl rfl)) dJ36_balanceInsertion_224 fun h10 => ?_
                  refine s_aload_n C dJ36_balanceInsertion_227 3 rfl rfl ?_
                  refine s_ifnull C 5 dJ36_balanceInsertion_228 (by decide) ?_ ?_
                  · refine Sim.keep [0, 1] rfl ?_
                    exact hr5 _ _
                  · refine s_aload_n C dJ36_balanceInsertion_231 3 rfl rfl ?_
                    refine s_iconst C (1 : Int32) dJ36_balanceInsertion_232 (by decide) ?_
                    refine s_putI [32] 2 C (by decide) (by decide) (fl1 ⟨⟨by decide, fo_J36_93_32, rfl⟩, rfl⟩) (pl_of e4 rfl) (fl1 (Or.inl rfl)) dJ36_balanceInsertion_233 fun h11 => ?_
                    refine s_aload_n C dJ36_balanceInsertion_236 0 rfl rfl ?_
                    refine s_aload_n C dJ36_balanceInsertion_237 3 rfl rfl ?_
                    refine c_S C 2 [] (ct_g_HashMapTreeNode_rotateLeft hL x0 x3 h11) (lw_S q1962 q1963 q155 q1964) nd_J36_rotateLeft.2 rfl (le_fr hf rfl) (le_fr hlo rfl) rfl (Nat.le_of_ble_eq_true rfl) dJ36_balanceInsertion_238 fun r12 h13 => ?_
                    refine s_astore_n (la' := [(0, vr r12), (1, vr x1), (2, vr x2), (3, vr x3)]) C 0 dJ36_balanceInsertion_241 rfl (lt_nl e5 rfl) rfl ?_
                    refine s_goto C 5 dJ36_balanceInsertion_242 (by decide) ?_
                    refine Sim.keep [0, 1] rfl ?_
                    exact hr5 _ _
              refine s_acmp_ne 218 C dJ36_balanceInsertion_189 (by decide) ?_ ?_
              · exact hj218 _ _ _ _ _
              · refine s_aload_n C dJ36_balanceInsertion_192 0 rfl rfl ?_
                refine s_aload_n C dJ36_balanceInsertion_193 2 rfl rfl ?_
                refine s_dup C dJ36_balanceInsertion_194 rfl ?_
                refine s_astore_n (la' := [(1, vr x2), (0, vr x0), (2, vr x2), (3, vr x3)]) C 1 dJ36_balanceInsertion_195 rfl (lt_nl e5 rfl) rfl ?_
                refine c_S C 2 [] (ct_g_HashMapTreeNode_rotateRight hL x0 x2 h7) (lw_S q1965 q1966 q155 q1967) nd_J36_rotateRight.2 rfl (le_fr hf rfl) (le_fr hlo rfl) rfl (Nat.le_of_ble_eq_true rfl) dJ36_balanceInsertion_196 fun r14 h15 => ?_
                refine s_astore_n (la' := [(0, vr r14), (1, vr x2), (2, vr x2), (3, vr x3)]) C 0 dJ36_balanceInsertion_199 rfl (lt_nl e5 rfl) rfl ?_
                refine s_aload_n C dJ36_balanceInsertion_200 1 rfl rfl ?_
                refine s_getR [32] C (fl1 ⟨fo_J36_9_32, rfl⟩) (pl_of e4 rfl) dJ36_balanceInsertion_201 fun a16 => ?_
                refine s_dup C dJ36_balanceInsertion_204 rfl ?_
                refine s_astore_n (la' := [(2, vr a16), (0, vr r14), (1, vr x2), (3, vr x3)]) C 2 dJ36_balanceInsertion_205 rfl (lt_nl e5 rfl) rfl ?_
                have hj217 : ∀ (x0 : Nat) (x1 : Nat) (x2 : Nat) (y0 : Nat) (h17 : Hp), Sim id E (QM id E finR) h17 217 [(0, vr x0), (1, vr x1), (2, vr x2)] [vr y0] (g_HashMapTreeNode_balanceInsertion_j217 rec5 x0 x1 x2 y0 h17) := by
                  intro x0 x1 x2 y0 h17
                  refine s_astore_n (la' := [(3, vr y0), (0, vr x0), (1, vr x1), (2, vr x2)]) C 3 dJ36_balanceInsertion_217 rfl (lt_nl e5 rfl) rfl ?_
                  refine Sim.keep [1, 2, 3, 0] rfl ?_
                  exact hj218 _ _ _ _ _
                refine s_ifnonnull C 213 dJ36_balanceInsertion_206 (by decide) ?_ ?_
                · refine s_aload_n C dJ36_balanceInsertion_213 0 rfl rfl ?_
                  refine s_getR [32] C (fl1 ⟨fo_J36_9_32, rfl⟩) (pl_of e4 rfl) dJ36_balanceInsertion_214 fun a18 => ?_
                  refine Sim.keep [1, 2, 0] rfl ?_
                  exact hj217 _ _ _ _ _
                · refine s_null C dJ36_balanceInsertion_209 ?_
                  refine s_goto C 217 dJ36_balanceInsertion_210 (by decide) ?_
                  refine Sim.keep [1, 2, 0] rfl ?_
                  exact hj217 _ _ _ _ _
            refine s_ifnull C 184 dJ36_balanceInsertion_152 (by decide) ?_ ?_
            · refine Sim.keep [3, 4, 2, 1] rfl ?_
              exact hj184 _ _ _ _ _
            · refine s_aload C dJ36_balanceInsertion_155 0 rfl ?_
              refine s_getI [32] C (fl1 ⟨fo_J36_93_32, rfl⟩) (pl_of e4 rfl) dJ36_balanceInsertion_157 fun a19 => ?_
              refine s_if_eq C 184 dJ36_balanceInsertion_160 (by decide) ?_ ?_
              · refine Sim.keep [3, 4, 2, 1] rfl ?_
                exact hj184 _ _ _ _ _
              · refine s_aload C dJ36_balanceInsertion_163 0 rfl ?_
                refine s_iconst C (0 : Int32) dJ36_balanceInsertion_165 (by decide) ?_
                refine s_putI [32] 2 C (by decide) (by decide) (fl1 ⟨⟨by decide, fo_J36_93_32, rfl⟩, rfl⟩) (pl_of e4 rfl) (fl1 (Or.inl rfl)) dJ36_balanceInsertion_166 fun h20 => ?_
                refine s_aload_n C dJ36_balanceInsertion_169 2 rfl rfl ?_
                refine s_iconst C (0 : Int32) dJ36_balanceInsertion_170 (by decide) ?_
                refine s_putI [32] 2 C (by decide) (by decide) (fl1 ⟨⟨by decide, fo_J36_93_32, rfl⟩, rfl⟩) (pl_of e4 rfl) (fl1 (Or.inl rfl)) dJ36_balanceInsertion_171 fun h21 => ?_
                refine s_aload_n C dJ36_balanceInsertion_174 1 rfl rfl ?_
                refine s_iconst C (1 : Int32) dJ36_balanceInsertion_175 (by decide) ?_
                refine s_putI [32] 2 C (by decide) (by decide) (fl1 ⟨⟨by decide, fo_J36_93_32, rfl⟩, rfl⟩) (pl_of e4 rfl) (fl1 (Or.inl rfl)) dJ36_balanceInsertion_176 fun h22 => ?_
                refine s_aload_n C dJ36_balanceInsertion_179 1 rfl rfl ?_
                refine s_astore_n (la' := [(1, vr a5), (4, vr a6), (3, vr a5), (2, vr a2), (0, vr v5.1)]) C 1 dJ36_balanceInsertion_180 rfl (lt_nl e5 rfl) rfl ?_
                refine s_goto C 5 dJ36_balanceInsertion_181 (by decide) ?_
                refine Sim.keep [4, 0] rfl ?_
                exact hr5 _ _
          · refine s_aload_n C dJ36_balanceInsertion_50 1 rfl rfl ?_
            refine s_getR [32] C (fl1 ⟨fo_J36_42_32, rfl⟩) (pl_of e4 rfl) dJ36_balanceInsertion_51 fun a23 => ?_
            refine s_dup C dJ36_balanceInsertion_54 rfl ?_
            refine s_astore (la' := [(5, vr a23), (4, vr a6), (3, vr a5), (2, vr a2), (0, vr v5.1), (1, vr v5.2)]) C dJ36_balanceInsertion_55 (lt_nl e5 rfl) rfl ?_
            have hj89 : ∀ (x0 : Nat) (x1 : Nat) (x2 : Nat) (x3 : Nat) (h24 : Hp), Sim id E (QM id E finR) h24 89 [(0, vr x0), (1, vr x1), (2, vr x2), (3, vr x3)] [] (g_HashMapTreeNode_balanceInsertion_j89 rec5 x0 x1 x2 x3 h24) := by
              intro x0 x1 x2 x3 h24
              refine s_aload_n C dJ36_balanceInsertion_89 1 rfl rfl ?_
              refine s_aload_n C dJ36_balanceInsertion_90 2 rfl rfl ?_
              refine s_getR [32] C (fl1 ⟨fo_J36_42_32, rfl⟩) (pl_of e4 rfl) dJ36_balanceInsertion_91 fun a25 => ?_
              have hj123 : ∀ (x0 : Nat) (x1 : Nat) (x2 : Nat) (x3 : Nat) (h26 : Hp), Sim id E (QM id E finR) h26 123 [(0, vr x0), (1, vr x1), (2, vr x2), (3, vr x3)] [] (g_HashMapTreeNode_balanceInsertion_j123 rec5 x0 x1 x2 x3 h26) := by
                intro x0 x1 x2 x3 h26
                refine s_aload_n C dJ36_balanceInsertion_123 2 rfl rfl ?_
                refine s_ifnull C 5 dJ36_balanceInsertion_124 (by decide) ?_ ?_
                · refine Sim.keep [0, 1] rfl ?_
                  exact hr5 _ _
                · refine s_aload_n C dJ36_balanceInsertion_127 2 rfl rfl ?_
                  refine s_iconst C (0 : Int32) dJ36_balanceInsertion_128 (by decide) ?_
                  refine s_putI [32] 2 C (by decide) (by decide) (fl1 ⟨⟨by decide, fo_J36_93_32, rfl⟩, rfl⟩) (pl_of e4 rfl) (fl1 (Or.inl rfl)) dJ36_balanceInsertion_129 fun h27 => ?_
                  refine s_aload_n C dJ36_balanceInsertion_132 3 rfl rfl ?_
                  refine s_ifnull C 5 dJ36_balanceInsertion_133 (by decide) ?_ ?_
                  · refine Sim.keep [0, 1] rfl ?_
                    exact hr5 _ _
                  · refine s_aload_n C dJ36_balanceInsertion_136 3 rfl rfl ?_
                    refine s_iconst C (1 : Int32) dJ36_balanceInsertion_137 (by decide) ?_
                    refine s_putI [32] 2 C (by decide) (by decide) (fl1 ⟨⟨by decide, fo_J36_93_32, rfl⟩, rfl⟩) (pl_of e4 rfl) (fl1 (Or.inl rfl)) dJ36_balanceInsertion_138 fun h28 => ?_
                    refine s_aload_n C dJ36_balanceInsertion_141 0 rfl rfl ?_
                    refine s_aload_n C dJ36_balanceInsertion_142 3 rfl rfl ?_
                    refine c_S C 2 [] (ct_g_HashMapTreeNode_rotateRight hL x0 x3 h28) (lw_S q1965 q1966 q155 q1967) nd_J36_rotateRight.2 rfl (le_fr hf rfl) (le_fr hlo rfl) rfl (Nat.le_of_ble_eq_true rfl) dJ36_balanceInsertion_143 fun r29 h30 => ?_
                    refine s_astore_n (la' := [(0, vr r29), (1, vr x1), (2, vr x2), (3, vr x3)]) C 0 dJ36_balanceInsertion_146 rfl (lt_nl e5 rfl) rfl ?_
                    refine s_goto C 5 dJ36_balanceInsertion_147 (by decide) ?_
                    refine Sim.keep [0, 1] rfl ?_
                    exact hr5 _ _
              refine s_acmp_ne 123 C dJ36_balanceInsertion_94 (by decide) ?_ ?_
              · exact hj123 _ _ _ _ _
              · refine s_aload_n C dJ36_balanceInsertion_97 0 rfl rfl ?_
                refine s_aload_n C dJ36_balanceInsertion_98 2 rfl rfl ?_
                refine s_dup C dJ36_balanceInsertion_99 rfl ?_
                refine s_astore_n (la' := [(1, vr x2), (0, vr x0), (2, vr x2), (3, vr x3)]) C 1 dJ36_balanceInsertion_100 rfl (lt_nl e5 rfl) rfl ?_
                refine c_S C 2 [] (ct_g_HashMapTreeNode_rotateLeft hL x0 x2 h24) (lw_S q1962 q1963 q155 q1964) nd_J36_rotateLeft.2 rfl (le_fr hf rfl) (le_fr hlo rfl) rfl (Nat.le_of_ble_eq_true rfl) dJ36_balanceInsertion_101 fun r31 h32 => ?_
                refine s_astore_n (la' := [(0, vr r31), (1, vr x2), (2, vr x2), (3, vr x3)]) C 0 dJ36_balanceInsertion_104 rfl (lt_nl e5 rfl) rfl ?_
                refine s_aload_n C dJ36_balanceInsertion_105 1 rfl rfl ?_
                refine s_getR [32] C (fl1 ⟨fo_J36_9_32, rfl⟩) (pl_of e4 rfl) dJ36_balanceInsertion_106 fun a33 => ?_
                refine s_dup C dJ36_balanceInsertion_109 rfl ?_
                refine s_astore_n (la' := [(2, vr a33), (0, vr r31), (1, vr x2), (3, vr x3)]) C 2 dJ36_balanceInsertion_110 rfl (lt_nl e5 rfl) rfl ?_
                have hj122 : ∀ (x0 : Nat) (x1 : Nat) (x2 : Nat) (y0 : Nat) (h34 : Hp), Sim id E (QM id E finR) h34 122 [(0, vr x0), (1, vr x1), (2, vr x2)] [vr y0] (g_HashMapTreeNode_balanceInsertion_j122 rec5 x0 x1 x2 y0 h34) := by
                  intro x0 x1 x2 y0 h34
                  refine s_astore_n (la' := [(3, vr y0), (0, vr x0), (1, vr x1), (2, vr x2)]) C 3 dJ36_balanceInsertion_122 rfl (lt_nl e5 rfl) rfl ?_
                  refine Sim.keep [1, 2, 3, 0] rfl ?_
                  exact hj123 _ _ _ _ _
                refine s_ifnonnull C 118 dJ36_balanceInsertion_111 (by decide) ?_ ?_
                · refine s_aload_n C dJ36_balanceInsertion_118 0 rfl rfl ?_
                  refine s_getR [32] C (fl1 ⟨fo_J36_9_32, rfl⟩) (pl_of e4 rfl) dJ36_balanceInsertion_119 fun a35 => ?_
                  refine Sim.keep [1, 2, 0] rfl ?_
                  exact hj122 _ _ _ _ _
                · refine s_null C dJ36_balanceInsertion_114 ?_
                  refine s_goto C 122 dJ36_balanceInsertion_115 (by decide) ?_
                  refine Sim.keep [1, 2, 0] rfl ?_
                  exact hj122 _ _ _ _ _
            refine s_ifnull C 89 dJ36_balanceInsertion_57 (by decide) ?_ ?_
            · refine Sim.keep [4, 5, 3, 2] rfl ?_
              exact hj89 _ _ _ _ _
            · refine s_aload C dJ36_balanceInsertion_60 0 rfl ?_
              refine s_getI [32] C (fl1 ⟨fo_J36_93_32, rfl⟩) (pl_of e4 rfl) dJ36_balanceInsertion_62 fun a36 => ?_
              refine s_if_eq C 89 dJ36_balanceInsertion_65 (by decide) ?_ ?_
              · refine Sim.keep [4, 5, 3, 2] rfl ?_
                exact hj89 _ _ _ _ _
              · refine s_aload C dJ36_balanceInsertion_68 0 rfl ?_
                refine s_iconst C (0 : Int32) dJ36_balanceInsertion_70 (by decide) ?_
                refine s_putI [32] 2 C (by decide) (by decide) (fl1 ⟨⟨by decide, fo_J36_93_32, rfl⟩, rfl⟩) (pl_of e4 rfl) (fl1 (Or.inl rfl)) dJ36_balanceInsertion_71 fun h37 => ?_
                refine s_aload_n C dJ36_balanceInsertion_74 3 rfl rfl ?_
                refine s_iconst C (0 : Int32) dJ36_balanceInsertion_75 (by decide) ?_
                refine s_putI [32] 2 C (by decide) (by decide) (fl1 ⟨⟨by decide, fo_J36_93_32, rfl⟩, rfl⟩) (pl_of e4 rfl) (fl1 (Or.inl rfl)) dJ36_balanceInsertion_76 fun h38 => ?_
                refine s_aload_n C dJ36_balanceInsertion_79 2 rfl rfl ?_
                refine s_iconst C (1 : Int32) dJ36_balanceInsertion_80 (by decide) ?_
                refine s_putI [32] 2 C (by decide) (by decide) (fl1 ⟨⟨by decide, fo_J36_93_32, rfl⟩, rfl⟩) (pl_of e4 rfl) (fl1 (Or.inl rfl)) dJ36_balanceInsertion_81 fun h39 => ?_
                refine s_aload_n C dJ36_balanceInsertion_84 2 rfl rfl ?_
                refine s_astore_n (la' := [(1, vr a5), (5, vr a23), (4, vr a6), (3, vr a5), (2, vr a2), (0, vr v5.1)]) C 1 dJ36_balanceInsertion_85 rfl (lt_nl e5 rfl) rfl ?_
                refine s_goto C 5 dJ36_balanceInsertion_86 (by decide) ?_
                refine Sim.keep [5, 0] rfl ?_
                exact hr5 _ _
        · refine Sim.keep [2] rfl ?_
          exact hj37 _ _
    · refine s_aload_n C dJ36_balanceInsertion_14 2 rfl rfl ?_
      refine s_iconst C (0 : Int32) dJ36_balanceInsertion_15 (by decide) ?_
      refine s_putI [32] 2 C (by decide) (by decide) (fl1 ⟨⟨by decide, fo_J36_93_32, rfl⟩, rfl⟩) (pl_of e4 rfl) (fl1 (Or.inl rfl)) dJ36_balanceInsertion_16 fun h40 => ?_
      refine s_aload_n C dJ36_balanceInsertion_19 2 rfl rfl ?_
      exact s_aret C (Or.inl ⟨_, rfl⟩) rfl dJ36_balanceInsertion_20
  refine s_putI [32] 2 C (by decide) (by decide) (fl1 ⟨⟨by decide, fo_J36_93_32, rfl⟩, rfl⟩) (pl_of e4 rfl) (fl1 (Or.inl rfl)) dJ36_balanceInsertion_2 fun h41 => ?_
  exact hL5  _ _

def g_HashMapTreeNode_moveRootToFront_j123  (h1 : Hp) : Option (Unit × Hp) :=
  some ((), h1)
def g_HashMapTreeNode_moveRootToFront_j102 (x1 : Nat) (h6 : Hp) : Option (Unit × Hp) :=
  if (1 : Int32) = 0 then
    none
  else
    g_HashMapTreeNode_moveRootToFront_j123 h6
def g_HashMapTreeNode_moveRootToFront_j91 (x1 : Nat) (x4 : Nat) (h12 : Hp) : Option (Unit × Hp) :=
  (putR [30, 31, 32] 3 x1 x4 h12).bind fun h13 =>
  (putR [32] 9 x1 0 h13).bind fun h14 =>
  g_HashMapTreeNode_moveRootToFront_j102 x1 h14
def g_HashMapTreeNode_moveRootToFront_j80 (x1 : Nat) (x4 : Nat) (h11 : Hp) : Option (Unit × Hp) :=
  if x4 = 0 then
    g_HashMapTreeNode_moveRootToFront_j91 x1 x4 h11
  else
    (putR [32] 9 x4 x1 h11).bind fun h15 =>
    g_HashMapTreeNode_moveRootToFront_j91 x1 x4 h15
def g_HashMapTreeNode_moveRootToFront_j68 (x1 : Nat) (x4 : Nat) (x5 : Nat) (x6 : Nat) (h10 : Hp) : Option (Unit × Hp) :=
  if x6 = 0 then
    g_HashMapTreeNode_moveRootToFront_j80 x1 x4 h10
  else
    (putR [30, 31, 32] 3 x6 x5 h10).bind fun h16 =>
    g_HashMapTreeNode_moveRootToFront_j80 x1 x4 h16
def g_HashMapTreeNode_moveRootToFront (x0 : Nat) (x1 : Nat) (h : Hp) : Option (Unit × Hp) :=
  if x1 = 0 then
    g_HashMapTreeNode_moveRootToFront_j123 h
  else
    if x0 = 0 then
      g_HashMapTreeNode_moveRootToFront_j123 h
    else
      (alen [206] x0 h).bind fun a2 =>
      if a2 ≤ 0 then
        g_HashMapTreeNode_moveRootToFront_j123 h
      else
        (getI [30, 31, 32] 0 x1 h).bind fun a3 =>
        bd (((a2 - (1 : Int32)) &&& a3)) fun a4 =>
        (aldR [206] x0 a4 h).bind fun a5 =>
        (cst [32] a5 h).bind fun _ =>
        if x1 = a5 then
          g_HashMapTreeNode_moveRootToFront_j102 x1 h
        else
          (astR [206] [30, 31, 32] x0 a4 x1 h).bind fun h7 =>
          (getR [32] 9 x1 h7).bind fun a8 =>
          (getR [30, 31, 32] 3 x1 h7).bind fun a9 =>
          if a9 = 0 then
            g_HashMapTreeNode_moveRootToFront_j68 x1 a5 a9 a8 h7
          else
            (cst [32] a9 h7).bind fun _ =>
            (putR [32] 9 a9 a8 h7).bind fun h17 =>
            g_HashMapTreeNode_moveRootToFront_j68 x1 a5 a9 a8 h17
theorem ct_g_HashMapTreeNode_moveRootToFront {G : Gx} {RL : Lv} {l : Launch} (hL : LvA G RL plR) (x0 : Nat) (x1 : Nat) (h : Hp) : Ct id G RL l yJ36_moveRootToFront (ws_ yJ36_moveRootToFront cJ36_moveRootToFront 7 none) 0 0 finV [vr x0, vr x1] h (g_HashMapTreeNode_moveRootToFront x0 x1 h) := by
  refine Ct.of (Pl := plR) [(0, vr x0), (1, vr x1)] (by decide) hL rfl (Nat.le_of_ble_eq_true rfl) ?_
  intro E C e6 hf hlo e1 e2 e3 e4 e5
  subst e1; subst e2; subst e3
  replace C : Cx E cJ36_moveRootToFront none RJ36 := C
  replace e6 : (eMe E).name = "moveRootToFront" := e6
  unfold g_HashMapTreeNode_moveRootToFront
  refine s_aload_n C dJ36_moveRootToFront_0 1 rfl rfl ?_
  have hj123 : ∀  (h1 : Hp), Sim id E (QM id E finV) h1 123 [] [] (g_HashMapTreeNode_moveRootToFront_j123 h1) := by
    intro h1
    exact s_vret C rfl dJ36_moveRootToFront_123
  refine s_ifnull C 123 dJ36_moveRootToFront_1 (by decide) ?_ ?_
  · refine Sim.keep [] rfl ?_
    exact hj123 _
  · refine s_aload_n C dJ36_moveRootToFront_4 0 rfl rfl ?_
    refine s_ifnull C 123 dJ36_moveRootToFront_5 (by decide) ?_ ?_
    · refine Sim.keep [] rfl ?_
      exact hj123 _
    · refine s_aload_n C dJ36_moveRootToFront_8 0 rfl rfl ?_
      refine s_alen [206] 6 C (fl1 rfl) (pl_of e4 rfl) dJ36_moveRootToFront_9 fun a2 => ?_
      refine s_dup C dJ36_moveRootToFront_10 rfl ?_
      refine s_istore_n (la' := [(2, .int a2), (0, vr x0), (1, vr x1)]) C 2 dJ36_moveRootToFront_11 rfl (lt_nl e5 rfl) rfl ?_
      refine s_if_le C 123 dJ36_moveRootToFront_12 (by decide) ?_ ?_
      · refine Sim.keep [] rfl ?_
        exact hj123 _
      · refine s_iload_n C dJ36_moveRootToFront_15 0 rfl rfl ?_
        refine s_iconst C (1 : Int32) dJ36_moveRootToFront_16 (by decide) ?_
        refine s_isub C dJ36_moveRootToFront_17 ?_
        refine s_aload_n C dJ36_moveRootToFront_18 2 rfl rfl ?_
        refine s_getI [30, 31, 32] C (flc ⟨fo_J36_15_30, rfl⟩ (flc ⟨fo_J36_15_31, rfl⟩ (fl1 ⟨fo_J36_15_32, rfl⟩))) (pl_of e4 rfl) dJ36_moveRootToFront_19 fun a3 => ?_
        refine s_iand C dJ36_moveRootToFront_22 ?_
        refine s_bdi fun a4 => ?_
        refine s_istore_n (la' := [(3, .int a4), (2, .int a2), (0, vr x0), (1, vr x1)]) C 3 dJ36_moveRootToFront_23 rfl (lt_nl e5 rfl) rfl ?_
        refine s_aload_n C dJ36_moveRootToFront_24 2 rfl rfl ?_
        refine s_iload_n C dJ36_moveRootToFront_25 0 rfl rfl ?_
        refine s_aald [206] 6 C (by decide) (fl1 rfl) (pl_of e4 rfl) dJ36_moveRootToFront_26 fun a5 => ?_
        refine s_cast [32] "java/util/HashMap$TreeNode" C q1881 (fl1 ao_java_util_HashMap_TreeNode_32) dJ36_moveRootToFront_27 ?_
        refine s_astore (la' := [(4, vr a5), (3, .int a4), (2, .int a2), (0, vr x0), (1, vr x1)]) C dJ36_moveRootToFront_30 (lt_nl e5 rfl) rfl ?_
        refine s_aload_n C dJ36_moveRootToFront_32 4 rfl rfl ?_
        refine s_aload C dJ36_moveRootToFront_33 0 rfl ?_
        have hj102 : ∀ (x1 : Nat) (h6 : Hp), Sim id E (QM id E finV) h6 102 [(1, vr x1)] [] (g_HashMapTreeNode_moveRootToFront_j102 x1 h6) := by
          intro x1 h6
          refine s_gets (.int (1 : Int32)) C so_J36_26 st_int dJ36_moveRootToFront_102 ?_
          refine s_if_ne C 123 dJ36_moveRootToFront_105 (by decide) ?_ ?_
          · refine Sim.keep [] rfl ?_
            exact hj123 _
          · refine s_aload_n C dJ36_moveRootToFront_108 0 rfl rfl ?_
            exact sim_none
        refine s_acmp_eq 102 C dJ36_moveRootToFront_35 (by decide) ?_ ?_
        · refine Sim.keep [4] rfl ?_
          exact hj102 _ _
        · refine s_aload_n C dJ36_moveRootToFront_38 3 rfl rfl ?_
          refine s_iload_n C dJ36_moveRootToFront_39 1 rfl rfl ?_
          refine s_aload_n C dJ36_moveRootToFront_40 4 rfl rfl ?_
          refine s_aast [206] [30, 31, 32] 6 "java/util/HashMap$Node" C (by decide) rfl (fl1 ⟨by decide, rfl⟩) (pl_of e4 rfl) (flc ao_java_util_HashMap_Node_30 (flc ao_java_util_HashMap_Node_31 (fl1 ao_java_util_HashMap_Node_32))) dJ36_moveRootToFront_41 fun h7 => ?_
          refine s_aload_n C dJ36_moveRootToFront_42 4 rfl rfl ?_
          refine s_getR [32] C (fl1 ⟨fo_J36_19_32, rfl⟩) (pl_of e4 rfl) dJ36_moveRootToFront_43 fun a8 => ?_
          refine s_astore (la' := [(6, vr a8), (4, vr a5), (3, .int a4), (2, .int a2), (0, vr x0), (1, vr x1)]) C dJ36_moveRootToFront_46 (lt_nl e5 rfl) rfl ?_
          refine s_aload_n C dJ36_moveRootToFront_48 5 rfl rfl ?_
          refine s_getR [30, 31, 32] C (flc ⟨fo_J36_22_30, rfl⟩ (flc ⟨fo_J36_22_31, rfl⟩ (fl1 ⟨fo_J36_22_32, rfl⟩))) (pl_of e4 rfl) dJ36_moveRootToFront_49 fun a9 => ?_
          refine s_dup C dJ36_moveRootToFront_52 rfl ?_
          refine s_astore (la' := [(5, vr a9), (6, vr a8), (4, vr a5), (3, .int a4), (2, .int a2), (0, vr x0), (1, vr x1)]) C dJ36_moveRootToFront_53 (lt_nl e5 rfl) rfl ?_
          have hj68 : ∀ (x1 : Nat) (x4 : Nat) (x5 : Nat) (x6 : Nat) (h10 : Hp), Sim id E (QM id E finV) h10 68 [(1, vr x1), (4, vr x4), (5, vr x5), (6, vr x6)] [] (g_HashMapTreeNode_moveRootToFront_j68 x1 x4 x5 x6 h10) := by
            intro x1 x4 x5 x6 h10
            refine s_aload C dJ36_moveRootToFront_68 3 rfl ?_
            have hj80 : ∀ (x1 : Nat) (x4 : Nat) (h11 : Hp), Sim id E (QM id E finV) h11 80 [(1, vr x1), (4, vr x4)] [] (g_HashMapTreeNode_moveRootToFront_j80 x1 x4 h11) := by
              intro x1 x4 h11
              refine s_aload C dJ36_moveRootToFront_80 1 rfl ?_
              have hj91 : ∀ (x1 : Nat) (x4 : Nat) (h12 : Hp), Sim id E (QM id E finV) h12 91 [(1, vr x1), (4, vr x4)] [] (g_HashMapTreeNode_moveRootToFront_j91 x1 x4 h12) := by
                intro x1 x4 h12
                refine s_aload_n C dJ36_moveRootToFront_91 0 rfl rfl ?_
                refine s_aload C dJ36_moveRootToFront_92 1 rfl ?_
                refine s_putR [30, 31, 32] C (flc ⟨by decide, fo_J36_22_30, rfl⟩ (flc ⟨by decide, fo_J36_22_31, rfl⟩ (fl1 ⟨by decide, fo_J36_22_32, rfl⟩))) (pl_of e4 rfl) (flc (Or.inl rfl) (flc (Or.inl rfl) (fl1 (Or.inl rfl)))) dJ36_moveRootToFront_94 fun h13 => ?_
                refine s_aload_n C dJ36_moveRootToFront_97 0 rfl rfl ?_
                refine s_null C dJ36_moveRootToFront_98 ?_
                refine s_putR [32] C (fl1 ⟨by decide, fo_J36_19_32, rfl⟩) (pl_of e4 rfl) (fl1 (Or.inl rfl)) dJ36_moveRootToFront_99 fun h14 => ?_
                refine Sim.keep [0] rfl ?_
                exact hj102 _ _
              refine s_ifnull C 91 dJ36_moveRootToFront_82 (by decide) ?_ ?_
              · exact hj91 _ _ _
              · refine s_aload C dJ36_moveRootToFront_85 1 rfl ?_
                refine s_aload_n C dJ36_moveRootToFront_87 0 rfl rfl ?_
                refine s_putR [32] C (fl1 ⟨by decide, fo_J36_19_32, rfl⟩) (pl_of e4 rfl) (fl1 (Or.inl rfl)) dJ36_moveRootToFront_88 fun h15 => ?_
                exact hj91 _ _ _
            refine s_ifnull C 80 dJ36_moveRootToFront_70 (by decide) ?_ ?_
            · refine Sim.keep [0, 1] rfl ?_
              exact hj80 _ _ _
            · refine s_aload C dJ36_moveRootToFront_73 3 rfl ?_
              refine s_aload C dJ36_moveRootToFront_75 2 rfl ?_
              refine s_putR [30, 31, 32] C (flc ⟨by decide, fo_J36_22_30, rfl⟩ (flc ⟨by decide, fo_J36_22_31, rfl⟩ (fl1 ⟨by decide, fo_J36_22_32, rfl⟩))) (pl_of e4 rfl) (flc (Or.inl rfl) (flc (Or.inl rfl) (fl1 (Or.inl rfl)))) dJ36_moveRootToFront_77 fun h16 => ?_
              refine Sim.keep [0, 1] rfl ?_
              exact hj80 _ _ _
          refine s_ifnull C 68 dJ36_moveRootToFront_55 (by decide) ?_ ?_
          · refine Sim.keep [6, 2, 0, 1] rfl ?_
            exact hj68 _ _ _ _ _
          · refine s_aload C dJ36_moveRootToFront_58 0 rfl ?_
            refine s_cast [32] "java/util/HashMap$TreeNode" C q1881 (fl1 ao_java_util_HashMap_TreeNode_32) dJ36_moveRootToFront_60 ?_
            refine s_aload C dJ36_moveRootToFront_63 1 rfl ?_
            refine s_putR [32] C (fl1 ⟨by decide, fo_J36_19_32, rfl⟩) (pl_of e4 rfl) (fl1 (Or.inl rfl)) dJ36_moveRootToFront_65 fun h17 => ?_
            refine Sim.keep [6, 2, 0, 1] rfl ?_
            exact hj68 _ _ _ _ _

def g_HashMapTreeNode_treeify_j209 (rec4 : (Nat × Nat) → Hp → Option (Unit × Hp)) (x1 : Nat) (x2 : Nat) (x4 : Nat) (h6 : Hp) : Option (Unit × Hp) :=
  rec4 (x2, x4) h6
def g_HashMapTreeNode_treeify_j197 (rec4 : (Nat × Nat) → Hp → Option (Unit × Hp)) (x1 : Nat) (x2 : Nat) (x3 : Nat) (x4 : Nat) (h15 : Hp) : Option (Unit × Hp) :=
  bn (g_HashMapTreeNode_balanceInsertion x2 x3 h15) fun r16 h17 =>
  g_HashMapTreeNode_treeify_j209 rec4 x1 r16 x4 h17
def g_HashMapTreeNode_treeify_j165 (rec4 : (Nat × Nat) → Hp → Option (Unit × Hp)) (rec64 : (Nat × Nat) → Hp → Option (Unit × Hp)) (x1 : Nat) (x2 : Nat) (x3 : Nat) (x4 : Nat) (x5 : Nat) (x6 : Int32) (x7 : Nat) (x9 : Int32) (x12 : Nat) (y0 : Nat) (h13 : Hp) : Option (Unit × Hp) :=
  if y0 = 0 then
    (putR [32] 6 x3 x12 h13).bind fun h14 =>
    if 0 < x9 then
      (putR [32] 8 x12 x3 h14).bind fun h18 =>
      g_HashMapTreeNode_treeify_j197 rec4 x1 x2 x3 x4 h18
    else
      (putR [32] 7 x12 x3 h14).bind fun h19 =>
      g_HashMapTreeNode_treeify_j197 rec4 x1 x2 x3 x4 h19
  else
    rec64 (x7, y0) h13
def g_HashMapTreeNode_treeify_j143 (rec4 : (Nat × Nat) → Hp → Option (Unit × Hp)) (rec64 : (Nat × Nat) → Hp → Option (Unit × Hp)) (x1 : Nat) (x2 : Nat) (x3 : Nat) (x4 : Nat) (x5 : Nat) (x6 : Int32) (x7 : Nat) (x8 : Nat) (x9 : Int32) (h12 : Hp) : Option (Unit × Hp) :=
  if 0 < x9 then
    (getR [32] 8 x8 h12).bind fun a20 =>
    g_HashMapTreeNode_treeify_j165 rec4 rec64 x1 x2 x3 x4 x5 x6 x7 x9 x8 a20 h12
  else
    (getR [32] 7 x8 h12).bind fun a21 =>
    g_HashMapTreeNode_treeify_j165 rec4 rec64 x1 x2 x3 x4 x5 x6 x7 x9 x8 a21 h12
def g_HashMapTreeNode_treeify_j134 (x5 : Nat) (x11 : Nat) (h22 : Hp) : Option (Unit × Hp) :=
  none
def g_HashMapTreeNode_treeify_j119 (rec4 : (Nat × Nat) → Hp → Option (Unit × Hp)) (rec64 : (Nat × Nat) → Hp → Option (Unit × Hp)) (x1 : Nat) (x2 : Nat) (x3 : Nat) (x4 : Nat) (x5 : Nat) (x6 : Int32) (x7 : Nat) (x8 : Nat) (x11 : Nat) (h23 : Hp) : Option (Unit × Hp) :=
  bn (g_HashMap_compareComparables x7 x5 x11 h23) fun r24 h25 =>
  if r24 = 0 then
    g_HashMapTreeNode_treeify_j134 x5 x11 h25
  else
    g_HashMapTreeNode_treeify_j143 rec4 rec64 x1 x2 x3 x4 x5 x6 x7 x8 r24 h25
def g_HashMapTreeNode_treeify_L64 (rec4 : (Nat × Nat) → Hp → Option (Unit × Hp)) (x1 : Nat) (x2 : Nat) (x3 : Nat) (x4 : Nat) (x5 : Nat) (x6 : Int32) : (Nat × Nat) → Hp → Option (Unit × Hp) :=
  lp FU fun rec64 v64 h9 =>
    (getR [30, 31, 32] 1 v64.2 h9).bind fun a10 =>
    (getI [30, 31, 32] 0 v64.2 h9).bind fun a11 =>
    if a11 ≤ x6 then
      if x6 ≤ a11 then
        if v64.1 = 0 then
          bn (g_HashMap_comparableClassFor x5 h9) fun r26 h27 =>
          if r26 = 0 then
            g_HashMapTreeNode_treeify_j134 x5 a10 h27
          else
            g_HashMapTreeNode_treeify_j119 rec4 rec64 x1 x2 x3 x4 x5 x6 r26 v64.2 a10 h27
        else
          g_HashMapTreeNode_treeify_j119 rec4 rec64 x1 x2 x3 x4 x5 x6 v64.1 v64.2 a10 h9
      else
        g_HashMapTreeNode_treeify_j143 rec4 rec64 x1 x2 x3 x4 x5 x6 v64.1 v64.2 (1 : Int32) h9
    else
      g_HashMapTreeNode_treeify_j143 rec4 rec64 x1 x2 x3 x4 x5 x6 v64.1 v64.2 (-1 : Int32) h9
def g_HashMapTreeNode_treeify_L4 (x1 : Nat) : (Nat × Nat) → Hp → Option (Unit × Hp) :=
  lp FU fun rec4 v4 h1 =>
    if v4.2 = 0 then
      bn (g_HashMapTreeNode_moveRootToFront x1 v4.1 h1) fun _ h2 =>
      some ((), h2)
    else
      (getR [30, 31, 32] 3 v4.2 h1).bind fun a3 =>
      (cst [32] a3 h1).bind fun _ =>
      (putR [32] 8 v4.2 0 h1).bind fun h4 =>
      (putR [32] 7 v4.2 0 h4).bind fun h5 =>
      if v4.1 = 0 then
        (putR [32] 6 v4.2 0 h5).bind fun h28 =>
        (putI [32] 2 10 v4.2 (0 : Int32) h28).bind fun h29 =>
        g_HashMapTreeNode_treeify_j209 rec4 x1 v4.2 a3 h29
      else
        (getR [30, 31, 32] 1 v4.2 h5).bind fun a7 =>
        (getI [30, 31, 32] 0 v4.2 h5).bind fun a8 =>
        g_HashMapTreeNode_treeify_L64 rec4 x1 v4.1 v4.2 a3 a7 a8 (0, v4.1) h5
def g_HashMapTreeNode_treeify (x0 : Nat) (x1 : Nat) (h : Hp) : Option (Unit × Hp) :=
  g_HashMapTreeNode_treeify_L4 x1 (0, x0) h
theorem ct_g_HashMapTreeNode_treeify {G : Gx} {RL : Lv} {l : Launch} (hL : LvA G RL plR) (x0 : Nat) (x1 : Nat) (h : Hp) : Ct id G RL l yJ36_treeify (ws_ yJ36_treeify cJ36_treeify 13 none) 2 49 finV [vr x0, vr x1] h (g_HashMapTreeNode_treeify x0 x1 h) := by
  refine Ct.of (Pl := plR) [(0, vr x0), (1, vr x1)] (by decide) hL rfl (Nat.le_of_ble_eq_true rfl) ?_
  intro E C e6 hf hlo e1 e2 e3 e4 e5
  subst e1; subst e2; subst e3
  replace C : Cx E cJ36_treeify none RJ36 := C
  replace e6 : (eMe E).name = "treeify" := e6
  unfold g_HashMapTreeNode_treeify
  refine s_null C dJ36_treeify_0 ?_
  refine s_astore_n (la' := [(2, vr 0), (0, vr x0), (1, vr x1)]) C 2 dJ36_treeify_1 rfl (lt_nl e5 rfl) rfl ?_
  refine s_aload_n C dJ36_treeify_2 1 rfl rfl ?_
  have hL4 : ∀ (x1 : Nat) (v4 : (Nat × Nat)) (h1 : Hp), Sim id E (QM id E finV) h1 4 [(1, vr x1), (2, vr v4.1), (3, vr v4.2)] [] (g_HashMapTreeNode_treeify_L4 x1 v4 h1) := by
    intro x1 v4 h1
    refine Sim.loop (fun v4 => [(1, vr x1), (2, vr v4.1), (3, vr v4.2)]) (fun _ => []) (fun rec4 hr4 v4 h1 => ?_) FU v4 h1
    refine s_aload_n C dJ36_treeify_4 2 rfl rfl ?_
    refine s_ifnull C 215 dJ36_treeify_5 (by decide) ?_ ?_
    · refine s_aload_n C dJ36_treeify_215 0 rfl rfl ?_
      refine s_aload_n C dJ36_treeify_216 1 rfl rfl ?_
      refine c_S C 2 [] (ct_g_HashMapTreeNode_moveRootToFront hL x1 v4.1 h1) (lw_S q1968 q1969 q155 q1970) nd_J36_moveRootToFront.2 rfl (le_fr hf rfl) (le_fr hlo rfl) rfl (Nat.le_of_ble_eq_true rfl) dJ36_treeify_217 fun _ h2 => ?_
      exact s_vret C rfl dJ36_treeify_220
    · refine s_aload_n C dJ36_treeify_8 2 rfl rfl ?_
      refine s_getR [30, 31, 32] C (flc ⟨fo_J36_22_30, rfl⟩ (flc ⟨fo_J36_22_31, rfl⟩ (fl1 ⟨fo_J36_22_32, rfl⟩))) (pl_of e4 rfl) dJ36_treeify_9 fun a3 => ?_
      refine s_cast [32] "java/util/HashMap$TreeNode" C q1881 (fl1 ao_java_util_HashMap_TreeNode_32) dJ36_treeify_12 ?_
      refine s_astore (la' := [(4, vr a3), (1, vr x1), (2, vr v4.1), (3, vr v4.2)]) C dJ36_treeify_15 (lt_nl e5 rfl) rfl ?_
      refine s_aload_n C dJ36_treeify_17 3 rfl rfl ?_
      refine s_aload_n C dJ36_treeify_18 3 rfl rfl ?_
      refine s_null C dJ36_treeify_19 ?_
      refine s_dup_x1 C dJ36_treeify_20 rfl rfl ?_
      refine s_putR [32] C (fl1 ⟨by decide, fo_J36_42_32, rfl⟩) (pl_of e4 rfl) (fl1 (Or.inl rfl)) dJ36_treeify_21 fun h4 => ?_
      refine s_putR [32] C (fl1 ⟨by decide, fo_J36_39_32, rfl⟩) (pl_of e4 rfl) (fl1 (Or.inl rfl)) dJ36_treeify_24 fun h5 => ?_
      refine s_aload_n C dJ36_treeify_27 2 rfl rfl ?_
      have hj209 : ∀ (x2 : Nat) (x4 : Nat) (h6 : Hp), Sim id E (QM id E finV) h6 209 [(1, vr x1), (2, vr x2), (4, vr x4)] [] (g_HashMapTreeNode_treeify_j209 rec4 x1 x2 x4 h6) := by
        intro x2 x4 h6
        refine s_aload C dJ36_treeify_209 2 rfl ?_
        refine s_astore_n (la' := [(3, vr x4), (1, vr x1), (2, vr x2), (4, vr x4)]) C 3 dJ36_treeify_211 rfl (lt_nl e5 rfl) rfl ?_
        refine s_goto C 4 dJ36_treeify_212 (by decide) ?_
        refine Sim.keep [1, 2, 0] rfl ?_
        exact hr4 _ _
      refine s_ifnonnull C 46 dJ36_treeify_28 (by decide) ?_ ?_
      · refine s_aload_n C dJ36_treeify_46 3 rfl rfl ?_
        refine s_getR [30, 31, 32] C (flc ⟨fo_J36_45_30, rfl⟩ (flc ⟨fo_J36_45_31, rfl⟩ (fl1 ⟨fo_J36_45_32, rfl⟩))) (pl_of e4 rfl) dJ36_treeify_47 fun a7 => ?_
        refine s_astore (la' := [(5, vr a7), (4, vr a3), (1, vr x1), (2, vr v4.1), (3, vr v4.2)]) C dJ36_treeify_50 (lt_nl e5 rfl) rfl ?_
        refine s_aload_n C dJ36_treeify_52 4 rfl rfl ?_
        refine s_getI [30, 31, 32] C (flc ⟨fo_J36_15_30, rfl⟩ (flc ⟨fo_J36_15_31, rfl⟩ (fl1 ⟨fo_J36_15_32, rfl⟩))) (pl_of e4 rfl) dJ36_treeify_53 fun a8 => ?_
        refine s_istore (la' := [(6, .int a8), (5, vr a7), (4, vr a3), (1, vr x1), (2, vr v4.1), (3, vr v4.2)]) C dJ36_treeify_56 (lt_nl e5 rfl) rfl ?_
        refine s_null C dJ36_treeify_58 ?_
        refine s_astore (la' := [(7, vr 0), (6, .int a8), (5, vr a7), (4, vr a3), (1, vr x1), (2, vr v4.1), (3, vr v4.2)]) C dJ36_treeify_59 (lt_nl e5 rfl) rfl ?_
        refine s_aload_n C dJ36_treeify_61 5 rfl rfl ?_
        have hL64 : ∀ (x2 : Nat) (x3 : Nat) (x4 : Nat) (x5 : Nat) (x6 : Int32) (v64 : (Nat × Nat)) (h9 : Hp), Sim id E (QM id E finV) h9 64 [(1, vr x1), (2, vr x2), (3, vr x3), (4, vr x4), (5, vr x5), (6, .int x6), (7, vr v64.1), (8, vr v64.2)] [] (g_HashMapTreeNode_treeify_L64 rec4 x1 x2 x3 x4 x5 x6 v64 h9) := by
          intro x2 x3 x4 x5 x6 v64 h9
          refine Sim.loop (fun v64 => [(1, vr x1), (2, vr x2), (3, vr x3), (4, vr x4), (5, vr x5), (6, .int x6), (7, vr v64.1), (8, vr v64.2)]) (fun _ => []) (fun rec64 hr64 v64 h9 => ?_) FU v64 h9
          refine s_aload C dJ36_treeify_64 7 rfl ?_
          refine s_getR [30, 31, 32] C (flc ⟨fo_J36_45_30, rfl⟩ (flc ⟨fo_J36_45_31, rfl⟩ (fl1 ⟨fo_J36_45_32, rfl⟩))) (pl_of e4 rfl) dJ36_treeify_66 fun a10 => ?_
          refine s_astore (la' := [(11, vr a10), (1, vr x1), (2, vr x2), (3, vr x3), (4, vr x4), (5, vr x5), (6, .int x6), (7, vr v64.1), (8, vr v64.2)]) C dJ36_treeify_69 (lt_nl e5 rfl) rfl ?_
          refine s_aload C dJ36_treeify_71 8 rfl ?_
          refine s_getI [30, 31, 32] C (flc ⟨fo_J36_15_30, rfl⟩ (flc ⟨fo_J36_15_31, rfl⟩ (fl1 ⟨fo_J36_15_32, rfl⟩))) (pl_of e4 rfl) dJ36_treeify_73 fun a11 => ?_
          refine s_dup C dJ36_treeify_76 rfl ?_
          refine s_istore (la' := [(10, .int a11), (11, vr a10), (1, vr x1), (2, vr x2), (3, vr x3), (4, vr x4), (5, vr x5), (6, .int x6), (7, vr v64.1), (8, vr v64.2)]) C dJ36_treeify_77 (lt_nl e5 rfl) rfl ?_
          refine s_iload C dJ36_treeify_79 7 rfl ?_
          have hj143 : ∀ (x7 : Nat) (x8 : Nat) (x9 : Int32) (h12 : Hp), Sim id E (QM id E finV) h12 143 [(1, vr x1), (2, vr x2), (3, vr x3), (4, vr x4), (5, vr x5), (6, .int x6), (7, vr x7), (8, vr x8), (9, .int x9)] [] (g_HashMapTreeNode_treeify_j143 rec4 rec64 x1 x2 x3 x4 x5 x6 x7 x8 x9 h12) := by
            intro x7 x8 x9 h12
            refine s_aload C dJ36_treeify_143 7 rfl ?_
            refine s_astore (la' := [(12, vr x8), (1, vr x1), (2, vr x2), (3, vr x3), (4, vr x4), (5, vr x5), (6, .int x6), (7, vr x7), (8, vr x8), (9, .int x9)]) C dJ36_treeify_145 (lt_nl e5 rfl) rfl ?_
            refine s_iload C dJ36_treeify_147 9 rfl ?_
            have hj165 : ∀ (x7 : Nat) (x9 : Int32) (x12 : Nat) (y0 : Nat) (h13 : Hp), Sim id E (QM id E finV) h13 165 [(1, vr x1), (2, vr x2), (3, vr x3), (4, vr x4), (5, vr x5), (6, .int x6), (7, vr x7), (9, .int x9), (12, vr x12)] [vr y0] (g_HashMapTreeNode_treeify_j165 rec4 rec64 x1 x2 x3 x4 x5 x6 x7 x9 x12 y0 h13) := by
              intro x7 x9 x12 y0 h13
              refine s_dup C dJ36_treeify_165 rfl ?_
              refine s_astore (la' := [(8, vr y0), (1, vr x1), (2, vr x2), (3, vr x3), (4, vr x4), (5, vr x5), (6, .int x6), (7, vr x7), (9, .int x9), (12, vr x12)]) C dJ36_treeify_166 (lt_nl e5 rfl) rfl ?_
              refine s_ifnonnull C 206 dJ36_treeify_168 (by decide) ?_ ?_
              · refine s_goto C 64 dJ36_treeify_206 (by decide) ?_
                refine Sim.keep [1, 2, 3, 4, 5, 6, 7, 0] rfl ?_
                exact hr64 _ _
              · refine s_aload_n C dJ36_treeify_171 3 rfl rfl ?_
                refine s_aload C dJ36_treeify_172 9 rfl ?_
                refine s_putR [32] C (fl1 ⟨by decide, fo_J36_9_32, rfl⟩) (pl_of e4 rfl) (fl1 (Or.inl rfl)) dJ36_treeify_174 fun h14 => ?_
                refine s_iload C dJ36_treeify_177 8 rfl ?_
                have hj197 : ∀ (x2 : Nat) (x3 : Nat) (x4 : Nat) (h15 : Hp), Sim id E (QM id E finV) h15 197 [(1, vr x1), (2, vr x2), (3, vr x3), (4, vr x4)] [] (g_HashMapTreeNode_treeify_j197 rec4 x1 x2 x3 x4 h15) := by
                  intro x2 x3 x4 h15
                  refine s_aload_n C dJ36_treeify_197 1 rfl rfl ?_
                  refine s_aload_n C dJ36_treeify_198 2 rfl rfl ?_
                  refine c_S C 2 [] (ct_g_HashMapTreeNode_balanceInsertion hL x2 x3 h15) (lw_S q1959 q1960 q155 q1961) nd_J36_balanceInsertion.2 rfl (le_fr hf rfl) (le_fr hlo rfl) rfl (Nat.le_of_ble_eq_true rfl) dJ36_treeify_199 fun r16 h17 => ?_
                  refine s_astore_n (la' := [(2, vr r16), (1, vr x1), (3, vr x3), (4, vr x4)]) C 2 dJ36_treeify_202 rfl (lt_nl e5 rfl) rfl ?_
                  refine s_goto C 209 dJ36_treeify_203 (by decide) ?_
                  refine Sim.keep [1, 0, 3] rfl ?_
                  exact hj209 _ _ _
                refine s_if_gt C 191 dJ36_treeify_179 (by decide) ?_ ?_
                · refine s_aload C dJ36_treeify_191 9 rfl ?_
                  refine s_aload_n C dJ36_treeify_193 3 rfl rfl ?_
                  refine s_putR [32] C (fl1 ⟨by decide, fo_J36_42_32, rfl⟩) (pl_of e4 rfl) (fl1 (Or.inl rfl)) dJ36_treeify_194 fun h18 => ?_
                  refine Sim.keep [1, 2, 3, 4] rfl ?_
                  exact hj197 _ _ _ _
                · refine s_aload C dJ36_treeify_182 9 rfl ?_
                  refine s_aload_n C dJ36_treeify_184 3 rfl rfl ?_
                  refine s_putR [32] C (fl1 ⟨by decide, fo_J36_39_32, rfl⟩) (pl_of e4 rfl) (fl1 (Or.inl rfl)) dJ36_treeify_185 fun h19 => ?_
                  refine s_goto C 197 dJ36_treeify_188 (by decide) ?_
                  refine Sim.keep [1, 2, 3, 4] rfl ?_
                  exact hj197 _ _ _ _
            refine s_if_gt C 160 dJ36_treeify_149 (by decide) ?_ ?_
            · refine s_aload C dJ36_treeify_160 8 rfl ?_
              refine s_getR [32] C (fl1 ⟨fo_J36_42_32, rfl⟩) (pl_of e4 rfl) dJ36_treeify_162 fun a20 => ?_
              refine Sim.keep [1, 2, 3, 4, 5, 6, 7, 9, 0] rfl ?_
              exact hj165 _ _ _ _ _
            · refine s_aload C dJ36_treeify_152 8 rfl ?_
              refine s_getR [32] C (fl1 ⟨fo_J36_39_32, rfl⟩) (pl_of e4 rfl) dJ36_treeify_154 fun a21 => ?_
              refine s_goto C 165 dJ36_treeify_157 (by decide) ?_
              refine Sim.keep [1, 2, 3, 4, 5, 6, 7, 9, 0] rfl ?_
              exact hj165 _ _ _ _ _
          refine s_icmp_le C 90 dJ36_treeify_81 (by decide) ?_ ?_
          · refine s_iload C dJ36_treeify_90 0 rfl ?_
            refine s_iload C dJ36_treeify_92 7 rfl ?_
            refine s_icmp_ge C 103 dJ36_treeify_94 (by decide) ?_ ?_
            · refine s_aload C dJ36_treeify_103 8 rfl ?_
              have hj134 : ∀ (x5 : Nat) (x11 : Nat) (h22 : Hp), Sim id E (QM id E finV) h22 134 [(5, vr x5), (11, vr x11)] [] (g_HashMapTreeNode_treeify_j134 x5 x11 h22) := by
                intro x5 x11 h22
                refine s_aload C dJ36_treeify_134 0 rfl ?_
                refine s_aload C dJ36_treeify_136 1 rfl ?_
                exact sim_none
              have hj119 : ∀ (x7 : Nat) (x8 : Nat) (x11 : Nat) (h23 : Hp), Sim id E (QM id E finV) h23 119 [(1, vr x1), (2, vr x2), (3, vr x3), (4, vr x4), (5, vr x5), (6, .int x6), (7, vr x7), (8, vr x8), (11, vr x11)] [] (g_HashMapTreeNode_treeify_j119 rec4 rec64 x1 x2 x3 x4 x5 x6 x7 x8 x11 h23) := by
                intro x7 x8 x11 h23
                refine s_aload C dJ36_treeify_119 6 rfl ?_
                refine s_aload C dJ36_treeify_121 4 rfl ?_
                refine s_aload C dJ36_treeify_123 8 rfl ?_
                refine c_S C 3 [] (ct_g_HashMap_compareComparables hL x7 x5 x11 h23) (lw_S q1087 q1088 q113 q1089) nd_J4_compareComparables.2 rfl (le_fr hf rfl) (le_fr hlo rfl) rfl (Nat.le_of_ble_eq_true rfl) dJ36_treeify_125 fun r24 h25 => ?_
                refine s_dup C dJ36_treeify_128 rfl ?_
                refine s_istore (la' := [(9, .int r24), (1, vr x1), (2, vr x2), (3, vr x3), (4, vr x4), (5, vr x5), (6, .int x6), (7, vr x7), (8, vr x8), (11, vr x11)]) C dJ36_treeify_129 (lt_nl e5 rfl) rfl ?_
                refine s_if_ne C 143 dJ36_treeify_131 (by decide) ?_ ?_
                · refine Sim.keep [1, 2, 3, 4, 5, 6, 7, 8, 0] rfl ?_
                  exact hj143 _ _ _ _
                · refine Sim.keep [5, 9] rfl ?_
                  exact hj134 _ _ _
              refine s_ifnonnull C 119 dJ36_treeify_105 (by decide) ?_ ?_
              · refine Sim.keep [2, 3, 4, 5, 6, 7, 8, 9, 1] rfl ?_
                exact hj119 _ _ _ _
              · refine s_aload C dJ36_treeify_108 6 rfl ?_
                refine c_S C 1 [] (ct_g_HashMap_comparableClassFor hL x5 h9) (lw_S q1081 q1082 q113 q1083) nd_J4_comparableClassFor.2 rfl (le_fr hf rfl) (le_fr hlo rfl) rfl (Nat.le_of_ble_eq_true rfl) dJ36_treeify_110 fun r26 h27 => ?_
                refine s_dup C dJ36_treeify_113 rfl ?_
                refine s_astore (la' := [(7, vr r26), (10, .int a11), (11, vr a10), (1, vr x1), (2, vr x2), (3, vr x3), (4, vr x4), (5, vr x5), (6, .int x6), (8, vr v64.2)]) C dJ36_treeify_114 (lt_nl e5 rfl) rfl ?_
                refine s_ifnull C 134 dJ36_treeify_116 (by decide) ?_ ?_
                · refine Sim.keep [7, 2] rfl ?_
                  exact hj134 _ _ _
                · refine Sim.keep [3, 4, 5, 6, 7, 8, 0, 9, 2] rfl ?_
                  exact hj119 _ _ _ _
            · refine s_iconst C (1 : Int32) dJ36_treeify_97 (by decide) ?_
              refine s_istore (la' := [(9, .int (1 : Int32)), (10, .int a11), (11, vr a10), (1, vr x1), (2, vr x2), (3, vr x3), (4, vr x4), (5, vr x5), (6, .int x6), (7, vr v64.1), (8, vr v64.2)]) C dJ36_treeify_98 (lt_nl e5 rfl) rfl ?_
              refine s_goto C 143 dJ36_treeify_100 (by decide) ?_
              refine Sim.keep [3, 4, 5, 6, 7, 8, 9, 10, 0] rfl ?_
              exact hj143 _ _ _ _
          · refine s_iconst C (-1 : Int32) dJ36_treeify_84 (by decide) ?_
            refine s_istore (la' := [(9, .int (-1 : Int32)), (10, .int a11), (11, vr a10), (1, vr x1), (2, vr x2), (3, vr x3), (4, vr x4), (5, vr x5), (6, .int x6), (7, vr v64.1), (8, vr v64.2)]) C dJ36_treeify_85 (lt_nl e5 rfl) rfl ?_
            refine s_goto C 143 dJ36_treeify_87 (by decide) ?_
            refine Sim.keep [3, 4, 5, 6, 7, 8, 9, 10, 0] rfl ?_
            exact hj143 _ _ _ _
        refine s_astore (la' := [(8, vr v4.1), (7, vr 0), (6, .int a8), (5, vr a7), (4, vr a3), (1, vr x1), (2, vr v4.1), (3, vr v4.2)]) C dJ36_treeify_62 (lt_nl e5 rfl) rfl ?_
        refine Sim.keep [5, 6, 7, 4, 3, 2, 1, 0] rfl ?_
        exact hL64 _ _ _ _ _ _ _
      · refine s_aload_n C dJ36_treeify_31 3 rfl rfl ?_
        refine s_null C dJ36_treeify_32 ?_
        refine s_putR [32] C (fl1 ⟨by decide, fo_J36_9_32, rfl⟩) (pl_of e4 rfl) (fl1 (Or.inl rfl)) dJ36_treeify_33 fun h28 => ?_
        refine s_aload_n C dJ36_treeify_36 3 rfl rfl ?_
        refine s_iconst C (0 : Int32) dJ36_treeify_37 (by decide) ?_
        refine s_putI [32] 2 C (by decide) (by decide) (fl1 ⟨⟨by decide, fo_J36_93_32, rfl⟩, rfl⟩) (pl_of e4 rfl) (fl1 (Or.inl rfl)) dJ36_treeify_38 fun h29 => ?_
        refine s_aload_n C dJ36_treeify_41 3 rfl rfl ?_
        refine s_astore_n (la' := [(2, vr v4.2), (4, vr a3), (1, vr x1), (3, vr v4.2)]) C 2 dJ36_treeify_42 rfl (lt_nl e5 rfl) rfl ?_
        refine s_goto C 209 dJ36_treeify_43 (by decide) ?_
        refine Sim.keep [2, 0, 1] rfl ?_
        exact hj209 _ _ _
  refine s_astore_n (la' := [(3, vr x0), (2, vr 0), (0, vr x0), (1, vr x1)]) C 3 dJ36_treeify_3 rfl (lt_nl e5 rfl) rfl ?_
  refine Sim.keep [3, 1, 0] rfl ?_
  exact hL4 _ _ _

def g_LinkedHashMap_transferLinks_j57  (h6 : Hp) : Option (Unit × Hp) :=
  some ((), h6)
def g_LinkedHashMap_transferLinks_j38 (x0 : Nat) (x2 : Nat) (x4 : Nat) (h5 : Hp) : Option (Unit × Hp) :=
  if x4 = 0 then
    (putR [22] 9 x0 x2 h5).bind fun h8 =>
    g_LinkedHashMap_transferLinks_j57 h8
  else
    (putR [31, 32] 4 x4 x2 h5).bind fun h7 =>
    g_LinkedHashMap_transferLinks_j57 h7
def g_LinkedHashMap_transferLinks (x0 : Nat) (x1 : Nat) (x2 : Nat) (h : Hp) : Option (Unit × Hp) :=
  (getR [31, 32] 4 x1 h).bind fun a1 =>
  (putR [31, 32] 4 x2 a1 h).bind fun h2 =>
  (getR [31, 32] 5 x1 h2).bind fun a3 =>
  (putR [31, 32] 5 x2 a3 h2).bind fun h4 =>
  if a1 = 0 then
    (putR [22] 8 x0 x2 h4).bind fun h10 =>
    g_LinkedHashMap_transferLinks_j38 x0 x2 a3 h10
  else
    (putR [31, 32] 5 a1 x2 h4).bind fun h9 =>
    g_LinkedHashMap_transferLinks_j38 x0 x2 a3 h9
theorem ct_g_LinkedHashMap_transferLinks {G : Gx} {RL : Lv} {l : Launch} (hL : LvA G RL plR) (x0 : Nat) (x1 : Nat) (x2 : Nat) (h : Hp) : Ct id G RL l yJ10_transferLinks (ws_ yJ10_transferLinks cJ10_transferLinks 5 none) 0 0 finV [vr x0, vr x1, vr x2] h (g_LinkedHashMap_transferLinks x0 x1 x2 h) := by
  refine Ct.of (Pl := plR) [(0, vr x0), (1, vr x1), (2, vr x2)] (by decide) hL rfl (Nat.le_of_ble_eq_true rfl) ?_
  intro E C e6 hf hlo e1 e2 e3 e4 e5
  subst e1; subst e2; subst e3
  replace C : Cx E cJ10_transferLinks none RJ10 := C
  replace e6 : (eMe E).name = "transferLinks" := e6
  unfold g_LinkedHashMap_transferLinks
  refine s_aload_n C dJ10_transferLinks_0 2 rfl rfl ?_
  refine s_aload_n C dJ10_transferLinks_1 1 rfl rfl ?_
  refine s_getR [31, 32] C (flc ⟨fo_J10_19_31, rfl⟩ (fl1 ⟨fo_J10_19_32, rfl⟩)) (pl_of e4 rfl) dJ10_transferLinks_2 fun a1 => ?_
  refine s_dup_x1 C dJ10_transferLinks_5 rfl rfl ?_
  refine s_putR [31, 32] C (flc ⟨by decide, fo_J10_19_31, rfl⟩ (fl1 ⟨by decide, fo_J10_19_32, rfl⟩)) (pl_of e4 rfl) (flc (Or.inl rfl) (fl1 (Or.inl rfl))) dJ10_transferLinks_6 fun h2 => ?_
  refine s_astore_n (la' := [(3, vr a1), (0, vr x0), (1, vr x1), (2, vr x2)]) C 3 dJ10_transferLinks_9 rfl (lt_nl e5 rfl) rfl ?_
  refine s_aload_n C dJ10_transferLinks_10 3 rfl rfl ?_
  refine s_aload_n C dJ10_transferLinks_11 2 rfl rfl ?_
  refine s_getR [31, 32] C (flc ⟨fo_J10_14_31, rfl⟩ (fl1 ⟨fo_J10_14_32, rfl⟩)) (pl_of e4 rfl) dJ10_transferLinks_12 fun a3 => ?_
  refine s_dup_x1 C dJ10_transferLinks_15 rfl rfl ?_
  refine s_putR [31, 32] C (flc ⟨by decide, fo_J10_14_31, rfl⟩ (fl1 ⟨by decide, fo_J10_14_32, rfl⟩)) (pl_of e4 rfl) (flc (Or.inl rfl) (fl1 (Or.inl rfl))) dJ10_transferLinks_16 fun h4 => ?_
  refine s_astore (la' := [(4, vr a3), (3, vr a1), (0, vr x0), (1, vr x1), (2, vr x2)]) C dJ10_transferLinks_19 (lt_nl e5 rfl) rfl ?_
  refine s_aload_n C dJ10_transferLinks_21 1 rfl rfl ?_
  have hj38 : ∀ (x0 : Nat) (x2 : Nat) (x4 : Nat) (h5 : Hp), Sim id E (QM id E finV) h5 38 [(0, vr x0), (2, vr x2), (4, vr x4)] [] (g_LinkedHashMap_transferLinks_j38 x0 x2 x4 h5) := by
    intro x0 x2 x4 h5
    refine s_aload C dJ10_transferLinks_38 2 rfl ?_
    have hj57 : ∀  (h6 : Hp), Sim id E (QM id E finV) h6 57 [] [] (g_LinkedHashMap_transferLinks_j57 h6) := by
      intro h6
      exact s_vret C rfl dJ10_transferLinks_57
    refine s_ifnonnull C 51 dJ10_transferLinks_40 (by decide) ?_ ?_
    · refine s_aload C dJ10_transferLinks_51 2 rfl ?_
      refine s_aload_n C dJ10_transferLinks_53 1 rfl rfl ?_
      refine s_putR [31, 32] C (flc ⟨by decide, fo_J10_19_31, rfl⟩ (fl1 ⟨by decide, fo_J10_19_32, rfl⟩)) (pl_of e4 rfl) (flc (Or.inl rfl) (fl1 (Or.inl rfl))) dJ10_transferLinks_54 fun h7 => ?_
      refine Sim.keep [] rfl ?_
      exact hj57 _
    · refine s_aload_n C dJ10_transferLinks_43 0 rfl rfl ?_
      refine s_aload_n C dJ10_transferLinks_44 1 rfl rfl ?_
      refine s_putR [22] C (fl1 ⟨by decide, fo_J10_11_22, rfl⟩) (pl_of e4 rfl) (fl1 (Or.inl rfl)) dJ10_transferLinks_45 fun h8 => ?_
      refine s_goto C 57 dJ10_transferLinks_48 (by decide) ?_
      refine Sim.keep [] rfl ?_
      exact hj57 _
  refine s_ifnonnull C 33 dJ10_transferLinks_22 (by decide) ?_ ?_
  · refine s_aload_n C dJ10_transferLinks_33 1 rfl rfl ?_
    refine s_aload_n C dJ10_transferLinks_34 4 rfl rfl ?_
    refine s_putR [31, 32] C (flc ⟨by decide, fo_J10_14_31, rfl⟩ (fl1 ⟨by decide, fo_J10_14_32, rfl⟩)) (pl_of e4 rfl) (flc (Or.inl rfl) (fl1 (Or.inl rfl))) dJ10_transferLinks_35 fun h9 => ?_
    refine Sim.keep [2, 4, 0] rfl ?_
    exact hj38 _ _ _ _
  · refine s_aload_n C dJ10_transferLinks_25 2 rfl rfl ?_
    refine s_aload_n C dJ10_transferLinks_26 4 rfl rfl ?_
    refine s_putR [22] C (fl1 ⟨by decide, fo_J10_7_22, rfl⟩) (pl_of e4 rfl) (fl1 (Or.inl rfl)) dJ10_transferLinks_27 fun h10 => ?_
    refine s_goto C 38 dJ10_transferLinks_30 (by decide) ?_
    refine Sim.keep [2, 4, 0] rfl ?_
    exact hj38 _ _ _ _

def g_LinkedHashMap_replacementTreeNode (x0 : Nat) (x1 : Nat) (x2 : Nat) (h : Hp) : Option (Nat × Hp) :=
  (cst [31, 32] x1 h).bind fun _ =>
  bn (newO 32 11 h) fun o1 h2 =>
  (getI [30, 31, 32] 0 x1 h2).bind fun a3 =>
  (getR [30, 31, 32] 1 x1 h2).bind fun a4 =>
  (getR [30, 31, 32] 2 x1 h2).bind fun a5 =>
  bn (g_HashMapTreeNode_init o1 a3 a4 a5 x2 h2) fun _ h6 =>
  bn (dsp (tg h6 x0 % 500) none [(22, g_LinkedHashMap_transferLinks x0 x1 o1 h6)]) fun _ h7 =>
  some (o1, h7)
theorem ct_g_LinkedHashMap_replacementTreeNode {G : Gx} {RL : Lv} {l : Launch} (hL : LvA G RL plR) (x0 : Nat) (x1 : Nat) (x2 : Nat) (h : Hp) : Ct id G RL l yJ10_replacementTreeNode (ws_ yJ10_replacementTreeNode cJ10_replacementTreeNode 5 (some (.object "java/util/HashMap$TreeNode"))) 4 92 finR [vr x0, vr x1, vr x2] h (g_LinkedHashMap_replacementTreeNode x0 x1 x2 h) := by
  refine Ct.of (Pl := plR) [(0, vr x0), (1, vr x1), (2, vr x2)] (by decide) hL rfl (Nat.le_of_ble_eq_true rfl) ?_
  intro E C e6 hf hlo e1 e2 e3 e4 e5
  subst e1; subst e2; subst e3
  replace C : Cx E cJ10_replacementTreeNode (some (.object "java/util/HashMap$TreeNode")) RJ10 := C
  replace e6 : (eMe E).name = "replacementTreeNode" := e6
  unfold g_LinkedHashMap_replacementTreeNode
  refine s_aload_n C dJ10_replacementTreeNode_0 1 rfl rfl ?_
  refine s_cast [31, 32] "java/util/LinkedHashMap$Entry" C q1302 (flc ao_java_util_LinkedHashMap_Entry_31 (fl1 ao_java_util_LinkedHashMap_Entry_32)) dJ10_replacementTreeNode_1 ?_
  refine s_astore_n (la' := [(3, vr x1), (0, vr x0), (1, vr x1), (2, vr x2)]) C 3 dJ10_replacementTreeNode_4 rfl (lt_nl e5 rfl) rfl ?_
  refine s_newO 32 11 C no_J10_50 (pl_of1 e4 rfl) dJ10_replacementTreeNode_5 fun o1 h2 zo1 => ?_
  refine s_dup C dJ10_replacementTreeNode_8 rfl ?_
  refine s_aload_n C dJ10_replacementTreeNode_9 0 rfl rfl ?_
  refine s_getI [30, 31, 32] C (flc ⟨fo_J10_36_30, rfl⟩ (flc ⟨fo_J10_36_31, rfl⟩ (fl1 ⟨fo_J10_36_32, rfl⟩))) (pl_of e4 rfl) dJ10_replacementTreeNode_10 fun a3 => ?_
  refine s_aload_n C dJ10_replacementTreeNode_13 0 rfl rfl ?_
  refine s_getR [30, 31, 32] C (flc ⟨fo_J10_39_30, rfl⟩ (flc ⟨fo_J10_39_31, rfl⟩ (fl1 ⟨fo_J10_39_32, rfl⟩))) (pl_of e4 rfl) dJ10_replacementTreeNode_14 fun a4 => ?_
  refine s_aload_n C dJ10_replacementTreeNode_17 0 rfl rfl ?_
  refine s_getR [30, 31, 32] C (flc ⟨fo_J10_43_30, rfl⟩ (flc ⟨fo_J10_43_31, rfl⟩ (fl1 ⟨fo_J10_43_32, rfl⟩))) (pl_of e4 rfl) dJ10_replacementTreeNode_18 fun a5 => ?_
  refine s_aload_n C dJ10_replacementTreeNode_21 3 rfl rfl ?_
  refine c_I C 4 [vr o1] zo1 (ct_g_HashMapTreeNode_init hL o1 a3 a4 a5 x2 h2) (lw_meth q2000) q155 q1998 q1999 rfl nd_J36_init.2 rfl (le_fr hf rfl) (le_fr hlo rfl) rfl (Nat.le_of_ble_eq_true rfl) dJ10_replacementTreeNode_22 fun _ h6 => ?_
  refine s_astore (la' := [(4, vr o1), (3, vr x1), (0, vr x0), (1, vr x1), (2, vr x2)]) C dJ10_replacementTreeNode_25 (lt_nl e5 rfl) rfl ?_
  refine s_aload_n C dJ10_replacementTreeNode_27 2 rfl rfl ?_
  refine s_aload_n C dJ10_replacementTreeNode_28 1 rfl rfl ?_
  refine s_aload C dJ10_replacementTreeNode_29 0 rfl ?_
  refine s_dk 34 finV [] (fun _ h7 => ?_) (fun hk => s_dsp 22 (fun ht => c_V C 2 [] 22 RJ10 ro_22 (ct_g_LinkedHashMap_transferLinks hL x0 x1 o1 h6) (lw_V q1943 q1945 qs17 q120 q1946) nd_J10_transferLinks rfl (le_fr hf rfl) (le_fr hlo rfl) rfl (Nat.le_of_ble_eq_true rfl) dJ10_replacementTreeNode_31 hk ht) s_dsp0)
  refine s_aload C dJ10_replacementTreeNode_34 0 rfl ?_
  exact s_aret C (Or.inl ⟨_, rfl⟩) rfl dJ10_replacementTreeNode_36

def g_HashMap_treeifyBin_j109  (h1 : Hp) : Option (Unit × Hp) :=
  some ((), h1)
def g_HashMap_treeifyBin_j13 (x0 : Nat) (h2 : Hp) : Option (Unit × Hp) :=
  bn (dsp (tg h2 x0 % 500) none [(22, g_HashMap_resize x0 h2), (33, g_HashMap_resize x0 h2)]) fun r3 h4 =>
  g_HashMap_treeifyBin_j109 h4
def g_HashMap_treeifyBin_j78 (rec43 : (Nat × Nat × Nat) → Hp → Option (Unit × Hp)) (x0 : Nat) (x1 : Nat) (x4 : Int32) (x5 : Nat) (x6 : Nat) (x8 : Nat) (h11 : Hp) : Option (Unit × Hp) :=
  (getR [30, 31, 32] 3 x5 h11).bind fun a12 =>
  if a12 = 0 then
    (astR [206] [30, 31, 32] x1 x4 x6 h11).bind fun h13 =>
    if x6 = 0 then
      g_HashMap_treeifyBin_j109 h13
    else
      bn (dsp (tg h13 x6 % 500) none [(32, g_HashMapTreeNode_treeify x6 x1 h13)]) fun _ h14 =>
      g_HashMap_treeifyBin_j109 h14
  else
    rec43 (a12, x6, x8) h11
def g_HashMap_treeifyBin_L43 (x0 : Nat) (x1 : Nat) (x4 : Int32) : (Nat × Nat × Nat) → Hp → Option (Unit × Hp) :=
  lp FU fun rec43 v43 h8 =>
    bn (dsp (tg h8 x0 % 500) none [(22, g_LinkedHashMap_replacementTreeNode x0 v43.1 0 h8), (33, g_HashMap_replacementTreeNode x0 v43.1 0 h8)]) fun r9 h10 =>
    if v43.2.2 = 0 then
      g_HashMap_treeifyBin_j78 rec43 x0 x1 x4 v43.1 r9 r9 h10
    else
      (putR [32] 9 r9 v43.2.2 h10).bind fun h15 =>
      (putR [30, 31, 32] 3 v43.2.2 r9 h15).bind fun h16 =>
      g_HashMap_treeifyBin_j78 rec43 x0 x1 x4 v43.1 v43.2.1 r9 h16
def g_HashMap_treeifyBin (x0 : Nat) (x1 : Nat) (x2 : Int32) (h : Hp) : Option (Unit × Hp) :=
  if x1 = 0 then
    g_HashMap_treeifyBin_j13 x0 h
  else
    (alen [206] x1 h).bind fun a5 =>
    if (64 : Int32) ≤ a5 then
      bd (((a5 - (1 : Int32)) &&& x2)) fun a6 =>
      (aldR [206] x1 ((a5 - (1 : Int32)) &&& x2) h).bind fun a7 =>
      if a7 = 0 then
        g_HashMap_treeifyBin_j109 h
      else
        g_HashMap_treeifyBin_L43 x0 x1 a6 (a7, 0, 0) h
    else
      g_HashMap_treeifyBin_j13 x0 h
theorem ct_g_HashMap_treeifyBin {G : Gx} {RL : Lv} {l : Launch} (hL : LvA G RL plR) (x0 : Nat) (x1 : Nat) (x2 : Int32) (h : Hp) : Ct id G RL l yJ4_treeifyBin (ws_ yJ4_treeifyBin cJ4_treeifyBin 9 none) 5 116 finV [vr x0, vr x1, .int x2] h (g_HashMap_treeifyBin x0 x1 x2 h) := by
  refine Ct.of (Pl := plR) [(0, vr x0), (1, vr x1), (2, .int x2)] (by decide) hL rfl (Nat.le_of_ble_eq_true rfl) ?_
  intro E C e6 hf hlo e1 e2 e3 e4 e5
  subst e1; subst e2; subst e3
  replace C : Cx E cJ4_treeifyBin none RJ4 := C
  replace e6 : (eMe E).name = "treeifyBin" := e6
  unfold g_HashMap_treeifyBin
  refine s_aload_n C dJ4_treeifyBin_0 1 rfl rfl ?_
  have hj109 : ∀  (h1 : Hp), Sim id E (QM id E finV) h1 109 [] [] (g_HashMap_treeifyBin_j109 h1) := by
    intro h1
    exact s_vret C rfl dJ4_treeifyBin_109
  have hj13 : ∀ (x0 : Nat) (h2 : Hp), Sim id E (QM id E finV) h2 13 [(0, vr x0)] [] (g_HashMap_treeifyBin_j13 x0 h2) := by
    intro x0 h2
    refine s_aload_n C dJ4_treeifyBin_13 0 rfl rfl ?_
    refine s_dk 17 finR [] (fun r3 h4 => ?_) (fun hk => s_dsp 22 (fun ht => c_U C 0 [] 22 RJ10 _ ro_22 (ct_g_HashMap_resize hL x0 h2) (lw_U q1867 q1870 q1871 q1868 q113 q1872) rfl nd_J4_resize.2 rfl (le_fr hf rfl) (le_fr hlo rfl) rfl (Nat.le_of_ble_eq_true rfl) dJ4_treeifyBin_14 hk ht) (s_dsp 33 (fun ht => c_V C 0 [] 33 RJ4 ro_33 (ct_g_HashMap_resize hL x0 h2) (lw_V q1867 q1868 q1869 q113 q1872) nd_J4_resize rfl (le_fr hf rfl) (le_fr hlo rfl) rfl (Nat.le_of_ble_eq_true rfl) dJ4_treeifyBin_14 hk ht) s_dsp0))
    refine s_pop C dJ4_treeifyBin_17 rfl ?_
    refine s_goto C 109 dJ4_treeifyBin_18 (by decide) ?_
    refine Sim.keep [] rfl ?_
    exact hj109 _
  refine s_ifnull C 13 dJ4_treeifyBin_1 (by decide) ?_ ?_
  · refine Sim.keep [0] rfl ?_
    exact hj13 _ _
  · refine s_aload_n C dJ4_treeifyBin_4 1 rfl rfl ?_
    refine s_alen [206] 6 C (fl1 rfl) (pl_of e4 rfl) dJ4_treeifyBin_5 fun a5 => ?_
    refine s_dup C dJ4_treeifyBin_6 rfl ?_
    refine s_istore_n (la' := [(3, .int a5), (0, vr x0), (1, vr x1), (2, .int x2)]) C 3 dJ4_treeifyBin_7 rfl (lt_nl e5 rfl) rfl ?_
    refine s_bipush C (64 : Int32) dJ4_treeifyBin_8 (by decide) ?_
    refine s_icmp_ge C 21 dJ4_treeifyBin_10 (by decide) ?_ ?_
    · refine s_aload_n C dJ4_treeifyBin_21 2 rfl rfl ?_
      refine s_iload_n C dJ4_treeifyBin_22 0 rfl rfl ?_
      refine s_iconst C (1 : Int32) dJ4_treeifyBin_23 (by decide) ?_
      refine s_isub C dJ4_treeifyBin_24 ?_
      refine s_iload_n C dJ4_treeifyBin_25 3 rfl rfl ?_
      refine s_iand C dJ4_treeifyBin_26 ?_
      refine s_dup C dJ4_treeifyBin_27 rfl ?_
      refine s_bdi fun a6 => ?_
      refine s_istore (la' := [(4, .int a6), (3, .int a5), (0, vr x0), (1, vr x1), (2, .int x2)]) C dJ4_treeifyBin_28 (lt_nl e5 rfl) rfl ?_
      refine s_aald [206] 6 C (by decide) (fl1 rfl) (pl_of e4 rfl) dJ4_treeifyBin_30 fun a7 => ?_
      refine s_dup C dJ4_treeifyBin_31 rfl ?_
      refine s_astore (la' := [(5, vr a7), (4, .int a6), (3, .int a5), (0, vr x0), (1, vr x1), (2, .int x2)]) C dJ4_treeifyBin_32 (lt_nl e5 rfl) rfl ?_
      refine s_ifnull C 109 dJ4_treeifyBin_34 (by decide) ?_ ?_
      · refine Sim.keep [] rfl ?_
        exact hj109 _
      · refine s_null C dJ4_treeifyBin_37 ?_
        refine s_astore (la' := [(6, vr 0), (5, vr a7), (4, .int a6), (3, .int a5), (0, vr x0), (1, vr x1), (2, .int x2)]) C dJ4_treeifyBin_38 (lt_nl e5 rfl) rfl ?_
        refine s_null C dJ4_treeifyBin_40 ?_
        have hL43 : ∀ (x0 : Nat) (x1 : Nat) (x4 : Int32) (v43 : (Nat × Nat × Nat)) (h8 : Hp), Sim id E (QM id E finV) h8 43 [(0, vr x0), (1, vr x1), (4, .int x4), (5, vr v43.1), (6, vr v43.2.1), (7, vr v43.2.2)] [] (g_HashMap_treeifyBin_L43 x0 x1 x4 v43 h8) := by
          intro x0 x1 x4 v43 h8
          refine Sim.loop (fun v43 => [(0, vr x0), (1, vr x1), (4, .int x4), (5, vr v43.1), (6, vr v43.2.1), (7, vr v43.2.2)]) (fun _ => []) (fun rec43 hr43 v43 h8 => ?_) FU v43 h8
          refine s_aload_n C dJ4_treeifyBin_43 0 rfl rfl ?_
          refine s_aload C dJ4_treeifyBin_44 3 rfl ?_
          refine s_null C dJ4_treeifyBin_46 ?_
          refine s_dk 50 finR [] (fun r9 h10 => ?_) (fun hk => s_dsp 22 (fun ht => c_O C 2 [] 22 RJ10 _ ro_22 (ct_g_LinkedHashMap_replacementTreeNode hL x0 v43.1 0 h8) (lw_O q2033 q2036 q2034 q2037 q2038 q120 q2039) q2040 ⟨by decide +kernel, by decide +kernel, by decide +kernel⟩ rfl (le_fr hf rfl) (le_fr hlo rfl) rfl (Nat.le_of_ble_eq_true rfl) dJ4_treeifyBin_47 hk ht) (s_dsp 33 (fun ht => c_V C 2 [] 33 RJ4 ro_33 (ct_g_HashMap_replacementTreeNode hL x0 v43.1 0 h8) (lw_V q2033 q2034 q2035 q113 q2040) nd_J4_replacementTreeNode rfl (le_fr hf rfl) (le_fr hlo rfl) rfl (Nat.le_of_ble_eq_true rfl) dJ4_treeifyBin_47 hk ht) s_dsp0))
          refine s_astore (la' := [(8, vr r9), (0, vr x0), (1, vr x1), (4, .int x4), (5, vr v43.1), (6, vr v43.2.1), (7, vr v43.2.2)]) C dJ4_treeifyBin_50 (lt_nl e5 rfl) rfl ?_
          refine s_aload C dJ4_treeifyBin_52 6 rfl ?_
          have hj78 : ∀ (x5 : Nat) (x6 : Nat) (x8 : Nat) (h11 : Hp), Sim id E (QM id E finV) h11 78 [(0, vr x0), (1, vr x1), (4, .int x4), (5, vr x5), (6, vr x6), (8, vr x8)] [] (g_HashMap_treeifyBin_j78 rec43 x0 x1 x4 x5 x6 x8 h11) := by
            intro x5 x6 x8 h11
            refine s_aload C dJ4_treeifyBin_78 5 rfl ?_
            refine s_astore (la' := [(7, vr x8), (0, vr x0), (1, vr x1), (4, .int x4), (5, vr x5), (6, vr x6), (8, vr x8)]) C dJ4_treeifyBin_80 (lt_nl e5 rfl) rfl ?_
            refine s_aload C dJ4_treeifyBin_82 4 rfl ?_
            refine s_getR [30, 31, 32] C (flc ⟨fo_J4_177_30, rfl⟩ (flc ⟨fo_J4_177_31, rfl⟩ (fl1 ⟨fo_J4_177_32, rfl⟩))) (pl_of e4 rfl) dJ4_treeifyBin_84 fun a12 => ?_
            refine s_dup C dJ4_treeifyBin_87 rfl ?_
            refine s_astore (la' := [(5, vr a12), (7, vr x8), (0, vr x0), (1, vr x1), (4, .int x4), (6, vr x6), (8, vr x8)]) C dJ4_treeifyBin_88 (lt_nl e5 rfl) rfl ?_
            refine s_ifnonnull C 43 dJ4_treeifyBin_90 (by decide) ?_ ?_
            · refine Sim.keep [2, 3, 4, 0, 5, 1] rfl ?_
              exact hr43 _ _
            · refine s_aload_n C dJ4_treeifyBin_93 3 rfl rfl ?_
              refine s_iload C dJ4_treeifyBin_94 4 rfl ?_
              refine s_aload C dJ4_treeifyBin_96 5 rfl ?_
              refine s_dup_x2 C dJ4_treeifyBin_98 rfl rfl rfl ?_
              refine s_aast [206] [30, 31, 32] 6 "java/util/HashMap$Node" C (by decide) rfl (fl1 ⟨by decide, rfl⟩) (pl_of e4 rfl) (flc ao_java_util_HashMap_Node_30 (flc ao_java_util_HashMap_Node_31 (fl1 ao_java_util_HashMap_Node_32))) dJ4_treeifyBin_99 fun h13 => ?_
              refine s_ifnull C 109 dJ4_treeifyBin_100 (by decide) ?_ ?_
              · refine Sim.keep [] rfl ?_
                exact hj109 _
              · refine s_aload C dJ4_treeifyBin_103 5 rfl ?_
                refine s_aload_n C dJ4_treeifyBin_105 3 rfl rfl ?_
                refine s_dk 109 finV [] (fun _ h14 => ?_) (fun hk => s_dsp 32 (fun ht => c_V C 1 [] 32 RJ36 ro_32 (ct_g_HashMapTreeNode_treeify hL x6 x1 h13) (lw_V q2041 q1956 q1957 q155 q1958) nd_J36_treeify rfl (le_fr hf rfl) (le_fr hlo rfl) rfl (Nat.le_of_ble_eq_true rfl) dJ4_treeifyBin_106 hk ht) s_dsp0)
                refine Sim.keep [] rfl ?_
                exact hj109 _
          refine s_ifnonnull C 64 dJ4_treeifyBin_54 (by decide) ?_ ?_
          · refine s_aload C dJ4_treeifyBin_64 0 rfl ?_
            refine s_aload C dJ4_treeifyBin_66 6 rfl ?_
            refine s_putR [32] C (fl1 ⟨by decide, fo_J4_219_32, rfl⟩) (pl_of e4 rfl) (fl1 (Or.inl rfl)) dJ4_treeifyBin_68 fun h15 => ?_
            refine s_aload C dJ4_treeifyBin_71 6 rfl ?_
            refine s_aload C dJ4_treeifyBin_73 0 rfl ?_
            refine s_putR [30, 31, 32] C (flc ⟨by decide, fo_J4_223_30, rfl⟩ (flc ⟨by decide, fo_J4_223_31, rfl⟩ (fl1 ⟨by decide, fo_J4_223_32, rfl⟩))) (pl_of e4 rfl) (flc (Or.inl rfl) (flc (Or.inl rfl) (fl1 (Or.inl rfl)))) dJ4_treeifyBin_75 fun h16 => ?_
            refine Sim.keep [1, 2, 3, 4, 5, 0] rfl ?_
            exact hj78 _ _ _ _
          · refine s_aload C dJ4_treeifyBin_57 0 rfl ?_
            refine s_astore (la' := [(6, vr r9), (8, vr r9), (0, vr x0), (1, vr x1), (4, .int x4), (5, vr v43.1), (7, vr v43.2.2)]) C dJ4_treeifyBin_59 (lt_nl e5 rfl) rfl ?_
            refine s_goto C 78 dJ4_treeifyBin_61 (by decide) ?_
            refine Sim.keep [2, 3, 4, 5, 0, 1] rfl ?_
            exact hj78 _ _ _ _
        refine s_astore (la' := [(7, vr 0), (6, vr 0), (5, vr a7), (4, .int a6), (3, .int a5), (0, vr x0), (1, vr x1), (2, .int x2)]) C dJ4_treeifyBin_41 (lt_nl e5 rfl) rfl ?_
        refine Sim.keep [5, 6, 3, 2, 1, 0] rfl ?_
        exact hL43 _ _ _ _ _
    · refine Sim.keep [1] rfl ?_
      exact hj13 _ _

def g_LinkedHashMap_linkNodeAtEnd_j75  (h2 : Hp) : Option (Unit × Hp) :=
  some ((), h2)
def g_LinkedHashMap_linkNodeAtEnd_j40  (h10 : Hp) : Option (Unit × Hp) :=
  g_LinkedHashMap_linkNodeAtEnd_j75 h10
def g_LinkedHashMap_linkNodeAtEnd (x0 : Nat) (x1 : Nat) (h : Hp) : Option (Unit × Hp) :=
  (getI [22] 11 x0 h).bind fun a1 =>
  if a1 = (1 : Int32) then
    (getR [22] 8 x0 h).bind fun a8 =>
    (putR [22] 8 x0 x1 h).bind fun h9 =>
    if a8 = 0 then
      (putR [22] 9 x0 x1 h9).bind fun h13 =>
      g_LinkedHashMap_linkNodeAtEnd_j40 h13
    else
      (putR [31, 32] 5 x1 a8 h9).bind fun h11 =>
      (putR [31, 32] 4 a8 x1 h11).bind fun h12 =>
      g_LinkedHashMap_linkNodeAtEnd_j40 h12
  else
    (getR [22] 9 x0 h).bind fun a3 =>
    (putR [22] 9 x0 x1 h).bind fun h4 =>
    if a3 = 0 then
      (putR [22] 8 x0 x1 h4).bind fun h7 =>
      g_LinkedHashMap_linkNodeAtEnd_j75 h7
    else
      (putR [31, 32] 4 x1 a3 h4).bind fun h5 =>
      (putR [31, 32] 5 a3 x1 h5).bind fun h6 =>
      g_LinkedHashMap_linkNodeAtEnd_j75 h6
theorem ct_g_LinkedHashMap_linkNodeAtEnd {G : Gx} {RL : Lv} {l : Launch} (hL : LvA G RL plR) (x0 : Nat) (x1 : Nat) (h : Hp) : Ct id G RL l yJ10_linkNodeAtEnd (ws_ yJ10_linkNodeAtEnd cJ10_linkNodeAtEnd 3 none) 0 0 finV [vr x0, vr x1] h (g_LinkedHashMap_linkNodeAtEnd x0 x1 h) := by
  refine Ct.of (Pl := plR) [(0, vr x0), (1, vr x1)] (by decide) hL rfl (Nat.le_of_ble_eq_true rfl) ?_
  intro E C e6 hf hlo e1 e2 e3 e4 e5
  subst e1; subst e2; subst e3
  replace C : Cx E cJ10_linkNodeAtEnd none RJ10 := C
  replace e6 : (eMe E).name = "linkNodeAtEnd" := e6
  unfold g_LinkedHashMap_linkNodeAtEnd
  refine s_aload_n C dJ10_linkNodeAtEnd_0 0 rfl rfl ?_
  refine s_getI [22] C (fl1 ⟨fo_J10_1_22, rfl⟩) (pl_of e4 rfl) dJ10_linkNodeAtEnd_1 fun a1 => ?_
  refine s_iconst C (1 : Int32) dJ10_linkNodeAtEnd_4 (by decide) ?_
  have hj75 : ∀  (h2 : Hp), Sim id E (QM id E finV) h2 75 [] [] (g_LinkedHashMap_linkNodeAtEnd_j75 h2) := by
    intro h2
    exact s_vret C rfl dJ10_linkNodeAtEnd_75
  refine s_icmp_ne C 43 dJ10_linkNodeAtEnd_5 (by decide) ?_ ?_
  · refine s_aload_n C dJ10_linkNodeAtEnd_43 0 rfl rfl ?_
    refine s_getR [22] C (fl1 ⟨fo_J10_11_22, rfl⟩) (pl_of e4 rfl) dJ10_linkNodeAtEnd_44 fun a3 => ?_
    refine s_astore_n (la' := [(2, vr a3), (0, vr x0), (1, vr x1)]) C 2 dJ10_linkNodeAtEnd_47 rfl (lt_nl e5 rfl) rfl ?_
    refine s_aload_n C dJ10_linkNodeAtEnd_48 1 rfl rfl ?_
    refine s_aload_n C dJ10_linkNodeAtEnd_49 2 rfl rfl ?_
    refine s_putR [22] C (fl1 ⟨by decide, fo_J10_11_22, rfl⟩) (pl_of e4 rfl) (fl1 (Or.inl rfl)) dJ10_linkNodeAtEnd_50 fun h4 => ?_
    refine s_aload_n C dJ10_linkNodeAtEnd_53 0 rfl rfl ?_
    refine s_ifnonnull C 65 dJ10_linkNodeAtEnd_54 (by decide) ?_ ?_
    · refine s_aload_n C dJ10_linkNodeAtEnd_65 2 rfl rfl ?_
      refine s_aload_n C dJ10_linkNodeAtEnd_66 0 rfl rfl ?_
      refine s_putR [31, 32] C (flc ⟨by decide, fo_J10_19_31, rfl⟩ (fl1 ⟨by decide, fo_J10_19_32, rfl⟩)) (pl_of e4 rfl) (flc (Or.inl rfl) (fl1 (Or.inl rfl))) dJ10_linkNodeAtEnd_67 fun h5 => ?_
      refine s_aload_n C dJ10_linkNodeAtEnd_70 0 rfl rfl ?_
      refine s_aload_n C dJ10_linkNodeAtEnd_71 2 rfl rfl ?_
      refine s_putR [31, 32] C (flc ⟨by decide, fo_J10_14_31, rfl⟩ (fl1 ⟨by decide, fo_J10_14_32, rfl⟩)) (pl_of e4 rfl) (flc (Or.inl rfl) (fl1 (Or.inl rfl))) dJ10_linkNodeAtEnd_72 fun h6 => ?_
      refine Sim.keep [] rfl ?_
      exact hj75 _
    · refine s_aload_n C dJ10_linkNodeAtEnd_57 1 rfl rfl ?_
      refine s_aload_n C dJ10_linkNodeAtEnd_58 2 rfl rfl ?_
      refine s_putR [22] C (fl1 ⟨by decide, fo_J10_7_22, rfl⟩) (pl_of e4 rfl) (fl1 (Or.inl rfl)) dJ10_linkNodeAtEnd_59 fun h7 => ?_
      refine s_goto C 75 dJ10_linkNodeAtEnd_62 (by decide) ?_
      refine Sim.keep [] rfl ?_
      exact hj75 _
  · refine s_aload_n C dJ10_linkNodeAtEnd_8 0 rfl rfl ?_
    refine s_getR [22] C (fl1 ⟨fo_J10_7_22, rfl⟩) (pl_of e4 rfl) dJ10_linkNodeAtEnd_9 fun a8 => ?_
    refine s_astore_n (la' := [(2, vr a8), (0, vr x0), (1, vr x1)]) C 2 dJ10_linkNodeAtEnd_12 rfl (lt_nl e5 rfl) rfl ?_
    refine s_aload_n C dJ10_linkNodeAtEnd_13 1 rfl rfl ?_
    refine s_aload_n C dJ10_linkNodeAtEnd_14 2 rfl rfl ?_
    refine s_putR [22] C (fl1 ⟨by decide, fo_J10_7_22, rfl⟩) (pl_of e4 rfl) (fl1 (Or.inl rfl)) dJ10_linkNodeAtEnd_15 fun h9 => ?_
    refine s_aload_n C dJ10_linkNodeAtEnd_18 0 rfl rfl ?_
    have hj40 : ∀  (h10 : Hp), Sim id E (QM id E finV) h10 40 [] [] (g_LinkedHashMap_linkNodeAtEnd_j40 h10) := by
      intro h10
      refine s_goto C 75 dJ10_linkNodeAtEnd_40 (by decide) ?_
      exact hj75 _
    refine s_ifnonnull C 30 dJ10_linkNodeAtEnd_19 (by decide) ?_ ?_
    · refine s_aload_n C dJ10_linkNodeAtEnd_30 2 rfl rfl ?_
      refine s_aload_n C dJ10_linkNodeAtEnd_31 0 rfl rfl ?_
      refine s_putR [31, 32] C (flc ⟨by decide, fo_J10_14_31, rfl⟩ (fl1 ⟨by decide, fo_J10_14_32, rfl⟩)) (pl_of e4 rfl) (flc (Or.inl rfl) (fl1 (Or.inl rfl))) dJ10_linkNodeAtEnd_32 fun h11 => ?_
      refine s_aload_n C dJ10_linkNodeAtEnd_35 0 rfl rfl ?_
      refine s_aload_n C dJ10_linkNodeAtEnd_36 2 rfl rfl ?_
      refine s_putR [31, 32] C (flc ⟨by decide, fo_J10_19_31, rfl⟩ (fl1 ⟨by decide, fo_J10_19_32, rfl⟩)) (pl_of e4 rfl) (flc (Or.inl rfl) (fl1 (Or.inl rfl))) dJ10_linkNodeAtEnd_37 fun h12 => ?_
      refine Sim.keep [] rfl ?_
      exact hj40 _
    · refine s_aload_n C dJ10_linkNodeAtEnd_22 1 rfl rfl ?_
      refine s_aload_n C dJ10_linkNodeAtEnd_23 2 rfl rfl ?_
      refine s_putR [22] C (fl1 ⟨by decide, fo_J10_11_22, rfl⟩) (pl_of e4 rfl) (fl1 (Or.inl rfl)) dJ10_linkNodeAtEnd_24 fun h13 => ?_
      refine s_goto C 40 dJ10_linkNodeAtEnd_27 (by decide) ?_
      refine Sim.keep [] rfl ?_
      exact hj40 _

def g_LinkedHashMap_newTreeNode (x0 : Nat) (x1 : Int32) (x2 : Nat) (x3 : Nat) (x4 : Nat) (h : Hp) : Option (Nat × Hp) :=
  bn (newO 32 11 h) fun o1 h2 =>
  bn (g_HashMapTreeNode_init o1 x1 x2 x3 x4 h2) fun _ h3 =>
  bn (dsp (tg h3 x0 % 500) none [(22, g_LinkedHashMap_linkNodeAtEnd x0 o1 h3)]) fun _ h4 =>
  some (o1, h4)
theorem ct_g_LinkedHashMap_newTreeNode {G : Gx} {RL : Lv} {l : Launch} (hL : LvA G RL plR) (x0 : Nat) (x1 : Int32) (x2 : Nat) (x3 : Nat) (x4 : Nat) (h : Hp) : Ct id G RL l yJ10_newTreeNode (ws_ yJ10_newTreeNode cJ10_newTreeNode 6 (some (.object "java/util/HashMap$TreeNode"))) 4 92 finR [vr x0, .int x1, vr x2, vr x3, vr x4] h (g_LinkedHashMap_newTreeNode x0 x1 x2 x3 x4 h) := by
  refine Ct.of (Pl := plR) [(0, vr x0), (1, .int x1), (2, vr x2), (3, vr x3), (4, vr x4)] (by decide) hL rfl (Nat.le_of_ble_eq_true rfl) ?_
  intro E C e6 hf hlo e1 e2 e3 e4 e5
  subst e1; subst e2; subst e3
  replace C : Cx E cJ10_newTreeNode (some (.object "java/util/HashMap$TreeNode")) RJ10 := C
  replace e6 : (eMe E).name = "newTreeNode" := e6
  unfold g_LinkedHashMap_newTreeNode
  refine s_newO 32 11 C no_J10_50 (pl_of1 e4 rfl) dJ10_newTreeNode_0 fun o1 h2 zo1 => ?_
  refine s_dup C dJ10_newTreeNode_3 rfl ?_
  refine s_iload_n C dJ10_newTreeNode_4 1 rfl rfl ?_
  refine s_aload_n C dJ10_newTreeNode_5 2 rfl rfl ?_
  refine s_aload_n C dJ10_newTreeNode_6 3 rfl rfl ?_
  refine s_aload C dJ10_newTreeNode_7 4 rfl ?_
  refine c_I C 4 [vr o1] zo1 (ct_g_HashMapTreeNode_init hL o1 x1 x2 x3 x4 h2) (lw_meth q2000) q155 q1998 q1999 rfl nd_J36_init.2 rfl (le_fr hf rfl) (le_fr hlo rfl) rfl (Nat.le_of_ble_eq_true rfl) dJ10_newTreeNode_9 fun _ h3 => ?_
  refine s_astore (la' := [(5, vr o1), (0, vr x0), (1, .int x1), (2, vr x2), (3, vr x3), (4, vr x4)]) C dJ10_newTreeNode_12 (lt_nl e5 rfl) rfl ?_
  refine s_aload_n C dJ10_newTreeNode_14 1 rfl rfl ?_
  refine s_aload C dJ10_newTreeNode_15 0 rfl ?_
  refine s_dk 20 finV [] (fun _ h4 => ?_) (fun hk => s_dsp 22 (fun ht => c_V C 1 [] 22 RJ10 ro_22 (ct_g_LinkedHashMap_linkNodeAtEnd hL x0 o1 h3) (lw_V q1980 q1982 qs18 q120 q1983) nd_J10_linkNodeAtEnd rfl (le_fr hf rfl) (le_fr hlo rfl) rfl (Nat.le_of_ble_eq_true rfl) dJ10_newTreeNode_17 hk ht) s_dsp0)
  refine s_aload C dJ10_newTreeNode_20 0 rfl ?_
  exact s_aret C (Or.inl ⟨_, rfl⟩) rfl dJ10_newTreeNode_22

def g_HashMapTreeNode_putTreeVal_j298 (x2 : Nat) (x8 : Nat) (x15 : Nat) (h14 : Hp) : Option (Nat × Hp) :=
  bn (g_HashMapTreeNode_balanceInsertion x8 x15 h14) fun r15 h16 =>
  bn (g_HashMapTreeNode_moveRootToFront x2 r15 h16) fun _ h17 =>
  some (0, h17)
def g_HashMapTreeNode_putTreeVal_j263 (x2 : Nat) (x8 : Nat) (x13 : Nat) (x14 : Nat) (x15 : Nat) (h10 : Hp) : Option (Nat × Hp) :=
  (putR [30, 31, 32] 3 x13 x15 h10).bind fun h11 =>
  (putR [32] 9 x15 x13 h11).bind fun h12 =>
  (putR [32] 6 x15 x13 h12).bind fun h13 =>
  if x14 = 0 then
    g_HashMapTreeNode_putTreeVal_j298 x2 x8 x15 h13
  else
    (cst [32] x14 h13).bind fun _ =>
    (putR [32] 9 x14 x15 h13).bind fun h18 =>
    g_HashMapTreeNode_putTreeVal_j298 x2 x8 x15 h18
def g_HashMapTreeNode_putTreeVal_j215 (rec27 : (Nat × Nat) → Hp → Option (Nat × Hp)) (x1 : Nat) (x2 : Nat) (x3 : Int32) (x4 : Nat) (x5 : Nat) (x6 : Nat) (x7 : Int32) (x8 : Nat) (x10 : Int32) (x13 : Nat) (y0 : Nat) (h6 : Hp) : Option (Nat × Hp) :=
  if y0 = 0 then
    (getR [30, 31, 32] 3 x13 h6).bind fun a7 =>
    bn (dsp (tg h6 x1 % 500) none [(22, g_LinkedHashMap_newTreeNode x1 x3 x4 x5 a7 h6), (33, g_HashMap_newTreeNode x1 x3 x4 x5 a7 h6)]) fun r8 h9 =>
    if 0 < x10 then
      (putR [32] 8 x13 r8 h9).bind fun h19 =>
      g_HashMapTreeNode_putTreeVal_j263 x2 x8 x13 a7 r8 h19
    else
      (putR [32] 7 x13 r8 h9).bind fun h20 =>
      g_HashMapTreeNode_putTreeVal_j263 x2 x8 x13 a7 r8 h20
  else
    rec27 (x6, y0) h6
def g_HashMapTreeNode_putTreeVal_j193 (rec27 : (Nat × Nat) → Hp → Option (Nat × Hp)) (x1 : Nat) (x2 : Nat) (x3 : Int32) (x4 : Nat) (x5 : Nat) (x6 : Nat) (x7 : Int32) (x8 : Nat) (x9 : Nat) (x10 : Int32) (h5 : Hp) : Option (Nat × Hp) :=
  if 0 < x10 then
    (getR [32] 8 x9 h5).bind fun a21 =>
    g_HashMapTreeNode_putTreeVal_j215 rec27 x1 x2 x3 x4 x5 x6 x7 x8 x10 x9 a21 h5
  else
    (getR [32] 7 x9 h5).bind fun a22 =>
    g_HashMapTreeNode_putTreeVal_j215 rec27 x1 x2 x3 x4 x5 x6 x7 x8 x10 x9 a22 h5
def g_HashMapTreeNode_putTreeVal_j85 (x9 : Nat) (h24 : Hp) : Option (Nat × Hp) :=
  some (x9, h24)
def g_HashMapTreeNode_putTreeVal_j184 (x4 : Nat) (x12 : Nat) (h27 : Hp) : Option (Nat × Hp) :=
  none
def g_HashMapTreeNode_putTreeVal_j181 (x13 : Nat) (h29 : Hp) : Option (Nat × Hp) :=
  some (x13, h29)
def g_HashMapTreeNode_putTreeVal_j154 (x3 : Int32) (x4 : Nat) (x6 : Nat) (x9 : Nat) (x12 : Nat) (h30 : Hp) : Option (Nat × Hp) :=
  (getR [32] 8 x9 h30).bind fun a31 =>
  if a31 = 0 then
    g_HashMapTreeNode_putTreeVal_j184 x4 x12 h30
  else
    bn (dsp (tg h30 a31 % 500) none [(32, g_HashMapTreeNode_find a31 x3 x4 x6 h30)]) fun r32 h33 =>
    if r32 = 0 then
      g_HashMapTreeNode_putTreeVal_j184 x4 x12 h33
    else
      g_HashMapTreeNode_putTreeVal_j181 r32 h33
def g_HashMapTreeNode_putTreeVal_j119 (x3 : Int32) (x4 : Nat) (x6 : Nat) (x7 : Int32) (x9 : Nat) (x12 : Nat) (h26 : Hp) : Option (Nat × Hp) :=
  if x7 = 0 then
    (getR [32] 7 x9 h26).bind fun a28 =>
    if a28 = 0 then
      g_HashMapTreeNode_putTreeVal_j154 x3 x4 x6 x9 x12 h26
    else
      bn (dsp (tg h26 a28 % 500) none [(32, g_HashMapTreeNode_find a28 x3 x4 x6 h26)]) fun r34 h35 =>
      if r34 = 0 then
        g_HashMapTreeNode_putTreeVal_j154 x3 x4 x6 x9 x12 h35
      else
        g_HashMapTreeNode_putTreeVal_j181 r34 h35
  else
    g_HashMapTreeNode_putTreeVal_j184 x4 x12 h26
def g_HashMapTreeNode_putTreeVal_j104 (rec27 : (Nat × Nat) → Hp → Option (Nat × Hp)) (x1 : Nat) (x2 : Nat) (x3 : Int32) (x4 : Nat) (x5 : Nat) (x6 : Nat) (x7 : Int32) (x8 : Nat) (x9 : Nat) (x12 : Nat) (h36 : Hp) : Option (Nat × Hp) :=
  bn (g_HashMap_compareComparables x6 x4 x12 h36) fun r37 h38 =>
  if r37 = 0 then
    g_HashMapTreeNode_putTreeVal_j119 x3 x4 x6 x7 x9 x12 h38
  else
    g_HashMapTreeNode_putTreeVal_j193 rec27 x1 x2 x3 x4 x5 x6 x7 x8 x9 r37 h38
def g_HashMapTreeNode_putTreeVal_j88 (rec27 : (Nat × Nat) → Hp → Option (Nat × Hp)) (x1 : Nat) (x2 : Nat) (x3 : Int32) (x4 : Nat) (x5 : Nat) (x6 : Nat) (x7 : Int32) (x8 : Nat) (x9 : Nat) (x12 : Nat) (h25 : Hp) : Option (Nat × Hp) :=
  if x6 = 0 then
    bn (g_HashMap_comparableClassFor x4 h25) fun r39 h40 =>
    if r39 = 0 then
      g_HashMapTreeNode_putTreeVal_j119 x3 x4 r39 x7 x9 x12 h40
    else
      g_HashMapTreeNode_putTreeVal_j104 rec27 x1 x2 x3 x4 x5 r39 x7 x8 x9 x12 h40
  else
    g_HashMapTreeNode_putTreeVal_j104 rec27 x1 x2 x3 x4 x5 x6 x7 x8 x9 x12 h25
def g_HashMapTreeNode_putTreeVal_L27 (x1 : Nat) (x2 : Nat) (x3 : Int32) (x4 : Nat) (x5 : Nat) (x7 : Int32) (x8 : Nat) : (Nat × Nat) → Hp → Option (Nat × Hp) :=
  lp FU fun rec27 v27 h3 =>
    (getI [30, 31, 32] 0 v27.2 h3).bind fun a4 =>
    if a4 ≤ x3 then
      if x3 ≤ a4 then
        (getR [30, 31, 32] 1 v27.2 h3).bind fun a23 =>
        if a23 = x4 then
          g_HashMapTreeNode_putTreeVal_j85 v27.2 h3
        else
          if x4 = 0 then
            g_HashMapTreeNode_putTreeVal_j88 rec27 x1 x2 x3 x4 x5 v27.1 x7 x8 v27.2 a23 h3
          else
            bn (dsp (tg h3 x4 % 500) none [(10, g_Link_equals x4 a23 h3), (12, g_Vote_equals x4 a23 h3), (28, g_String_equals x4 a23 h3), (35, g_Integer_equals x4 a23 h3)]) fun r41 h42 =>
            if r41 = 0 then
              g_HashMapTreeNode_putTreeVal_j88 rec27 x1 x2 x3 x4 x5 v27.1 x7 x8 v27.2 a23 h42
            else
              g_HashMapTreeNode_putTreeVal_j85 v27.2 h42
      else
        g_HashMapTreeNode_putTreeVal_j193 rec27 x1 x2 x3 x4 x5 v27.1 x7 x8 v27.2 (1 : Int32) h3
    else
      g_HashMapTreeNode_putTreeVal_j193 rec27 x1 x2 x3 x4 x5 v27.1 x7 x8 v27.2 (-1 : Int32) h3
def g_HashMapTreeNode_putTreeVal_j21 (x1 : Nat) (x2 : Nat) (x3 : Int32) (x4 : Nat) (x5 : Nat) (x6 : Nat) (x7 : Int32) (y0 : Nat) (h2 : Hp) : Option (Nat × Hp) :=
  g_HashMapTreeNode_putTreeVal_L27 x1 x2 x3 x4 x5 x7 y0 (x6, y0) h2
def g_HashMapTreeNode_putTreeVal (x0 : Nat) (x1 : Nat) (x2 : Nat) (x3 : Int32) (x4 : Nat) (x5 : Nat) (h : Hp) : Option (Nat × Hp) :=
  (getR [32] 6 x0 h).bind fun a1 =>
  if a1 = 0 then
    g_HashMapTreeNode_putTreeVal_j21 x1 x2 x3 x4 x5 0 (0 : Int32) x0 h
  else
    bn (dsp (tg h x0 % 500) none [(32, g_HashMapTreeNode_root x0 h)]) fun r43 h44 =>
    g_HashMapTreeNode_putTreeVal_j21 x1 x2 x3 x4 x5 0 (0 : Int32) r43 h44
theorem ct_g_HashMapTreeNode_putTreeVal {G : Gx} {RL : Lv} {l : Launch} (hL : LvA G RL plR) (x0 : Nat) (x1 : Nat) (x2 : Nat) (x3 : Int32) (x4 : Nat) (x5 : Nat) (h : Hp) : Ct id G RL l yJ36_putTreeVal (ws_ yJ36_putTreeVal cJ36_putTreeVal 16 (some (.object "java/util/HashMap$TreeNode"))) 5 117 finR [vr x0, vr x1, vr x2, .int x3, vr x4, vr x5] h (g_HashMapTreeNode_putTreeVal x0 x1 x2 x3 x4 x5 h) := by
  refine Ct.of (Pl := plR) [(0, vr x0), (1, vr x1), (2, vr x2), (3, .int x3), (4, vr x4), (5, vr x5)] (by decide) hL rfl (Nat.le_of_ble_eq_true rfl) ?_
  intro E C e6 hf hlo e1 e2 e3 e4 e5
  subst e1; subst e2; subst e3
  replace C : Cx E cJ36_putTreeVal (some (.object "java/util/HashMap$TreeNode")) RJ36 := C
  replace e6 : (eMe E).name = "putTreeVal" := e6
  unfold g_HashMapTreeNode_putTreeVal
  refine s_null C dJ36_putTreeVal_0 ?_
  refine s_astore (la' := [(6, vr 0), (0, vr x0), (1, vr x1), (2, vr x2), (3, .int x3), (4, vr x4), (5, vr x5)]) C dJ36_putTreeVal_1 (lt_nl e5 rfl) rfl ?_
  refine s_iconst C (0 : Int32) dJ36_putTreeVal_3 (by decide) ?_
  refine s_istore (la' := [(7, .int (0 : Int32)), (6, vr 0), (0, vr x0), (1, vr x1), (2, vr x2), (3, .int x3), (4, vr x4), (5, vr x5)]) C dJ36_putTreeVal_4 (lt_nl e5 rfl) rfl ?_
  refine s_aload_n C dJ36_putTreeVal_6 2 rfl rfl ?_
  refine s_getR [32] C (fl1 ⟨fo_J36_9_32, rfl⟩) (pl_of e4 rfl) dJ36_putTreeVal_7 fun a1 => ?_
  have hj21 : ∀ (x1 : Nat) (x2 : Nat) (x3 : Int32) (x4 : Nat) (x5 : Nat) (x6 : Nat) (x7 : Int32) (y0 : Nat) (h2 : Hp), Sim id E (QM id E finR) h2 21 [(1, vr x1), (2, vr x2), (3, .int x3), (4, vr x4), (5, vr x5), (6, vr x6), (7, .int x7)] [vr y0] (g_HashMapTreeNode_putTreeVal_j21 x1 x2 x3 x4 x5 x6 x7 y0 h2) := by
    intro x1 x2 x3 x4 x5 x6 x7 y0 h2
    refine s_astore (la' := [(8, vr y0), (1, vr x1), (2, vr x2), (3, .int x3), (4, vr x4), (5, vr x5), (6, vr x6), (7, .int x7)]) C dJ36_putTreeVal_21 (lt_nl e5 rfl) rfl ?_
    refine s_aload C dJ36_putTreeVal_23 0 rfl ?_
    have hL27 : ∀ (x1 : Nat) (x2 : Nat) (x3 : Int32) (x4 : Nat) (x5 : Nat) (x7 : Int32) (x8 : Nat) (v27 : (Nat × Nat)) (h3 : Hp), Sim id E (QM id E finR) h3 27 [(1, vr x1), (2, vr x2), (3, .int x3), (4, vr x4), (5, vr x5), (6, vr v27.1), (7, .int x7), (8, vr x8), (9, vr v27.2)] [] (g_HashMapTreeNode_putTreeVal_L27 x1 x2 x3 x4 x5 x7 x8 v27 h3) := by
      intro x1 x2 x3 x4 x5 x7 x8 v27 h3
      refine Sim.loop (fun v27 => [(1, vr x1), (2, vr x2), (3, .int x3), (4, vr x4), (5, vr x5), (6, vr v27.1), (7, .int x7), (8, vr x8), (9, vr v27.2)]) (fun _ => []) (fun rec27 hr27 v27 h3 => ?_) FU v27 h3
      refine s_aload C dJ36_putTreeVal_27 8 rfl ?_
      refine s_getI [30, 31, 32] C (flc ⟨fo_J36_15_30, rfl⟩ (flc ⟨fo_J36_15_31, rfl⟩ (fl1 ⟨fo_J36_15_32, rfl⟩))) (pl_of e4 rfl) dJ36_putTreeVal_29 fun a4 => ?_
      refine s_dup C dJ36_putTreeVal_32 rfl ?_
      refine s_istore (la' := [(11, .int a4), (1, vr x1), (2, vr x2), (3, .int x3), (4, vr x4), (5, vr x5), (6, vr v27.1), (7, .int x7), (8, vr x8), (9, vr v27.2)]) C dJ36_putTreeVal_33 (lt_nl e5 rfl) rfl ?_
      refine s_iload_n C dJ36_putTreeVal_35 3 rfl rfl ?_
      have hj193 : ∀ (x6 : Nat) (x9 : Nat) (x10 : Int32) (h5 : Hp), Sim id E (QM id E finR) h5 193 [(1, vr x1), (2, vr x2), (3, .int x3), (4, vr x4), (5, vr x5), (6, vr x6), (7, .int x7), (8, vr x8), (9, vr x9), (10, .int x10)] [] (g_HashMapTreeNode_putTreeVal_j193 rec27 x1 x2 x3 x4 x5 x6 x7 x8 x9 x10 h5) := by
        intro x6 x9 x10 h5
        refine s_aload C dJ36_putTreeVal_193 8 rfl ?_
        refine s_astore (la' := [(13, vr x9), (1, vr x1), (2, vr x2), (3, .int x3), (4, vr x4), (5, vr x5), (6, vr x6), (7, .int x7), (8, vr x8), (9, vr x9), (10, .int x10)]) C dJ36_putTreeVal_195 (lt_nl e5 rfl) rfl ?_
        refine s_iload C dJ36_putTreeVal_197 10 rfl ?_
        have hj215 : ∀ (x6 : Nat) (x10 : Int32) (x13 : Nat) (y0 : Nat) (h6 : Hp), Sim id E (QM id E finR) h6 215 [(1, vr x1), (2, vr x2), (3, .int x3), (4, vr x4), (5, vr x5), (6, vr x6), (7, .int x7), (8, vr x8), (10, .int x10), (13, vr x13)] [vr y0] (g_HashMapTreeNode_putTreeVal_j215 rec27 x1 x2 x3 x4 x5 x6 x7 x8 x10 x13 y0 h6) := by
          intro x6 x10 x13 y0 h6
          refine s_dup C dJ36_putTreeVal_215 rfl ?_
          refine s_astore (la' := [(9, vr y0), (1, vr x1), (2, vr x2), (3, .int x3), (4, vr x4), (5, vr x5), (6, vr x6), (7, .int x7), (8, vr x8), (10, .int x10), (13, vr x13)]) C dJ36_putTreeVal_216 (lt_nl e5 rfl) rfl ?_
          refine s_ifnonnull C 311 dJ36_putTreeVal_218 (by decide) ?_ ?_
          · refine s_goto C 27 dJ36_putTreeVal_311 (by decide) ?_
            refine Sim.keep [1, 2, 3, 4, 5, 6, 7, 8, 0] rfl ?_
            exact hr27 _ _
          · refine s_aload C dJ36_putTreeVal_221 10 rfl ?_
            refine s_getR [30, 31, 32] C (flc ⟨fo_J36_22_30, rfl⟩ (flc ⟨fo_J36_22_31, rfl⟩ (fl1 ⟨fo_J36_22_32, rfl⟩))) (pl_of e4 rfl) dJ36_putTreeVal_223 fun a7 => ?_
            refine s_astore (la' := [(14, vr a7), (9, vr y0), (1, vr x1), (2, vr x2), (3, .int x3), (4, vr x4), (5, vr x5), (6, vr x6), (7, .int x7), (8, vr x8), (10, .int x10), (13, vr x13)]) C dJ36_putTreeVal_226 (lt_nl e5 rfl) rfl ?_
            refine s_aload_n C dJ36_putTreeVal_228 2 rfl rfl ?_
            refine s_iload_n C dJ36_putTreeVal_229 4 rfl rfl ?_
            refine s_aload C dJ36_putTreeVal_230 5 rfl ?_
            refine s_aload C dJ36_putTreeVal_232 6 rfl ?_
            refine s_aload C dJ36_putTreeVal_234 0 rfl ?_
            refine s_dk 239 finR [] (fun r8 h9 => ?_) (fun hk => s_dsp 22 (fun ht => c_O C 4 [] 22 RJ10 _ ro_22 (ct_g_LinkedHashMap_newTreeNode hL x1 x3 x4 x5 a7 h6) (lw_O q1989 q1992 q1990 q1993 q1994 q120 q1995) q2025 ⟨by decide +kernel, by decide +kernel, by decide +kernel⟩ rfl (le_fr hf rfl) (le_fr hlo rfl) rfl (Nat.le_of_ble_eq_true rfl) dJ36_putTreeVal_236 hk ht) (s_dsp 33 (fun ht => c_V C 4 [] 33 RJ4 ro_33 (ct_g_HashMap_newTreeNode hL x1 x3 x4 x5 a7 h6) (lw_V q1989 q1990 q1991 q113 q2025) nd_J4_newTreeNode rfl (le_fr hf rfl) (le_fr hlo rfl) rfl (Nat.le_of_ble_eq_true rfl) dJ36_putTreeVal_236 hk ht) s_dsp0))
            refine s_astore (la' := [(15, vr r8), (14, vr a7), (9, vr y0), (1, vr x1), (2, vr x2), (3, .int x3), (4, vr x4), (5, vr x5), (6, vr x6), (7, .int x7), (8, vr x8), (10, .int x10), (13, vr x13)]) C dJ36_putTreeVal_239 (lt_nl e5 rfl) rfl ?_
            refine s_iload C dJ36_putTreeVal_241 11 rfl ?_
            have hj263 : ∀ (x2 : Nat) (x8 : Nat) (x13 : Nat) (x14 : Nat) (x15 : Nat) (h10 : Hp), Sim id E (QM id E finR) h10 263 [(2, vr x2), (8, vr x8), (13, vr x13), (14, vr x14), (15, vr x15)] [] (g_HashMapTreeNode_putTreeVal_j263 x2 x8 x13 x14 x15 h10) := by
              intro x2 x8 x13 x14 x15 h10
              refine s_aload C dJ36_putTreeVal_263 2 rfl ?_
              refine s_aload C dJ36_putTreeVal_265 4 rfl ?_
              refine s_putR [30, 31, 32] C (flc ⟨by decide, fo_J36_22_30, rfl⟩ (flc ⟨by decide, fo_J36_22_31, rfl⟩ (fl1 ⟨by decide, fo_J36_22_32, rfl⟩))) (pl_of e4 rfl) (flc (Or.inl rfl) (flc (Or.inl rfl) (fl1 (Or.inl rfl)))) dJ36_putTreeVal_267 fun h11 => ?_
              refine s_aload C dJ36_putTreeVal_270 4 rfl ?_
              refine s_aload C dJ36_putTreeVal_272 4 rfl ?_
              refine s_aload C dJ36_putTreeVal_274 2 rfl ?_
              refine s_dup_x1 C dJ36_putTreeVal_276 rfl rfl ?_
              refine s_putR [32] C (fl1 ⟨by decide, fo_J36_19_32, rfl⟩) (pl_of e4 rfl) (fl1 (Or.inl rfl)) dJ36_putTreeVal_277 fun h12 => ?_
              refine s_putR [32] C (fl1 ⟨by decide, fo_J36_9_32, rfl⟩) (pl_of e4 rfl) (fl1 (Or.inl rfl)) dJ36_putTreeVal_280 fun h13 => ?_
              refine s_aload C dJ36_putTreeVal_283 3 rfl ?_
              have hj298 : ∀ (x2 : Nat) (x8 : Nat) (x15 : Nat) (h14 : Hp), Sim id E (QM id E finR) h14 298 [(2, vr x2), (8, vr x8), (15, vr x15)] [] (g_HashMapTreeNode_putTreeVal_j298 x2 x8 x15 h14) := by
                intro x2 x8 x15 h14
                refine s_aload_n C dJ36_putTreeVal_298 0 rfl rfl ?_
                refine s_aload C dJ36_putTreeVal_299 1 rfl ?_
                refine s_aload C dJ36_putTreeVal_301 2 rfl ?_
                refine c_S C 2 [vr x2] (ct_g_HashMapTreeNode_balanceInsertion hL x8 x15 h14) (lw_S q1959 q1960 q155 q1961) nd_J36_balanceInsertion.2 rfl (le_fr hf rfl) (le_fr hlo rfl) rfl (Nat.le_of_ble_eq_true rfl) dJ36_putTreeVal_303 fun r15 h16 => ?_
                refine c_S C 2 [] (ct_g_HashMapTreeNode_moveRootToFront hL x2 r15 h16) (lw_S q1968 q1969 q155 q1970) nd_J36_moveRootToFront.2 rfl (le_fr hf rfl) (le_fr hlo rfl) rfl (Nat.le_of_ble_eq_true rfl) dJ36_putTreeVal_306 fun _ h17 => ?_
                refine s_null C dJ36_putTreeVal_309 ?_
                exact s_aret C (Or.inl ⟨_, rfl⟩) rfl dJ36_putTreeVal_310
              refine s_ifnull C 298 dJ36_putTreeVal_285 (by decide) ?_ ?_
              · refine Sim.keep [0, 1, 4] rfl ?_
                exact hj298 _ _ _ _
              · refine s_aload C dJ36_putTreeVal_288 3 rfl ?_
                refine s_cast [32] "java/util/HashMap$TreeNode" C q1881 (fl1 ao_java_util_HashMap_TreeNode_32) dJ36_putTreeVal_290 ?_
                refine s_aload C dJ36_putTreeVal_293 4 rfl ?_
                refine s_putR [32] C (fl1 ⟨by decide, fo_J36_19_32, rfl⟩) (pl_of e4 rfl) (fl1 (Or.inl rfl)) dJ36_putTreeVal_295 fun h18 => ?_
                refine Sim.keep [0, 1, 4] rfl ?_
                exact hj298 _ _ _ _
            refine s_if_gt C 256 dJ36_putTreeVal_243 (by decide) ?_ ?_
            · refine s_aload C dJ36_putTreeVal_256 12 rfl ?_
              refine s_aload C dJ36_putTreeVal_258 0 rfl ?_
              refine s_putR [32] C (fl1 ⟨by decide, fo_J36_42_32, rfl⟩) (pl_of e4 rfl) (fl1 (Or.inl rfl)) dJ36_putTreeVal_260 fun h19 => ?_
              refine Sim.keep [4, 10, 12, 1, 0] rfl ?_
              exact hj263 _ _ _ _ _ _
            · refine s_aload C dJ36_putTreeVal_246 12 rfl ?_
              refine s_aload C dJ36_putTreeVal_248 0 rfl ?_
              refine s_putR [32] C (fl1 ⟨by decide, fo_J36_39_32, rfl⟩) (pl_of e4 rfl) (fl1 (Or.inl rfl)) dJ36_putTreeVal_250 fun h20 => ?_
              refine s_goto C 263 dJ36_putTreeVal_253 (by decide) ?_
              refine Sim.keep [4, 10, 12, 1, 0] rfl ?_
              exact hj263 _ _ _ _ _ _
        refine s_if_gt C 210 dJ36_putTreeVal_199 (by decide) ?_ ?_
        · refine s_aload C dJ36_putTreeVal_210 9 rfl ?_
          refine s_getR [32] C (fl1 ⟨fo_J36_42_32, rfl⟩) (pl_of e4 rfl) dJ36_putTreeVal_212 fun a21 => ?_
          refine Sim.keep [1, 2, 3, 4, 5, 6, 7, 8, 10, 0] rfl ?_
          exact hj215 _ _ _ _ _
        · refine s_aload C dJ36_putTreeVal_202 9 rfl ?_
          refine s_getR [32] C (fl1 ⟨fo_J36_39_32, rfl⟩) (pl_of e4 rfl) dJ36_putTreeVal_204 fun a22 => ?_
          refine s_goto C 215 dJ36_putTreeVal_207 (by decide) ?_
          refine Sim.keep [1, 2, 3, 4, 5, 6, 7, 8, 10, 0] rfl ?_
          exact hj215 _ _ _ _ _
      refine s_icmp_le C 45 dJ36_putTreeVal_36 (by decide) ?_ ?_
      · refine s_iload C dJ36_putTreeVal_45 0 rfl ?_
        refine s_iload_n C dJ36_putTreeVal_47 3 rfl rfl ?_
        refine s_icmp_ge C 57 dJ36_putTreeVal_48 (by decide) ?_ ?_
        · refine s_aload C dJ36_putTreeVal_57 9 rfl ?_
          refine s_getR [30, 31, 32] C (flc ⟨fo_J36_45_30, rfl⟩ (flc ⟨fo_J36_45_31, rfl⟩ (fl1 ⟨fo_J36_45_32, rfl⟩))) (pl_of e4 rfl) dJ36_putTreeVal_59 fun a23 => ?_
          refine s_dup C dJ36_putTreeVal_62 rfl ?_
          refine s_astore (la' := [(12, vr a23), (11, .int a4), (1, vr x1), (2, vr x2), (3, .int x3), (4, vr x4), (5, vr x5), (6, vr v27.1), (7, .int x7), (8, vr x8), (9, vr v27.2)]) C dJ36_putTreeVal_63 (lt_nl e5 rfl) rfl ?_
          refine s_aload C dJ36_putTreeVal_65 5 rfl ?_
          have hj85 : ∀ (x9 : Nat) (h24 : Hp), Sim id E (QM id E finR) h24 85 [(9, vr x9)] [] (g_HashMapTreeNode_putTreeVal_j85 x9 h24) := by
            intro x9 h24
            refine s_aload C dJ36_putTreeVal_85 0 rfl ?_
            exact s_aret C (Or.inl ⟨_, rfl⟩) rfl dJ36_putTreeVal_87
          refine s_acmp_eq 85 C dJ36_putTreeVal_67 (by decide) ?_ ?_
          · refine Sim.keep [10] rfl ?_
            exact hj85 _ _
          · refine s_aload C dJ36_putTreeVal_70 5 rfl ?_
            have hj88 : ∀ (x6 : Nat) (x9 : Nat) (x12 : Nat) (h25 : Hp), Sim id E (QM id E finR) h25 88 [(1, vr x1), (2, vr x2), (3, .int x3), (4, vr x4), (5, vr x5), (6, vr x6), (7, .int x7), (8, vr x8), (9, vr x9), (12, vr x12)] [] (g_HashMapTreeNode_putTreeVal_j88 rec27 x1 x2 x3 x4 x5 x6 x7 x8 x9 x12 h25) := by
              intro x6 x9 x12 h25
              refine s_aload C dJ36_putTreeVal_88 5 rfl ?_
              have hj119 : ∀ (x3 : Int32) (x4 : Nat) (x6 : Nat) (x7 : Int32) (x9 : Nat) (x12 : Nat) (h26 : Hp), Sim id E (QM id E finR) h26 119 [(3, .int x3), (4, vr x4), (6, vr x6), (7, .int x7), (9, vr x9), (12, vr x12)] [] (g_HashMapTreeNode_putTreeVal_j119 x3 x4 x6 x7 x9 x12 h26) := by
                intro x3 x4 x6 x7 x9 x12 h26
                refine s_iload C dJ36_putTreeVal_119 3 rfl ?_
                have hj184 : ∀ (x4 : Nat) (x12 : Nat) (h27 : Hp), Sim id E (QM id E finR) h27 184 [(4, vr x4), (12, vr x12)] [] (g_HashMapTreeNode_putTreeVal_j184 x4 x12 h27) := by
                  intro x4 x12 h27
                  refine s_aload C dJ36_putTreeVal_184 0 rfl ?_
                  refine s_aload C dJ36_putTreeVal_186 1 rfl ?_
                  exact sim_none
                refine s_if_ne C 184 dJ36_putTreeVal_121 (by decide) ?_ ?_
                · refine Sim.keep [1, 5] rfl ?_
                  exact hj184 _ _ _
                · refine s_iconst C (1 : Int32) dJ36_putTreeVal_124 (by decide) ?_
                  refine s_istore (la' := [(7, .int (1 : Int32)), (3, .int x3), (4, vr x4), (6, vr x6), (9, vr x9), (12, vr x12)]) C dJ36_putTreeVal_125 (lt_nl e5 rfl) rfl ?_
                  refine s_aload C dJ36_putTreeVal_127 4 rfl ?_
                  refine s_getR [32] C (fl1 ⟨fo_J36_39_32, rfl⟩) (pl_of e4 rfl) dJ36_putTreeVal_129 fun a28 => ?_
                  refine s_dup C dJ36_putTreeVal_132 rfl ?_
                  refine s_astore (la' := [(14, vr a28), (7, .int (1 : Int32)), (3, .int x3), (4, vr x4), (6, vr x6), (9, vr x9), (12, vr x12)]) C dJ36_putTreeVal_133 (lt_nl e5 rfl) rfl ?_
                  have hj181 : ∀ (x13 : Nat) (h29 : Hp), Sim id E (QM id E finR) h29 181 [(13, vr x13)] [] (g_HashMapTreeNode_putTreeVal_j181 x13 h29) := by
                    intro x13 h29
                    refine s_aload C dJ36_putTreeVal_181 0 rfl ?_
                    exact s_aret C (Or.inl ⟨_, rfl⟩) rfl dJ36_putTreeVal_183
                  have hj154 : ∀ (x3 : Int32) (x4 : Nat) (x6 : Nat) (x9 : Nat) (x12 : Nat) (h30 : Hp), Sim id E (QM id E finR) h30 154 [(3, .int x3), (4, vr x4), (6, vr x6), (9, vr x9), (12, vr x12)] [] (g_HashMapTreeNode_putTreeVal_j154 x3 x4 x6 x9 x12 h30) := by
                    intro x3 x4 x6 x9 x12 h30
                    refine s_aload C dJ36_putTreeVal_154 3 rfl ?_
                    refine s_getR [32] C (fl1 ⟨fo_J36_42_32, rfl⟩) (pl_of e4 rfl) dJ36_putTreeVal_156 fun a31 => ?_
                    refine s_dup C dJ36_putTreeVal_159 rfl ?_
                    refine s_astore (la' := [(14, vr a31), (3, .int x3), (4, vr x4), (6, vr x6), (9, vr x9), (12, vr x12)]) C dJ36_putTreeVal_160 (lt_nl e5 rfl) rfl ?_
                    refine s_ifnull C 184 dJ36_putTreeVal_162 (by decide) ?_ ?_
                    · refine Sim.keep [2, 5] rfl ?_
                      exact hj184 _ _ _
                    · refine s_aload C dJ36_putTreeVal_165 0 rfl ?_
                      refine s_iload_n C dJ36_putTreeVal_167 1 rfl rfl ?_
                      refine s_aload C dJ36_putTreeVal_168 2 rfl ?_
                      refine s_aload C dJ36_putTreeVal_170 3 rfl ?_
                      refine s_dk 175 finR [] (fun r32 h33 => ?_) (fun hk => s_dsp 32 (fun ht => c_V C 3 [] 32 RJ36 ro_32 (ct_g_HashMapTreeNode_find hL a31 x3 x4 x6 h30) (lw_V q1076 q1077 q1078 q155 q1079) nd_J36_find rfl (le_fr hf rfl) (le_fr hlo rfl) rfl (Nat.le_of_ble_eq_true rfl) dJ36_putTreeVal_172 hk ht) s_dsp0)
                      refine s_dup C dJ36_putTreeVal_175 rfl ?_
                      refine s_astore (la' := [(13, vr r32), (14, vr a31), (3, .int x3), (4, vr x4), (6, vr x6), (9, vr x9), (12, vr x12)]) C dJ36_putTreeVal_176 (lt_nl e5 rfl) rfl ?_
                      refine s_ifnull C 184 dJ36_putTreeVal_178 (by decide) ?_ ?_
                      · refine Sim.keep [3, 6] rfl ?_
                        exact hj184 _ _ _
                      · refine Sim.keep [0] rfl ?_
                        exact hj181 _ _
                  refine s_ifnull C 154 dJ36_putTreeVal_135 (by decide) ?_ ?_
                  · refine Sim.keep [2, 3, 4, 5, 6] rfl ?_
                    exact hj154 _ _ _ _ _ _
                  · refine s_aload C dJ36_putTreeVal_138 0 rfl ?_
                    refine s_iload_n C dJ36_putTreeVal_140 2 rfl rfl ?_
                    refine s_aload C dJ36_putTreeVal_141 3 rfl ?_
                    refine s_aload C dJ36_putTreeVal_143 4 rfl ?_
                    refine s_dk 148 finR [] (fun r34 h35 => ?_) (fun hk => s_dsp 32 (fun ht => c_V C 3 [] 32 RJ36 ro_32 (ct_g_HashMapTreeNode_find hL a28 x3 x4 x6 h26) (lw_V q1076 q1077 q1078 q155 q1079) nd_J36_find rfl (le_fr hf rfl) (le_fr hlo rfl) rfl (Nat.le_of_ble_eq_true rfl) dJ36_putTreeVal_145 hk ht) s_dsp0)
                    refine s_dup C dJ36_putTreeVal_148 rfl ?_
                    refine s_astore (la' := [(13, vr r34), (14, vr a28), (7, .int (1 : Int32)), (3, .int x3), (4, vr x4), (6, vr x6), (9, vr x9), (12, vr x12)]) C dJ36_putTreeVal_149 (lt_nl e5 rfl) rfl ?_
                    refine s_ifnonnull C 181 dJ36_putTreeVal_151 (by decide) ?_ ?_
                    · refine Sim.keep [0] rfl ?_
                      exact hj181 _ _
                    · refine Sim.keep [3, 4, 5, 6, 7] rfl ?_
                      exact hj154 _ _ _ _ _ _
              have hj104 : ∀ (x6 : Nat) (x9 : Nat) (x12 : Nat) (h36 : Hp), Sim id E (QM id E finR) h36 104 [(1, vr x1), (2, vr x2), (3, .int x3), (4, vr x4), (5, vr x5), (6, vr x6), (7, .int x7), (8, vr x8), (9, vr x9), (12, vr x12)] [] (g_HashMapTreeNode_putTreeVal_j104 rec27 x1 x2 x3 x4 x5 x6 x7 x8 x9 x12 h36) := by
                intro x6 x9 x12 h36
                refine s_aload C dJ36_putTreeVal_104 5 rfl ?_
                refine s_aload C dJ36_putTreeVal_106 3 rfl ?_
                refine s_aload C dJ36_putTreeVal_108 9 rfl ?_
                refine c_S C 3 [] (ct_g_HashMap_compareComparables hL x6 x4 x12 h36) (lw_S q1087 q1088 q113 q1089) nd_J4_compareComparables.2 rfl (le_fr hf rfl) (le_fr hlo rfl) rfl (Nat.le_of_ble_eq_true rfl) dJ36_putTreeVal_110 fun r37 h38 => ?_
                refine s_dup C dJ36_putTreeVal_113 rfl ?_
                refine s_istore (la' := [(10, .int r37), (1, vr x1), (2, vr x2), (3, .int x3), (4, vr x4), (5, vr x5), (6, vr x6), (7, .int x7), (8, vr x8), (9, vr x9), (12, vr x12)]) C dJ36_putTreeVal_114 (lt_nl e5 rfl) rfl ?_
                refine s_if_ne C 193 dJ36_putTreeVal_116 (by decide) ?_ ?_
                · refine Sim.keep [1, 2, 3, 4, 5, 6, 7, 8, 9, 0] rfl ?_
                  exact hj193 _ _ _ _
                · refine Sim.keep [3, 4, 6, 7, 9, 10] rfl ?_
                  exact hj119 _ _ _ _ _ _ _
              refine s_ifnonnull C 104 dJ36_putTreeVal_90 (by decide) ?_ ?_
              · exact hj104 _ _ _ _
              · refine s_aload C dJ36_putTreeVal_93 3 rfl ?_
                refine c_S C 1 [] (ct_g_HashMap_comparableClassFor hL x4 h25) (lw_S q1081 q1082 q113 q1083) nd_J4_comparableClassFor.2 rfl (le_fr hf rfl) (le_fr hlo rfl) rfl (Nat.le_of_ble_eq_true rfl) dJ36_putTreeVal_95 fun r39 h40 => ?_
                refine s_dup C dJ36_putTreeVal_98 rfl ?_
                refine s_astore (la' := [(6, vr r39), (1, vr x1), (2, vr x2), (3, .int x3), (4, vr x4), (5, vr x5), (7, .int x7), (8, vr x8), (9, vr x9), (12, vr x12)]) C dJ36_putTreeVal_99 (lt_nl e5 rfl) rfl ?_
                refine s_ifnull C 119 dJ36_putTreeVal_101 (by decide) ?_ ?_
                · refine Sim.keep [3, 4, 0, 6, 8, 9] rfl ?_
                  exact hj119 _ _ _ _ _ _ _
                · refine Sim.keep [1, 2, 3, 4, 5, 0, 6, 7, 8, 9] rfl ?_
                  exact hj104 _ _ _ _
            refine s_ifnull C 88 dJ36_putTreeVal_72 (by decide) ?_ ?_
            · refine Sim.keep [2, 3, 4, 5, 6, 7, 8, 9, 10, 0] rfl ?_
              exact hj88 _ _ _ _
            · refine s_aload C dJ36_putTreeVal_75 5 rfl ?_
              refine s_aload C dJ36_putTreeVal_77 0 rfl ?_
              refine s_dk 82 finI [] (fun r41 h42 => ?_) (fun hk => s_dsp 10 (fun ht => c_O C 1 [] 10 RX11 _ ro_10 (ct_g_Link_equals hL x4 a23 h3) (lw_O q1080 q1014 q1013 q1025 q1026 q157 q1027) q1066 ⟨by decide +kernel, by decide +kernel, by decide +kernel⟩ rfl (le_fr hf rfl) (le_fr hlo rfl) rfl (Nat.le_of_ble_eq_true rfl) dJ36_putTreeVal_79 hk ht) (s_dsp 12 (fun ht => c_O C 1 [] 12 RX14 _ ro_12 (ct_g_Vote_equals hL x4 a23 h3) (lw_O q1080 q1014 q1013 q1041 q1042 q160 q1043) q1066 ⟨by decide +kernel, by decide +kernel, by decide +kernel⟩ rfl (le_fr hf rfl) (le_fr hlo rfl) rfl (Nat.le_of_ble_eq_true rfl) dJ36_putTreeVal_79 hk ht) (s_dsp 28 (fun ht => c_O C 1 [] 28 RJ27 _ ro_28 (ct_g_String_equals hL x4 a23 h3) (lw_O q1080 q1014 q1013 q1056 q1057 q139 q1058) q1066 ⟨by decide +kernel, by decide +kernel, by decide +kernel⟩ rfl (le_fr hf rfl) (le_fr hlo rfl) rfl (Nat.le_of_ble_eq_true rfl) dJ36_putTreeVal_79 hk ht) (s_dsp 35 (fun ht => c_O C 1 [] 35 RJ9 _ ro_35 (ct_g_Integer_equals hL x4 a23 h3) (lw_O q1080 q1014 q1013 q1048 q1049 q119 q1050) q1066 ⟨by decide +kernel, by decide +kernel, by decide +kernel⟩ rfl (le_fr hf rfl) (le_fr hlo rfl) rfl (Nat.le_of_ble_eq_true rfl) dJ36_putTreeVal_79 hk ht) s_dsp0))))
              refine s_if_eq C 88 dJ36_putTreeVal_82 (by decide) ?_ ?_
              · refine Sim.keep [2, 3, 4, 5, 6, 7, 8, 9, 10, 0] rfl ?_
                exact hj88 _ _ _ _
              · refine Sim.keep [10] rfl ?_
                exact hj85 _ _
        · refine s_iconst C (1 : Int32) dJ36_putTreeVal_51 (by decide) ?_
          refine s_istore (la' := [(10, .int (1 : Int32)), (11, .int a4), (1, vr x1), (2, vr x2), (3, .int x3), (4, vr x4), (5, vr x5), (6, vr v27.1), (7, .int x7), (8, vr x8), (9, vr v27.2)]) C dJ36_putTreeVal_52 (lt_nl e5 rfl) rfl ?_
          refine s_goto C 193 dJ36_putTreeVal_54 (by decide) ?_
          refine Sim.keep [2, 3, 4, 5, 6, 7, 8, 9, 10, 0] rfl ?_
          exact hj193 _ _ _ _
      · refine s_iconst C (-1 : Int32) dJ36_putTreeVal_39 (by decide) ?_
        refine s_istore (la' := [(10, .int (-1 : Int32)), (11, .int a4), (1, vr x1), (2, vr x2), (3, .int x3), (4, vr x4), (5, vr x5), (6, vr v27.1), (7, .int x7), (8, vr x8), (9, vr v27.2)]) C dJ36_putTreeVal_40 (lt_nl e5 rfl) rfl ?_
        refine s_goto C 193 dJ36_putTreeVal_42 (by decide) ?_
        refine Sim.keep [2, 3, 4, 5, 6, 7, 8, 9, 10, 0] rfl ?_
        exact hj193 _ _ _ _
    refine s_astore (la' := [(9, vr y0), (8, vr y0), (1, vr x1), (2, vr x2), (3, .int x3), (4, vr x4), (5, vr x5), (6, vr x6), (7, .int x7)]) C dJ36_putTreeVal_25 (lt_nl e5 rfl) rfl ?_
    refine Sim.keep [2, 3, 4, 5, 6, 7, 8, 1, 0] rfl ?_
    exact hL27 _ _ _ _ _ _ _ _ _
  refine s_ifnull C 20 dJ36_putTreeVal_10 (by decide) ?_ ?_
  · refine s_aload_n C dJ36_putTreeVal_20 2 rfl rfl ?_
    refine Sim.keep [3, 4, 5, 6, 7, 1, 0] rfl ?_
    exact hj21 _ _ _ _ _ _ _ _ _
  · refine s_aload_n C dJ36_putTreeVal_13 2 rfl rfl ?_
    refine s_dk 17 finR [] (fun r43 h44 => ?_) (fun hk => s_dsp 32 (fun ht => c_V C 0 [] 32 RJ36 ro_32 (ct_g_HashMapTreeNode_root hL x0 h) (lw_V q1072 q1073 q1074 q155 q1075) nd_J36_root rfl (le_fr hf rfl) (le_fr hlo rfl) rfl (Nat.le_of_ble_eq_true rfl) dJ36_putTreeVal_14 hk ht) s_dsp0)
    refine s_goto C 21 dJ36_putTreeVal_17 (by decide) ?_
    refine Sim.keep [3, 4, 5, 6, 7, 1, 0] rfl ?_
    exact hj21 _ _ _ _ _ _ _ _ _
