/-! THE LIBRARY'S METHODS ON THE RAW HEAP (printed by hgenraw.py) -/
set_option maxRecDepth 100000
def g_LinkedHashMap_afterNodeAccess_j265  (h2 : Hp) : Option (Unit × Hp) :=
  some ((), h2)
def g_LinkedHashMap_afterNodeAccess_j249 (x0 : Nat) (x4 : Nat) (h11 : Hp) : Option (Unit × Hp) :=
  (putR [22] 8 x0 x4 h11).bind fun h12 =>
  (getI [22, 33] 5 x0 h12).bind fun a13 =>
  (putI [22, 33] 0 5 x0 (a13 + (1 : Int32)) h12).bind fun h14 =>
  g_LinkedHashMap_afterNodeAccess_j265 h14
def g_LinkedHashMap_afterNodeAccess_j224 (x0 : Nat) (x3 : Nat) (x4 : Nat) (h10 : Hp) : Option (Unit × Hp) :=
  if x3 = 0 then
    (putR [22] 9 x0 x4 h10).bind fun h17 =>
    g_LinkedHashMap_afterNodeAccess_j249 x0 x4 h17
  else
    (putR [31, 32] 5 x4 x3 h10).bind fun h15 =>
    (putR [31, 32] 4 x3 x4 h15).bind fun h16 =>
    g_LinkedHashMap_afterNodeAccess_j249 x0 x4 h16
def g_LinkedHashMap_afterNodeAccess_j206 (x0 : Nat) (x3 : Nat) (x4 : Nat) (x5 : Nat) (x6 : Nat) (h9 : Hp) : Option (Unit × Hp) :=
  if x5 = 0 then
    g_LinkedHashMap_afterNodeAccess_j224 x0 x6 x4 h9
  else
    (putR [31, 32] 5 x5 x6 h9).bind fun h18 =>
    g_LinkedHashMap_afterNodeAccess_j224 x0 x3 x4 h18
def g_LinkedHashMap_afterNodeAccess_j141 (x0 : Nat) (x1 : Nat) (h3 : Hp) : Option (Unit × Hp) :=
  (getI [22] 11 x0 h3).bind fun a4 =>
  if a4 = (1 : Int32) then
    (getR [22] 8 x0 h3).bind fun a5 =>
    if a5 = x1 then
      g_LinkedHashMap_afterNodeAccess_j265 h3
    else
      (cst [31, 32] x1 h3).bind fun _ =>
      (getR [31, 32] 4 x1 h3).bind fun a6 =>
      (getR [31, 32] 5 x1 h3).bind fun a7 =>
      (putR [31, 32] 4 x1 0 h3).bind fun h8 =>
      if a7 = 0 then
        (putR [22] 9 x0 a6 h8).bind fun h20 =>
        g_LinkedHashMap_afterNodeAccess_j206 x0 a5 x1 a6 a7 h20
      else
        (putR [31, 32] 4 a7 a6 h8).bind fun h19 =>
        g_LinkedHashMap_afterNodeAccess_j206 x0 a5 x1 a6 a7 h19
  else
    g_LinkedHashMap_afterNodeAccess_j265 h3
def g_LinkedHashMap_afterNodeAccess_j122 (x0 : Nat) (x4 : Nat) (h28 : Hp) : Option (Unit × Hp) :=
  (putR [22] 9 x0 x4 h28).bind fun h29 =>
  (getI [22, 33] 5 x0 h29).bind fun a30 =>
  (putI [22, 33] 0 5 x0 (a30 + (1 : Int32)) h29).bind fun h31 =>
  g_LinkedHashMap_afterNodeAccess_j265 h31
def g_LinkedHashMap_afterNodeAccess_j97 (x0 : Nat) (x2 : Nat) (x4 : Nat) (h27 : Hp) : Option (Unit × Hp) :=
  if x2 = 0 then
    (putR [22] 8 x0 x4 h27).bind fun h34 =>
    g_LinkedHashMap_afterNodeAccess_j122 x0 x4 h34
  else
    (putR [31, 32] 4 x4 x2 h27).bind fun h32 =>
    (putR [31, 32] 5 x2 x4 h32).bind fun h33 =>
    g_LinkedHashMap_afterNodeAccess_j122 x0 x4 h33
def g_LinkedHashMap_afterNodeAccess_j79 (x0 : Nat) (x2 : Nat) (x4 : Nat) (x5 : Nat) (x6 : Nat) (h26 : Hp) : Option (Unit × Hp) :=
  if x6 = 0 then
    g_LinkedHashMap_afterNodeAccess_j97 x0 x5 x4 h26
  else
    (putR [31, 32] 4 x6 x5 h26).bind fun h35 =>
    g_LinkedHashMap_afterNodeAccess_j97 x0 x2 x4 h35
def g_LinkedHashMap_afterNodeAccess_j22 (x0 : Nat) (x1 : Nat) (h21 : Hp) : Option (Unit × Hp) :=
  (getR [22] 9 x0 h21).bind fun a22 =>
  if a22 = x1 then
    g_LinkedHashMap_afterNodeAccess_j141 x0 x1 h21
  else
    (cst [31, 32] x1 h21).bind fun _ =>
    (getR [31, 32] 4 x1 h21).bind fun a23 =>
    (getR [31, 32] 5 x1 h21).bind fun a24 =>
    (putR [31, 32] 5 x1 0 h21).bind fun h25 =>
    if a23 = 0 then
      (putR [22] 8 x0 a24 h25).bind fun h37 =>
      g_LinkedHashMap_afterNodeAccess_j79 x0 a22 x1 a23 a24 h37
    else
      (putR [31, 32] 5 a23 a24 h25).bind fun h36 =>
      g_LinkedHashMap_afterNodeAccess_j79 x0 a22 x1 a23 a24 h36
def g_LinkedHashMap_afterNodeAccess (x0 : Nat) (x1 : Nat) (h : Hp) : Option (Unit × Hp) :=
  (getI [22] 11 x0 h).bind fun a1 =>
  if a1 = (2 : Int32) then
    g_LinkedHashMap_afterNodeAccess_j22 x0 x1 h
  else
    (getI [22] 11 x0 h).bind fun a38 =>
    if a38 = 0 then
      (getI [22] 10 x0 h).bind fun a39 =>
      if a39 = 0 then
        g_LinkedHashMap_afterNodeAccess_j141 x0 x1 h
      else
        g_LinkedHashMap_afterNodeAccess_j22 x0 x1 h
    else
      g_LinkedHashMap_afterNodeAccess_j141 x0 x1 h
theorem ct_g_LinkedHashMap_afterNodeAccess {G : Gx} {RL : Lv} {l : Launch} (hL : LvA G RL plR) (x0 : Nat) (x1 : Nat) (h : Hp) : Ct id G RL l yJ10_afterNodeAccess (ws_ yJ10_afterNodeAccess cJ10_afterNodeAccess 7 none) 0 0 finV [vr x0, vr x1] h (g_LinkedHashMap_afterNodeAccess x0 x1 h) := by
  refine Ct.of (Pl := plR) [(0, vr x0), (1, vr x1)] (by decide) hL rfl (Nat.le_of_ble_eq_true rfl) ?_
  intro E C e6 hf hlo e1 e2 e3 e4 e5
  subst e1; subst e2; subst e3
  replace C : Cx E cJ10_afterNodeAccess none RJ10 := C
  replace e6 : (eMe E).name = "afterNodeAccess" := e6
  unfold g_LinkedHashMap_afterNodeAccess
  refine s_aload_n C dJ10_afterNodeAccess_0 0 rfl rfl ?_
  refine s_getI [22] C (fl1 ⟨fo_J10_1_22, rfl⟩) (pl_of e4 rfl) dJ10_afterNodeAccess_1 fun a1 => ?_
  refine s_iconst C (2 : Int32) dJ10_afterNodeAccess_4 (by decide) ?_
  have hj265 : ∀  (h2 : Hp), Sim id E (QM id E finV) h2 265 [] [] (g_LinkedHashMap_afterNodeAccess_j265 h2) := by
    intro h2
    exact s_vret C rfl dJ10_afterNodeAccess_265
  have hj141 : ∀ (x0 : Nat) (x1 : Nat) (h3 : Hp), Sim id E (QM id E finV) h3 141 [(0, vr x0), (1, vr x1)] [] (g_LinkedHashMap_afterNodeAccess_j141 x0 x1 h3) := by
    intro x0 x1 h3
    refine s_aload_n C dJ10_afterNodeAccess_141 0 rfl rfl ?_
    refine s_getI [22] C (fl1 ⟨fo_J10_1_22, rfl⟩) (pl_of e4 rfl) dJ10_afterNodeAccess_142 fun a4 => ?_
    refine s_iconst C (1 : Int32) dJ10_afterNodeAccess_145 (by decide) ?_
    refine s_icmp_ne C 265 dJ10_afterNodeAccess_146 (by decide) ?_ ?_
    · refine Sim.keep [] rfl ?_
      exact hj265 _
    · refine s_aload_n C dJ10_afterNodeAccess_149 0 rfl rfl ?_
      refine s_getR [22] C (fl1 ⟨fo_J10_7_22, rfl⟩) (pl_of e4 rfl) dJ10_afterNodeAccess_150 fun a5 => ?_
      refine s_dup C dJ10_afterNodeAccess_153 rfl ?_
      refine s_astore_n (la' := [(3, vr a5), (0, vr x0), (1, vr x1)]) C 3 dJ10_afterNodeAccess_154 rfl (lt_nl e5 rfl) rfl ?_
      refine s_aload_n C dJ10_afterNodeAccess_155 2 rfl rfl ?_
      refine s_acmp_eq 265 C dJ10_afterNodeAccess_156 (by decide) ?_ ?_
      · refine Sim.keep [] rfl ?_
        exact hj265 _
      · refine s_aload_n C dJ10_afterNodeAccess_159 2 rfl rfl ?_
        refine s_cast [31, 32] "java/util/LinkedHashMap$Entry" C q1302 (flc ao_java_util_LinkedHashMap_Entry_31 (fl1 ao_java_util_LinkedHashMap_Entry_32)) dJ10_afterNodeAccess_160 ?_
        refine s_astore (la' := [(4, vr x1), (3, vr a5), (0, vr x0), (1, vr x1)]) C dJ10_afterNodeAccess_163 (lt_nl e5 rfl) rfl ?_
        refine s_aload C dJ10_afterNodeAccess_165 0 rfl ?_
        refine s_getR [31, 32] C (flc ⟨fo_J10_19_31, rfl⟩ (fl1 ⟨fo_J10_19_32, rfl⟩)) (pl_of e4 rfl) dJ10_afterNodeAccess_167 fun a6 => ?_
        refine s_astore (la' := [(5, vr a6), (4, vr x1), (3, vr a5), (0, vr x0), (1, vr x1)]) C dJ10_afterNodeAccess_170 (lt_nl e5 rfl) rfl ?_
        refine s_aload C dJ10_afterNodeAccess_172 1 rfl ?_
        refine s_getR [31, 32] C (flc ⟨fo_J10_14_31, rfl⟩ (fl1 ⟨fo_J10_14_32, rfl⟩)) (pl_of e4 rfl) dJ10_afterNodeAccess_174 fun a7 => ?_
        refine s_astore (la' := [(6, vr a7), (5, vr a6), (4, vr x1), (3, vr a5), (0, vr x0), (1, vr x1)]) C dJ10_afterNodeAccess_177 (lt_nl e5 rfl) rfl ?_
        refine s_aload C dJ10_afterNodeAccess_179 2 rfl ?_
        refine s_null C dJ10_afterNodeAccess_181 ?_
        refine s_putR [31, 32] C (flc ⟨by decide, fo_J10_19_31, rfl⟩ (fl1 ⟨by decide, fo_J10_19_32, rfl⟩)) (pl_of e4 rfl) (flc (Or.inl rfl) (fl1 (Or.inl rfl))) dJ10_afterNodeAccess_182 fun h8 => ?_
        refine s_aload C dJ10_afterNodeAccess_185 0 rfl ?_
        have hj206 : ∀ (x0 : Nat) (x3 : Nat) (x4 : Nat) (x5 : Nat) (x6 : Nat) (h9 : Hp), Sim id E (QM id E finV) h9 206 [(0, vr x0), (3, vr x3), (4, vr x4), (5, vr x5), (6, vr x6)] [] (g_LinkedHashMap_afterNodeAccess_j206 x0 x3 x4 x5 x6 h9) := by
          intro x0 x3 x4 x5 x6 h9
          refine s_aload C dJ10_afterNodeAccess_206 3 rfl ?_
          have hj224 : ∀ (x0 : Nat) (x3 : Nat) (x4 : Nat) (h10 : Hp), Sim id E (QM id E finV) h10 224 [(0, vr x0), (3, vr x3), (4, vr x4)] [] (g_LinkedHashMap_afterNodeAccess_j224 x0 x3 x4 h10) := by
            intro x0 x3 x4 h10
            refine s_aload_n C dJ10_afterNodeAccess_224 1 rfl rfl ?_
            have hj249 : ∀ (x0 : Nat) (x4 : Nat) (h11 : Hp), Sim id E (QM id E finV) h11 249 [(0, vr x0), (4, vr x4)] [] (g_LinkedHashMap_afterNodeAccess_j249 x0 x4 h11) := by
              intro x0 x4 h11
              refine s_aload_n C dJ10_afterNodeAccess_249 0 rfl rfl ?_
              refine s_aload C dJ10_afterNodeAccess_250 1 rfl ?_
              refine s_putR [22] C (fl1 ⟨by decide, fo_J10_7_22, rfl⟩) (pl_of e4 rfl) (fl1 (Or.inl rfl)) dJ10_afterNodeAccess_252 fun h12 => ?_
              refine s_aload_n C dJ10_afterNodeAccess_255 0 rfl rfl ?_
              refine s_dup C dJ10_afterNodeAccess_256 rfl ?_
              refine s_getI [22, 33] C (flc ⟨fo_J10_68_22, rfl⟩ (fl1 ⟨fo_J10_68_33, rfl⟩)) (pl_of e4 rfl) dJ10_afterNodeAccess_257 fun a13 => ?_
              refine s_iconst C (1 : Int32) dJ10_afterNodeAccess_260 (by decide) ?_
              refine s_iadd C dJ10_afterNodeAccess_261 ?_
              refine s_putI [22, 33] 0 C (by decide) (by decide) (flc ⟨⟨by decide, fo_J10_68_22, rfl⟩, rfl⟩ (fl1 ⟨⟨by decide, fo_J10_68_33, rfl⟩, rfl⟩)) (pl_of e4 rfl) (flc (Or.inl rfl) (fl1 (Or.inl rfl))) dJ10_afterNodeAccess_262 fun h14 => ?_
              refine Sim.keep [] rfl ?_
              exact hj265 _
            refine s_ifnonnull C 237 dJ10_afterNodeAccess_225 (by decide) ?_ ?_
            · refine s_aload C dJ10_afterNodeAccess_237 2 rfl ?_
              refine s_aload_n C dJ10_afterNodeAccess_239 1 rfl rfl ?_
              refine s_putR [31, 32] C (flc ⟨by decide, fo_J10_14_31, rfl⟩ (fl1 ⟨by decide, fo_J10_14_32, rfl⟩)) (pl_of e4 rfl) (flc (Or.inl rfl) (fl1 (Or.inl rfl))) dJ10_afterNodeAccess_240 fun h15 => ?_
              refine s_aload_n C dJ10_afterNodeAccess_243 1 rfl rfl ?_
              refine s_aload C dJ10_afterNodeAccess_244 2 rfl ?_
              refine s_putR [31, 32] C (flc ⟨by decide, fo_J10_19_31, rfl⟩ (fl1 ⟨by decide, fo_J10_19_32, rfl⟩)) (pl_of e4 rfl) (flc (Or.inl rfl) (fl1 (Or.inl rfl))) dJ10_afterNodeAccess_246 fun h16 => ?_
              refine Sim.keep [0, 2] rfl ?_
              exact hj249 _ _ _
            · refine s_aload_n C dJ10_afterNodeAccess_228 0 rfl rfl ?_
              refine s_aload C dJ10_afterNodeAccess_229 2 rfl ?_
              refine s_putR [22] C (fl1 ⟨by decide, fo_J10_11_22, rfl⟩) (pl_of e4 rfl) (fl1 (Or.inl rfl)) dJ10_afterNodeAccess_231 fun h17 => ?_
              refine s_goto C 249 dJ10_afterNodeAccess_234 (by decide) ?_
              refine Sim.keep [0, 2] rfl ?_
              exact hj249 _ _ _
          refine s_ifnull C 221 dJ10_afterNodeAccess_208 (by decide) ?_ ?_
          · refine s_aload C dJ10_afterNodeAccess_221 4 rfl ?_
            refine s_astore_n (la' := [(3, vr x6), (0, vr x0), (4, vr x4), (5, vr x5), (6, vr x6)]) C 3 dJ10_afterNodeAccess_223 rfl (lt_nl e5 rfl) rfl ?_
            refine Sim.keep [1, 0, 2] rfl ?_
            exact hj224 _ _ _ _
          · refine s_aload C dJ10_afterNodeAccess_211 3 rfl ?_
            refine s_aload C dJ10_afterNodeAccess_213 4 rfl ?_
            refine s_putR [31, 32] C (flc ⟨by decide, fo_J10_14_31, rfl⟩ (fl1 ⟨by decide, fo_J10_14_32, rfl⟩)) (pl_of e4 rfl) (flc (Or.inl rfl) (fl1 (Or.inl rfl))) dJ10_afterNodeAccess_215 fun h18 => ?_
            refine s_goto C 224 dJ10_afterNodeAccess_218 (by decide) ?_
            refine Sim.keep [0, 1, 2] rfl ?_
            exact hj224 _ _ _ _
        refine s_ifnonnull C 199 dJ10_afterNodeAccess_187 (by decide) ?_ ?_
        · refine s_aload C dJ10_afterNodeAccess_199 0 rfl ?_
          refine s_aload C dJ10_afterNodeAccess_201 1 rfl ?_
          refine s_putR [31, 32] C (flc ⟨by decide, fo_J10_19_31, rfl⟩ (fl1 ⟨by decide, fo_J10_19_32, rfl⟩)) (pl_of e4 rfl) (flc (Or.inl rfl) (fl1 (Or.inl rfl))) dJ10_afterNodeAccess_203 fun h19 => ?_
          refine Sim.keep [4, 3, 2, 1, 0] rfl ?_
          exact hj206 _ _ _ _ _ _
        · refine s_aload_n C dJ10_afterNodeAccess_190 4 rfl rfl ?_
          refine s_aload C dJ10_afterNodeAccess_191 1 rfl ?_
          refine s_putR [22] C (fl1 ⟨by decide, fo_J10_11_22, rfl⟩) (pl_of e4 rfl) (fl1 (Or.inl rfl)) dJ10_afterNodeAccess_193 fun h20 => ?_
          refine s_goto C 206 dJ10_afterNodeAccess_196 (by decide) ?_
          refine Sim.keep [4, 3, 2, 1, 0] rfl ?_
          exact hj206 _ _ _ _ _ _
  have hj22 : ∀ (x0 : Nat) (x1 : Nat) (h21 : Hp), Sim id E (QM id E finV) h21 22 [(0, vr x0), (1, vr x1)] [] (g_LinkedHashMap_afterNodeAccess_j22 x0 x1 h21) := by
    intro x0 x1 h21
    refine s_aload_n C dJ10_afterNodeAccess_22 0 rfl rfl ?_
    refine s_getR [22] C (fl1 ⟨fo_J10_11_22, rfl⟩) (pl_of e4 rfl) dJ10_afterNodeAccess_23 fun a22 => ?_
    refine s_dup C dJ10_afterNodeAccess_26 rfl ?_
    refine s_astore_n (la' := [(2, vr a22), (0, vr x0), (1, vr x1)]) C 2 dJ10_afterNodeAccess_27 rfl (lt_nl e5 rfl) rfl ?_
    refine s_aload_n C dJ10_afterNodeAccess_28 2 rfl rfl ?_
    refine s_acmp_eq 141 C dJ10_afterNodeAccess_29 (by decide) ?_ ?_
    · refine Sim.keep [1, 2] rfl ?_
      exact hj141 _ _ _
    · refine s_aload_n C dJ10_afterNodeAccess_32 2 rfl rfl ?_
      refine s_cast [31, 32] "java/util/LinkedHashMap$Entry" C q1302 (flc ao_java_util_LinkedHashMap_Entry_31 (fl1 ao_java_util_LinkedHashMap_Entry_32)) dJ10_afterNodeAccess_33 ?_
      refine s_astore (la' := [(4, vr x1), (2, vr a22), (0, vr x0), (1, vr x1)]) C dJ10_afterNodeAccess_36 (lt_nl e5 rfl) rfl ?_
      refine s_aload C dJ10_afterNodeAccess_38 0 rfl ?_
      refine s_getR [31, 32] C (flc ⟨fo_J10_19_31, rfl⟩ (fl1 ⟨fo_J10_19_32, rfl⟩)) (pl_of e4 rfl) dJ10_afterNodeAccess_40 fun a23 => ?_
      refine s_astore (la' := [(5, vr a23), (4, vr x1), (2, vr a22), (0, vr x0), (1, vr x1)]) C dJ10_afterNodeAccess_43 (lt_nl e5 rfl) rfl ?_
      refine s_aload C dJ10_afterNodeAccess_45 1 rfl ?_
      refine s_getR [31, 32] C (flc ⟨fo_J10_14_31, rfl⟩ (fl1 ⟨fo_J10_14_32, rfl⟩)) (pl_of e4 rfl) dJ10_afterNodeAccess_47 fun a24 => ?_
      refine s_astore (la' := [(6, vr a24), (5, vr a23), (4, vr x1), (2, vr a22), (0, vr x0), (1, vr x1)]) C dJ10_afterNodeAccess_50 (lt_nl e5 rfl) rfl ?_
      refine s_aload C dJ10_afterNodeAccess_52 2 rfl ?_
      refine s_null C dJ10_afterNodeAccess_54 ?_
      refine s_putR [31, 32] C (flc ⟨by decide, fo_J10_14_31, rfl⟩ (fl1 ⟨by decide, fo_J10_14_32, rfl⟩)) (pl_of e4 rfl) (flc (Or.inl rfl) (fl1 (Or.inl rfl))) dJ10_afterNodeAccess_55 fun h25 => ?_
      refine s_aload C dJ10_afterNodeAccess_58 1 rfl ?_
      have hj79 : ∀ (x0 : Nat) (x2 : Nat) (x4 : Nat) (x5 : Nat) (x6 : Nat) (h26 : Hp), Sim id E (QM id E finV) h26 79 [(0, vr x0), (2, vr x2), (4, vr x4), (5, vr x5), (6, vr x6)] [] (g_LinkedHashMap_afterNodeAccess_j79 x0 x2 x4 x5 x6 h26) := by
        intro x0 x2 x4 x5 x6 h26
        refine s_aload C dJ10_afterNodeAccess_79 4 rfl ?_
        have hj97 : ∀ (x0 : Nat) (x2 : Nat) (x4 : Nat) (h27 : Hp), Sim id E (QM id E finV) h27 97 [(0, vr x0), (2, vr x2), (4, vr x4)] [] (g_LinkedHashMap_afterNodeAccess_j97 x0 x2 x4 h27) := by
          intro x0 x2 x4 h27
          refine s_aload_n C dJ10_afterNodeAccess_97 1 rfl rfl ?_
          have hj122 : ∀ (x0 : Nat) (x4 : Nat) (h28 : Hp), Sim id E (QM id E finV) h28 122 [(0, vr x0), (4, vr x4)] [] (g_LinkedHashMap_afterNodeAccess_j122 x0 x4 h28) := by
            intro x0 x4 h28
            refine s_aload_n C dJ10_afterNodeAccess_122 0 rfl rfl ?_
            refine s_aload C dJ10_afterNodeAccess_123 1 rfl ?_
            refine s_putR [22] C (fl1 ⟨by decide, fo_J10_11_22, rfl⟩) (pl_of e4 rfl) (fl1 (Or.inl rfl)) dJ10_afterNodeAccess_125 fun h29 => ?_
            refine s_aload_n C dJ10_afterNodeAccess_128 0 rfl rfl ?_
            refine s_dup C dJ10_afterNodeAccess_129 rfl ?_
            refine s_getI [22, 33] C (flc ⟨fo_J10_68_22, rfl⟩ (fl1 ⟨fo_J10_68_33, rfl⟩)) (pl_of e4 rfl) dJ10_afterNodeAccess_130 fun a30 => ?_
            refine s_iconst C (1 : Int32) dJ10_afterNodeAccess_133 (by decide) ?_
            refine s_iadd C dJ10_afterNodeAccess_134 ?_
            refine s_putI [22, 33] 0 C (by decide) (by decide) (flc ⟨⟨by decide, fo_J10_68_22, rfl⟩, rfl⟩ (fl1 ⟨⟨by decide, fo_J10_68_33, rfl⟩, rfl⟩)) (pl_of e4 rfl) (flc (Or.inl rfl) (fl1 (Or.inl rfl))) dJ10_afterNodeAccess_135 fun h31 => ?_
            refine s_goto C 265 dJ10_afterNodeAccess_138 (by decide) ?_
            refine Sim.keep [] rfl ?_
            exact hj265 _
          refine s_ifnonnull C 110 dJ10_afterNodeAccess_98 (by decide) ?_ ?_
          · refine s_aload C dJ10_afterNodeAccess_110 2 rfl ?_
            refine s_aload_n C dJ10_afterNodeAccess_112 1 rfl rfl ?_
            refine s_putR [31, 32] C (flc ⟨by decide, fo_J10_19_31, rfl⟩ (fl1 ⟨by decide, fo_J10_19_32, rfl⟩)) (pl_of e4 rfl) (flc (Or.inl rfl) (fl1 (Or.inl rfl))) dJ10_afterNodeAccess_113 fun h32 => ?_
            refine s_aload_n C dJ10_afterNodeAccess_116 1 rfl rfl ?_
            refine s_aload C dJ10_afterNodeAccess_117 2 rfl ?_
            refine s_putR [31, 32] C (flc ⟨by decide, fo_J10_14_31, rfl⟩ (fl1 ⟨by decide, fo_J10_14_32, rfl⟩)) (pl_of e4 rfl) (flc (Or.inl rfl) (fl1 (Or.inl rfl))) dJ10_afterNodeAccess_119 fun h33 => ?_
            refine Sim.keep [0, 2] rfl ?_
            exact hj122 _ _ _
          · refine s_aload_n C dJ10_afterNodeAccess_101 0 rfl rfl ?_
            refine s_aload C dJ10_afterNodeAccess_102 2 rfl ?_
            refine s_putR [22] C (fl1 ⟨by decide, fo_J10_7_22, rfl⟩) (pl_of e4 rfl) (fl1 (Or.inl rfl)) dJ10_afterNodeAccess_104 fun h34 => ?_
            refine s_goto C 122 dJ10_afterNodeAccess_107 (by decide) ?_
            refine Sim.keep [0, 2] rfl ?_
            exact hj122 _ _ _
        refine s_ifnull C 94 dJ10_afterNodeAccess_81 (by decide) ?_ ?_
        · refine s_aload C dJ10_afterNodeAccess_94 3 rfl ?_
          refine s_astore_n (la' := [(2, vr x5), (0, vr x0), (4, vr x4), (5, vr x5), (6, vr x6)]) C 2 dJ10_afterNodeAccess_96 rfl (lt_nl e5 rfl) rfl ?_
          refine Sim.keep [1, 0, 2] rfl ?_
          exact hj97 _ _ _ _
        · refine s_aload C dJ10_afterNodeAccess_84 4 rfl ?_
          refine s_aload C dJ10_afterNodeAccess_86 3 rfl ?_
          refine s_putR [31, 32] C (flc ⟨by decide, fo_J10_19_31, rfl⟩ (fl1 ⟨by decide, fo_J10_19_32, rfl⟩)) (pl_of e4 rfl) (flc (Or.inl rfl) (fl1 (Or.inl rfl))) dJ10_afterNodeAccess_88 fun h35 => ?_
          refine s_goto C 97 dJ10_afterNodeAccess_91 (by decide) ?_
          refine Sim.keep [0, 1, 2] rfl ?_
          exact hj97 _ _ _ _
      refine s_ifnonnull C 72 dJ10_afterNodeAccess_60 (by decide) ?_ ?_
      · refine s_aload C dJ10_afterNodeAccess_72 1 rfl ?_
        refine s_aload C dJ10_afterNodeAccess_74 0 rfl ?_
        refine s_putR [31, 32] C (flc ⟨by decide, fo_J10_14_31, rfl⟩ (fl1 ⟨by decide, fo_J10_14_32, rfl⟩)) (pl_of e4 rfl) (flc (Or.inl rfl) (fl1 (Or.inl rfl))) dJ10_afterNodeAccess_76 fun h36 => ?_
        refine Sim.keep [4, 3, 2, 1, 0] rfl ?_
        exact hj79 _ _ _ _ _ _
      · refine s_aload_n C dJ10_afterNodeAccess_63 4 rfl rfl ?_
        refine s_aload C dJ10_afterNodeAccess_64 0 rfl ?_
        refine s_putR [22] C (fl1 ⟨by decide, fo_J10_7_22, rfl⟩) (pl_of e4 rfl) (fl1 (Or.inl rfl)) dJ10_afterNodeAccess_66 fun h37 => ?_
        refine s_goto C 79 dJ10_afterNodeAccess_69 (by decide) ?_
        refine Sim.keep [4, 3, 2, 1, 0] rfl ?_
        exact hj79 _ _ _ _ _ _
  refine s_icmp_eq C 22 dJ10_afterNodeAccess_5 (by decide) ?_ ?_
  · exact hj22 _ _ _
  · refine s_aload_n C dJ10_afterNodeAccess_8 0 rfl rfl ?_
    refine s_getI [22] C (fl1 ⟨fo_J10_1_22, rfl⟩) (pl_of e4 rfl) dJ10_afterNodeAccess_9 fun a38 => ?_
    refine s_if_ne C 141 dJ10_afterNodeAccess_12 (by decide) ?_ ?_
    · exact hj141 _ _ _
    · refine s_aload_n C dJ10_afterNodeAccess_15 0 rfl rfl ?_
      refine s_getI [22] C (fl1 ⟨fo_J10_64_22, rfl⟩) (pl_of e4 rfl) dJ10_afterNodeAccess_16 fun a39 => ?_
      refine s_if_eq C 141 dJ10_afterNodeAccess_19 (by decide) ?_ ?_
      · exact hj141 _ _ _
      · exact hj22 _ _ _

def g_LinkedHashMap_afterNodeInsertion_j39  (h1 : Hp) : Option (Unit × Hp) :=
  some ((), h1)
def g_LinkedHashMap_afterNodeInsertion (x0 : Nat) (x1 : Int32) (h : Hp) : Option (Unit × Hp) :=
  if x1 = 0 then
    g_LinkedHashMap_afterNodeInsertion_j39 h
  else
    (getR [22] 8 x0 h).bind fun a2 =>
    if a2 = 0 then
      g_LinkedHashMap_afterNodeInsertion_j39 h
    else
      none
theorem ct_g_LinkedHashMap_afterNodeInsertion {G : Gx} {RL : Lv} {l : Launch} (hL : LvA G RL plR) (x0 : Nat) (x1 : Int32) (h : Hp) : Ct id G RL l yJ10_afterNodeInsertion (ws_ yJ10_afterNodeInsertion cJ10_afterNodeInsertion 4 none) 0 0 finV [vr x0, .int x1] h (g_LinkedHashMap_afterNodeInsertion x0 x1 h) := by
  refine Ct.of (Pl := plR) [(0, vr x0), (1, .int x1)] (by decide) hL rfl (Nat.le_of_ble_eq_true rfl) ?_
  intro E C e6 hf hlo e1 e2 e3 e4 e5
  subst e1; subst e2; subst e3
  replace C : Cx E cJ10_afterNodeInsertion none RJ10 := C
  replace e6 : (eMe E).name = "afterNodeInsertion" := e6
  unfold g_LinkedHashMap_afterNodeInsertion
  refine s_iload_n C dJ10_afterNodeInsertion_0 1 rfl rfl ?_
  have hj39 : ∀  (h1 : Hp), Sim id E (QM id E finV) h1 39 [] [] (g_LinkedHashMap_afterNodeInsertion_j39 h1) := by
    intro h1
    exact s_vret C rfl dJ10_afterNodeInsertion_39
  refine s_if_eq C 39 dJ10_afterNodeInsertion_1 (by decide) ?_ ?_
  · refine Sim.keep [] rfl ?_
    exact hj39 _
  · refine s_aload_n C dJ10_afterNodeInsertion_4 0 rfl rfl ?_
    refine s_getR [22] C (fl1 ⟨fo_J10_7_22, rfl⟩) (pl_of e4 rfl) dJ10_afterNodeInsertion_5 fun a2 => ?_
    refine s_dup C dJ10_afterNodeInsertion_8 rfl ?_
    refine s_astore_n (la' := [(2, vr a2), (0, vr x0), (1, .int x1)]) C 2 dJ10_afterNodeInsertion_9 rfl (lt_nl e5 rfl) rfl ?_
    refine s_ifnull C 39 dJ10_afterNodeInsertion_10 (by decide) ?_ ?_
    · refine Sim.keep [] rfl ?_
      exact hj39 _
    · refine s_aload_n C dJ10_afterNodeInsertion_13 1 rfl rfl ?_
      refine s_aload_n C dJ10_afterNodeInsertion_14 0 rfl rfl ?_
      exact sim_none

def g_LinkedHashMap_newNode (x0 : Nat) (x1 : Int32) (x2 : Nat) (x3 : Nat) (x4 : Nat) (h : Hp) : Option (Nat × Hp) :=
  bn (newO 31 6 h) fun o1 h2 =>
  bn (g_LinkedHashMapEntry_init o1 x1 x2 x3 x4 h2) fun _ h3 =>
  bn (dsp (tg h3 x0 % 500) none [(22, g_LinkedHashMap_linkNodeAtEnd x0 o1 h3)]) fun _ h4 =>
  some (o1, h4)
theorem ct_g_LinkedHashMap_newNode {G : Gx} {RL : Lv} {l : Launch} (hL : LvA G RL plR) (x0 : Nat) (x1 : Int32) (x2 : Nat) (x3 : Nat) (x4 : Nat) (h : Hp) : Ct id G RL l yJ10_newNode (ws_ yJ10_newNode cJ10_newNode 6 (some (.object "java/util/HashMap$Node"))) 3 68 finR [vr x0, .int x1, vr x2, vr x3, vr x4] h (g_LinkedHashMap_newNode x0 x1 x2 x3 x4 h) := by
  refine Ct.of (Pl := plR) [(0, vr x0), (1, .int x1), (2, vr x2), (3, vr x3), (4, vr x4)] (by decide) hL rfl (Nat.le_of_ble_eq_true rfl) ?_
  intro E C e6 hf hlo e1 e2 e3 e4 e5
  subst e1; subst e2; subst e3
  replace C : Cx E cJ10_newNode (some (.object "java/util/HashMap$Node")) RJ10 := C
  replace e6 : (eMe E).name = "newNode" := e6
  unfold g_LinkedHashMap_newNode
  refine s_newO 31 6 C no_J10_15 (pl_of1 e4 rfl) dJ10_newNode_0 fun o1 h2 zo1 => ?_
  refine s_dup C dJ10_newNode_3 rfl ?_
  refine s_iload_n C dJ10_newNode_4 1 rfl rfl ?_
  refine s_aload_n C dJ10_newNode_5 2 rfl rfl ?_
  refine s_aload_n C dJ10_newNode_6 3 rfl rfl ?_
  refine s_aload C dJ10_newNode_7 4 rfl ?_
  refine c_I C 4 [vr o1] zo1 (ct_g_LinkedHashMapEntry_init hL o1 x1 x2 x3 x4 h2) (lw_meth q1896) q154 q1894 q1895 rfl nd_J35_init.2 rfl (le_fr hf rfl) (le_fr hlo rfl) rfl (Nat.le_of_ble_eq_true rfl) dJ10_newNode_9 fun _ h3 => ?_
  refine s_astore (la' := [(5, vr o1), (0, vr x0), (1, .int x1), (2, vr x2), (3, vr x3), (4, vr x4)]) C dJ10_newNode_12 (lt_nl e5 rfl) rfl ?_
  refine s_aload_n C dJ10_newNode_14 1 rfl rfl ?_
  refine s_aload C dJ10_newNode_15 0 rfl ?_
  refine s_dk 20 finV [] (fun _ h4 => ?_) (fun hk => s_dsp 22 (fun ht => c_V C 1 [] 22 RJ10 ro_22 (ct_g_LinkedHashMap_linkNodeAtEnd hL x0 o1 h3) (lw_V q1980 q1982 qs18 q120 q1983) nd_J10_linkNodeAtEnd rfl (le_fr hf rfl) (le_fr hlo rfl) rfl (Nat.le_of_ble_eq_true rfl) dJ10_newNode_17 hk ht) s_dsp0)
  refine s_aload C dJ10_newNode_20 0 rfl ?_
  exact s_aret C (Or.inl ⟨_, rfl⟩) rfl dJ10_newNode_22

def g_HashMap_putVal_j292 (x0 : Nat) (x5 : Int32) (h11 : Hp) : Option (Nat × Hp) :=
  bn (dsp (tg h11 x0 % 500) none [(22, g_LinkedHashMap_afterNodeInsertion x0 x5 h11), (33, g_HashMap_afterNodeInsertion x0 x5 h11)]) fun _ h12 =>
  some (0, h12)
def g_HashMap_putVal_j259 (x0 : Nat) (x5 : Int32) (h5 : Hp) : Option (Nat × Hp) :=
  (getI [22, 33] 5 x0 h5).bind fun a6 =>
  (putI [22, 33] 0 5 x0 (a6 + (1 : Int32)) h5).bind fun h7 =>
  (getI [22, 33] 4 x0 h7).bind fun a8 =>
  (putI [22, 33] 0 4 x0 (a8 + (1 : Int32)) h7).bind fun h9 =>
  (getI [22, 33] 6 x0 h9).bind fun a10 =>
  if (a8 + (1 : Int32)) ≤ a10 then
    g_HashMap_putVal_j292 x0 x5 h9
  else
    bn (dsp (tg h9 x0 % 500) none [(22, g_HashMap_resize x0 h9), (33, g_HashMap_resize x0 h9)]) fun r13 h14 =>
    g_HashMap_putVal_j292 x0 x5 h14
def g_HashMap_putVal_j250 (x0 : Nat) (x10 : Nat) (x12 : Nat) (h18 : Hp) : Option (Nat × Hp) :=
  bn (dsp (tg h18 x0 % 500) none [(22, g_LinkedHashMap_afterNodeAccess x0 x10 h18), (33, g_HashMap_afterNodeAccess x0 x10 h18)]) fun _ h19 =>
  some (x12, h19)
def g_HashMap_putVal_j244 (x0 : Nat) (x3 : Nat) (x10 : Nat) (x12 : Nat) (h20 : Hp) : Option (Nat × Hp) :=
  (putR [30, 31, 32] 2 x10 x3 h20).bind fun h21 =>
  g_HashMap_putVal_j250 x0 x10 x12 h21
def g_HashMap_putVal_j222 (x0 : Nat) (x3 : Nat) (x4 : Int32) (x5 : Int32) (x10 : Nat) (h16 : Hp) : Option (Nat × Hp) :=
  if x10 = 0 then
    g_HashMap_putVal_j259 x0 x5 h16
  else
    (getR [30, 31, 32] 2 x10 h16).bind fun a17 =>
    if x4 = 0 then
      g_HashMap_putVal_j244 x0 x3 x10 a17 h16
    else
      if a17 = 0 then
        g_HashMap_putVal_j244 x0 x3 x10 a17 h16
      else
        g_HashMap_putVal_j250 x0 x10 a17 h16
def g_HashMap_putVal_j212 (rec134 : (Nat × Int32) → Hp → Option (Nat × Hp)) (x0 : Nat) (x1 : Int32) (x2 : Nat) (x3 : Nat) (x4 : Int32) (x5 : Int32) (x6 : Nat) (x10 : Nat) (x12 : Int32) (h27 : Hp) : Option (Nat × Hp) :=
  rec134 (x10, (x12 + (1 : Int32))) h27
def g_HashMap_putVal_L134 (x0 : Nat) (x1 : Int32) (x2 : Nat) (x3 : Nat) (x4 : Int32) (x5 : Int32) (x6 : Nat) : (Nat × Int32) → Hp → Option (Nat × Hp) :=
  lp FU fun rec134 v134 h24 =>
    (getR [30, 31, 32] 3 v134.1 h24).bind fun a25 =>
    if a25 = 0 then
      bn (dsp (tg h24 x0 % 500) none [(22, g_LinkedHashMap_newNode x0 x1 x2 x3 0 h24), (33, g_HashMap_newNode x0 x1 x2 x3 0 h24)]) fun r31 h32 =>
      (putR [30, 31, 32] 3 v134.1 r31 h32).bind fun h33 =>
      if v134.2 < (7 : Int32) then
        g_HashMap_putVal_j222 x0 x3 x4 x5 a25 h33
      else
        bn (dsp (tg h33 x0 % 500) none [(22, g_HashMap_treeifyBin x0 x6 x1 h33), (33, g_HashMap_treeifyBin x0 x6 x1 h33)]) fun _ h34 =>
        g_HashMap_putVal_j222 x0 x3 x4 x5 a25 h34
    else
      (getI [30, 31, 32] 0 a25 h24).bind fun a26 =>
      if a26 = x1 then
        (getR [30, 31, 32] 1 a25 h24).bind fun a28 =>
        if a28 = x2 then
          g_HashMap_putVal_j222 x0 x3 x4 x5 a25 h24
        else
          if x2 = 0 then
            g_HashMap_putVal_j212 rec134 x0 x1 x2 x3 x4 x5 x6 a25 v134.2 h24
          else
            bn (dsp (tg h24 x2 % 500) none [(10, g_Link_equals x2 a28 h24), (12, g_Vote_equals x2 a28 h24), (28, g_String_equals x2 a28 h24), (35, g_Integer_equals x2 a28 h24)]) fun r29 h30 =>
            if r29 = 0 then
              g_HashMap_putVal_j212 rec134 x0 x1 x2 x3 x4 x5 x6 a25 v134.2 h30
            else
              g_HashMap_putVal_j222 x0 x3 x4 x5 a25 h30
      else
        g_HashMap_putVal_j212 rec134 x0 x1 x2 x3 x4 x5 x6 a25 v134.2 h24
def g_HashMap_putVal_j104 (x0 : Nat) (x1 : Int32) (x2 : Nat) (x3 : Nat) (x4 : Int32) (x5 : Int32) (x6 : Nat) (x7 : Nat) (h22 : Hp) : Option (Nat × Hp) :=
  (ins [32] [] x7 h22).bind fun a23 =>
  if a23 = 0 then
    g_HashMap_putVal_L134 x0 x1 x2 x3 x4 x5 x6 (x7, (0 : Int32)) h22
  else
    (cst [32] x7 h22).bind fun _ =>
    bn (dsp (tg h22 x7 % 500) none [(32, g_HashMapTreeNode_putTreeVal x7 x0 x6 x1 x2 x3 h22)]) fun r35 h36 =>
    g_HashMap_putVal_j222 x0 x3 x4 x5 r35 h36
def g_HashMap_putVal_j97 (x0 : Nat) (x3 : Nat) (x4 : Int32) (x5 : Int32) (x7 : Nat) (h38 : Hp) : Option (Nat × Hp) :=
  g_HashMap_putVal_j222 x0 x3 x4 x5 x7 h38
def g_HashMap_putVal_j29 (x0 : Nat) (x1 : Int32) (x2 : Nat) (x3 : Nat) (x4 : Int32) (x5 : Int32) (x6 : Nat) (x8 : Int32) (h2 : Hp) : Option (Nat × Hp) :=
  bd (((x8 - (1 : Int32)) &&& x1)) fun a3 =>
  (aldR [206] x6 ((x8 - (1 : Int32)) &&& x1) h2).bind fun a4 =>
  if a4 = 0 then
    bn (dsp (tg h2 x0 % 500) none [(22, g_LinkedHashMap_newNode x0 x1 x2 x3 0 h2), (33, g_HashMap_newNode x0 x1 x2 x3 0 h2)]) fun r41 h42 =>
    (astR [206] [30, 31, 32] x6 a3 r41 h42).bind fun h43 =>
    g_HashMap_putVal_j259 x0 x5 h43
  else
    (getI [30, 31, 32] 0 a4 h2).bind fun a15 =>
    if a15 = x1 then
      (getR [30, 31, 32] 1 a4 h2).bind fun a37 =>
      if a37 = x2 then
        g_HashMap_putVal_j97 x0 x3 x4 x5 a4 h2
      else
        if x2 = 0 then
          g_HashMap_putVal_j104 x0 x1 x2 x3 x4 x5 x6 a4 h2
        else
          bn (dsp (tg h2 x2 % 500) none [(10, g_Link_equals x2 a37 h2), (12, g_Vote_equals x2 a37 h2), (28, g_String_equals x2 a37 h2), (35, g_Integer_equals x2 a37 h2)]) fun r39 h40 =>
          if r39 = 0 then
            g_HashMap_putVal_j104 x0 x1 x2 x3 x4 x5 x6 a4 h40
          else
            g_HashMap_putVal_j97 x0 x3 x4 x5 a4 h40
    else
      g_HashMap_putVal_j104 x0 x1 x2 x3 x4 x5 x6 a4 h2
def g_HashMap_putVal_j19 (x0 : Nat) (x1 : Int32) (x2 : Nat) (x3 : Nat) (x4 : Int32) (x5 : Int32) (h44 : Hp) : Option (Nat × Hp) :=
  bn (dsp (tg h44 x0 % 500) none [(22, g_HashMap_resize x0 h44), (33, g_HashMap_resize x0 h44)]) fun r45 h46 =>
  (alen [206] r45 h46).bind fun a47 =>
  g_HashMap_putVal_j29 x0 x1 x2 x3 x4 x5 r45 a47 h46
def g_HashMap_putVal (x0 : Nat) (x1 : Int32) (x2 : Nat) (x3 : Nat) (x4 : Int32) (x5 : Int32) (h : Hp) : Option (Nat × Hp) :=
  (getR [22, 33] 2 x0 h).bind fun a1 =>
  if a1 = 0 then
    g_HashMap_putVal_j19 x0 x1 x2 x3 x4 x5 h
  else
    (alen [206] a1 h).bind fun a48 =>
    if a48 = 0 then
      g_HashMap_putVal_j19 x0 x1 x2 x3 x4 x5 h
    else
      g_HashMap_putVal_j29 x0 x1 x2 x3 x4 x5 a1 a48 h
theorem ct_g_HashMap_putVal {G : Gx} {RL : Lv} {l : Launch} (hL : LvA G RL plR) (x0 : Nat) (x1 : Int32) (x2 : Nat) (x3 : Nat) (x4 : Int32) (x5 : Int32) (h : Hp) : Ct id G RL l yJ4_putVal (ws_ yJ4_putVal cJ4_putVal 13 (some (.object "java/lang/Object"))) 6 152 finR [vr x0, .int x1, vr x2, vr x3, .int x4, .int x5] h (g_HashMap_putVal x0 x1 x2 x3 x4 x5 h) := by
  refine Ct.of (Pl := plR) [(0, vr x0), (1, .int x1), (2, vr x2), (3, vr x3), (4, .int x4), (5, .int x5)] (by decide) hL rfl (Nat.le_of_ble_eq_true rfl) ?_
  intro E C e6 hf hlo e1 e2 e3 e4 e5
  subst e1; subst e2; subst e3
  replace C : Cx E cJ4_putVal (some (.object "java/lang/Object")) RJ4 := C
  replace e6 : (eMe E).name = "putVal" := e6
  unfold g_HashMap_putVal
  refine s_aload_n C dJ4_putVal_0 0 rfl rfl ?_
  refine s_getR [22, 33] C (flc ⟨fo_J4_105_22, rfl⟩ (fl1 ⟨fo_J4_105_33, rfl⟩)) (pl_of e4 rfl) dJ4_putVal_1 fun a1 => ?_
  refine s_dup C dJ4_putVal_4 rfl ?_
  refine s_astore (la' := [(6, vr a1), (0, vr x0), (1, .int x1), (2, vr x2), (3, vr x3), (4, .int x4), (5, .int x5)]) C dJ4_putVal_5 (lt_nl e5 rfl) rfl ?_
  have hj29 : ∀ (x0 : Nat) (x1 : Int32) (x2 : Nat) (x3 : Nat) (x4 : Int32) (x5 : Int32) (x6 : Nat) (x8 : Int32) (h2 : Hp), Sim id E (QM id E finR) h2 29 [(0, vr x0), (1, .int x1), (2, vr x2), (3, vr x3), (4, .int x4), (5, .int x5), (6, vr x6), (8, .int x8)] [] (g_HashMap_putVal_j29 x0 x1 x2 x3 x4 x5 x6 x8 h2) := by
    intro x0 x1 x2 x3 x4 x5 x6 x8 h2
    refine s_aload C dJ4_putVal_29 6 rfl ?_
    refine s_iload C dJ4_putVal_31 7 rfl ?_
    refine s_iconst C (1 : Int32) dJ4_putVal_33 (by decide) ?_
    refine s_isub C dJ4_putVal_34 ?_
    refine s_iload_n C dJ4_putVal_35 1 rfl rfl ?_
    refine s_iand C dJ4_putVal_36 ?_
    refine s_dup C dJ4_putVal_37 rfl ?_
    refine s_bdi fun a3 => ?_
    refine s_istore (la' := [(9, .int a3), (0, vr x0), (1, .int x1), (2, vr x2), (3, vr x3), (4, .int x4), (5, .int x5), (6, vr x6), (8, .int x8)]) C dJ4_putVal_38 (lt_nl e5 rfl) rfl ?_
    refine s_aald [206] 6 C (by decide) (fl1 rfl) (pl_of e4 rfl) dJ4_putVal_40 fun a4 => ?_
    refine s_dup C dJ4_putVal_41 rfl ?_
    refine s_astore (la' := [(7, vr a4), (9, .int a3), (0, vr x0), (1, .int x1), (2, vr x2), (3, vr x3), (4, .int x4), (5, .int x5), (6, vr x6), (8, .int x8)]) C dJ4_putVal_42 (lt_nl e5 rfl) rfl ?_
    have hj259 : ∀ (x0 : Nat) (x5 : Int32) (h5 : Hp), Sim id E (QM id E finR) h5 259 [(0, vr x0), (5, .int x5)] [] (g_HashMap_putVal_j259 x0 x5 h5) := by
      intro x0 x5 h5
      refine s_aload_n C dJ4_putVal_259 0 rfl rfl ?_
      refine s_dup C dJ4_putVal_260 rfl ?_
      refine s_getI [22, 33] C (flc ⟨fo_J4_202_22, rfl⟩ (fl1 ⟨fo_J4_202_33, rfl⟩)) (pl_of e4 rfl) dJ4_putVal_261 fun a6 => ?_
      refine s_iconst C (1 : Int32) dJ4_putVal_264 (by decide) ?_
      refine s_iadd C dJ4_putVal_265 ?_
      refine s_putI [22, 33] 0 C (by decide) (by decide) (flc ⟨⟨by decide, fo_J4_202_22, rfl⟩, rfl⟩ (fl1 ⟨⟨by decide, fo_J4_202_33, rfl⟩, rfl⟩)) (pl_of e4 rfl) (flc (Or.inl rfl) (fl1 (Or.inl rfl))) dJ4_putVal_266 fun h7 => ?_
      refine s_aload_n C dJ4_putVal_269 0 rfl rfl ?_
      refine s_dup C dJ4_putVal_270 rfl ?_
      refine s_getI [22, 33] C (flc ⟨fo_J4_156_22, rfl⟩ (fl1 ⟨fo_J4_156_33, rfl⟩)) (pl_of e4 rfl) dJ4_putVal_271 fun a8 => ?_
      refine s_iconst C (1 : Int32) dJ4_putVal_274 (by decide) ?_
      refine s_iadd C dJ4_putVal_275 ?_
      refine s_dup_x1 C dJ4_putVal_276 rfl rfl ?_
      refine s_putI [22, 33] 0 C (by decide) (by decide) (flc ⟨⟨by decide, fo_J4_156_22, rfl⟩, rfl⟩ (fl1 ⟨⟨by decide, fo_J4_156_33, rfl⟩, rfl⟩)) (pl_of e4 rfl) (flc (Or.inl rfl) (fl1 (Or.inl rfl))) dJ4_putVal_277 fun h9 => ?_
      refine s_aload_n C dJ4_putVal_280 0 rfl rfl ?_
      refine s_getI [22, 33] C (flc ⟨fo_J4_88_22, rfl⟩ (fl1 ⟨fo_J4_88_33, rfl⟩)) (pl_of e4 rfl) dJ4_putVal_281 fun a10 => ?_
      have hj292 : ∀ (x0 : Nat) (x5 : Int32) (h11 : Hp), Sim id E (QM id E finR) h11 292 [(0, vr x0), (5, .int x5)] [] (g_HashMap_putVal_j292 x0 x5 h11) := by
        intro x0 x5 h11
        refine s_aload_n C dJ4_putVal_292 0 rfl rfl ?_
        refine s_iload C dJ4_putVal_293 1 rfl ?_
        refine s_dk 298 finV [] (fun _ h12 => ?_) (fun hk => s_dsp 22 (fun ht => c_O C 1 [] 22 RJ10 _ ro_22 (ct_g_LinkedHashMap_afterNodeInsertion hL x0 x5 h11) (lw_O q2048 q2051 q2049 q2052 q2053 q120 q2054) q2059 ⟨by decide +kernel, by decide +kernel, by decide +kernel⟩ rfl (le_fr hf rfl) (le_fr hlo rfl) rfl (Nat.le_of_ble_eq_true rfl) dJ4_putVal_295 hk ht) (s_dsp 33 (fun ht => c_V C 1 [] 33 RJ4 ro_33 (ct_g_HashMap_afterNodeInsertion hL x0 x5 h11) (lw_V q2048 q2049 q2050 q113 q2059) nd_J4_afterNodeInsertion rfl (le_fr hf rfl) (le_fr hlo rfl) rfl (Nat.le_of_ble_eq_true rfl) dJ4_putVal_295 hk ht) s_dsp0))
        refine s_null C dJ4_putVal_298 ?_
        exact s_aret C (Or.inl ⟨_, rfl⟩) rfl dJ4_putVal_299
      refine s_icmp_le C 292 dJ4_putVal_284 (by decide) ?_ ?_
      · exact hj292 _ _ _
      · refine s_aload_n C dJ4_putVal_287 0 rfl rfl ?_
        refine s_dk 291 finR [] (fun r13 h14 => ?_) (fun hk => s_dsp 22 (fun ht => c_U C 0 [] 22 RJ10 _ ro_22 (ct_g_HashMap_resize hL x0 h9) (lw_U q1867 q1870 q1871 q1868 q113 q1872) rfl nd_J4_resize.2 rfl (le_fr hf rfl) (le_fr hlo rfl) rfl (Nat.le_of_ble_eq_true rfl) dJ4_putVal_288 hk ht) (s_dsp 33 (fun ht => c_V C 0 [] 33 RJ4 ro_33 (ct_g_HashMap_resize hL x0 h9) (lw_V q1867 q1868 q1869 q113 q1872) nd_J4_resize rfl (le_fr hf rfl) (le_fr hlo rfl) rfl (Nat.le_of_ble_eq_true rfl) dJ4_putVal_288 hk ht) s_dsp0))
        refine s_pop C dJ4_putVal_291 rfl ?_
        exact hj292 _ _ _
    refine s_ifnonnull C 63 dJ4_putVal_44 (by decide) ?_ ?_
    · refine s_aload C dJ4_putVal_63 0 rfl ?_
      refine s_getI [30, 31, 32] C (flc ⟨fo_J4_168_30, rfl⟩ (flc ⟨fo_J4_168_31, rfl⟩ (fl1 ⟨fo_J4_168_32, rfl⟩))) (pl_of e4 rfl) dJ4_putVal_65 fun a15 => ?_
      refine s_iload_n C dJ4_putVal_68 3 rfl rfl ?_
      have hj222 : ∀ (x0 : Nat) (x3 : Nat) (x4 : Int32) (x5 : Int32) (x10 : Nat) (h16 : Hp), Sim id E (QM id E finR) h16 222 [(0, vr x0), (3, vr x3), (4, .int x4), (5, .int x5), (10, vr x10)] [] (g_HashMap_putVal_j222 x0 x3 x4 x5 x10 h16) := by
        intro x0 x3 x4 x5 x10 h16
        refine s_aload C dJ4_putVal_222 4 rfl ?_
        refine s_ifnull C 259 dJ4_putVal_224 (by decide) ?_ ?_
        · refine Sim.keep [0, 3] rfl ?_
          exact hj259 _ _ _
        · refine s_aload C dJ4_putVal_227 4 rfl ?_
          refine s_getR [30, 31, 32] C (flc ⟨fo_J4_162_30, rfl⟩ (flc ⟨fo_J4_162_31, rfl⟩ (fl1 ⟨fo_J4_162_32, rfl⟩))) (pl_of e4 rfl) dJ4_putVal_229 fun a17 => ?_
          refine s_astore (la' := [(12, vr a17), (0, vr x0), (3, vr x3), (4, .int x4), (5, .int x5), (10, vr x10)]) C dJ4_putVal_232 (lt_nl e5 rfl) rfl ?_
          refine s_iload C dJ4_putVal_234 3 rfl ?_
          have hj250 : ∀ (x0 : Nat) (x10 : Nat) (x12 : Nat) (h18 : Hp), Sim id E (QM id E finR) h18 250 [(0, vr x0), (10, vr x10), (12, vr x12)] [] (g_HashMap_putVal_j250 x0 x10 x12 h18) := by
            intro x0 x10 x12 h18
            refine s_aload_n C dJ4_putVal_250 0 rfl rfl ?_
            refine s_aload C dJ4_putVal_251 1 rfl ?_
            refine s_dk 256 finV [] (fun _ h19 => ?_) (fun hk => s_dsp 22 (fun ht => c_O C 1 [] 22 RJ10 _ ro_22 (ct_g_LinkedHashMap_afterNodeAccess hL x0 x10 h18) (lw_O q2042 q2045 q2043 q2046 q1299 q120 q1301) q2047 ⟨by decide +kernel, by decide +kernel, by decide +kernel⟩ rfl (le_fr hf rfl) (le_fr hlo rfl) rfl (Nat.le_of_ble_eq_true rfl) dJ4_putVal_253 hk ht) (s_dsp 33 (fun ht => c_V C 1 [] 33 RJ4 ro_33 (ct_g_HashMap_afterNodeAccess hL x0 x10 h18) (lw_V q2042 q2043 q2044 q113 q2047) nd_J4_afterNodeAccess rfl (le_fr hf rfl) (le_fr hlo rfl) rfl (Nat.le_of_ble_eq_true rfl) dJ4_putVal_253 hk ht) s_dsp0))
            refine s_aload C dJ4_putVal_256 2 rfl ?_
            exact s_aret C (Or.inl ⟨_, rfl⟩) rfl dJ4_putVal_258
          have hj244 : ∀ (x0 : Nat) (x3 : Nat) (x10 : Nat) (x12 : Nat) (h20 : Hp), Sim id E (QM id E finR) h20 244 [(0, vr x0), (3, vr x3), (10, vr x10), (12, vr x12)] [] (g_HashMap_putVal_j244 x0 x3 x10 x12 h20) := by
            intro x0 x3 x10 x12 h20
            refine s_aload C dJ4_putVal_244 2 rfl ?_
            refine s_aload_n C dJ4_putVal_246 1 rfl rfl ?_
            refine s_putR [30, 31, 32] C (flc ⟨by decide, fo_J4_162_30, rfl⟩ (flc ⟨by decide, fo_J4_162_31, rfl⟩ (fl1 ⟨by decide, fo_J4_162_32, rfl⟩))) (pl_of e4 rfl) (flc (Or.inl rfl) (flc (Or.inl rfl) (fl1 (Or.inl rfl)))) dJ4_putVal_247 fun h21 => ?_
            refine Sim.keep [0, 2, 3] rfl ?_
            exact hj250 _ _ _ _
          refine s_if_eq C 244 dJ4_putVal_236 (by decide) ?_ ?_
          · refine Sim.keep [1, 2, 5, 0] rfl ?_
            exact hj244 _ _ _ _ _
          · refine s_aload C dJ4_putVal_239 0 rfl ?_
            refine s_ifnonnull C 250 dJ4_putVal_241 (by decide) ?_ ?_
            · refine Sim.keep [1, 5, 0] rfl ?_
              exact hj250 _ _ _ _
            · refine Sim.keep [1, 2, 5, 0] rfl ?_
              exact hj244 _ _ _ _ _
      have hj104 : ∀ (x0 : Nat) (x1 : Int32) (x2 : Nat) (x3 : Nat) (x4 : Int32) (x5 : Int32) (x6 : Nat) (x7 : Nat) (h22 : Hp), Sim id E (QM id E finR) h22 104 [(0, vr x0), (1, .int x1), (2, vr x2), (3, vr x3), (4, .int x4), (5, .int x5), (6, vr x6), (7, vr x7)] [] (g_HashMap_putVal_j104 x0 x1 x2 x3 x4 x5 x6 x7 h22) := by
        intro x0 x1 x2 x3 x4 x5 x6 x7 h22
        refine s_aload C dJ4_putVal_104 7 rfl ?_
        refine s_ins [32] [] "java/util/HashMap$TreeNode" C q1067 (fl1 ao_java_util_HashMap_TreeNode_32) (fun _ h => by cases h) dJ4_putVal_106 fun a23 => ?_
        refine s_if_eq C 131 dJ4_putVal_109 (by decide) ?_ ?_
        · refine s_iconst C (0 : Int32) dJ4_putVal_131 (by decide) ?_
          have hL134 : ∀ (x0 : Nat) (x1 : Int32) (x2 : Nat) (x3 : Nat) (x4 : Int32) (x5 : Int32) (x6 : Nat) (v134 : (Nat × Int32)) (h24 : Hp), Sim id E (QM id E finR) h24 134 [(0, vr x0), (1, .int x1), (2, vr x2), (3, vr x3), (4, .int x4), (5, .int x5), (6, vr x6), (7, vr v134.1), (12, .int v134.2)] [] (g_HashMap_putVal_L134 x0 x1 x2 x3 x4 x5 x6 v134 h24) := by
            intro x0 x1 x2 x3 x4 x5 x6 v134 h24
            refine Sim.loop (fun v134 => [(0, vr x0), (1, .int x1), (2, vr x2), (3, vr x3), (4, .int x4), (5, .int x5), (6, vr x6), (7, vr v134.1), (12, .int v134.2)]) (fun _ => []) (fun rec134 hr134 v134 h24 => ?_) FU v134 h24
            refine s_aload C dJ4_putVal_134 7 rfl ?_
            refine s_getR [30, 31, 32] C (flc ⟨fo_J4_177_30, rfl⟩ (flc ⟨fo_J4_177_31, rfl⟩ (fl1 ⟨fo_J4_177_32, rfl⟩))) (pl_of e4 rfl) dJ4_putVal_136 fun a25 => ?_
            refine s_dup C dJ4_putVal_139 rfl ?_
            refine s_astore (la' := [(10, vr a25), (0, vr x0), (1, .int x1), (2, vr x2), (3, vr x3), (4, .int x4), (5, .int x5), (6, vr x6), (7, vr v134.1), (12, .int v134.2)]) C dJ4_putVal_140 (lt_nl e5 rfl) rfl ?_
            refine s_ifnonnull C 175 dJ4_putVal_142 (by decide) ?_ ?_
            · refine s_aload C dJ4_putVal_175 0 rfl ?_
              refine s_getI [30, 31, 32] C (flc ⟨fo_J4_168_30, rfl⟩ (flc ⟨fo_J4_168_31, rfl⟩ (fl1 ⟨fo_J4_168_32, rfl⟩))) (pl_of e4 rfl) dJ4_putVal_177 fun a26 => ?_
              refine s_iload_n C dJ4_putVal_180 2 rfl rfl ?_
              have hj212 : ∀ (x10 : Nat) (x12 : Int32) (h27 : Hp), Sim id E (QM id E finR) h27 212 [(0, vr x0), (1, .int x1), (2, vr x2), (3, vr x3), (4, .int x4), (5, .int x5), (6, vr x6), (10, vr x10), (12, .int x12)] [] (g_HashMap_putVal_j212 rec134 x0 x1 x2 x3 x4 x5 x6 x10 x12 h27) := by
                intro x10 x12 h27
                refine s_aload C dJ4_putVal_212 7 rfl ?_
                refine s_astore (la' := [(7, vr x10), (0, vr x0), (1, .int x1), (2, vr x2), (3, vr x3), (4, .int x4), (5, .int x5), (6, vr x6), (10, vr x10), (12, .int x12)]) C dJ4_putVal_214 (lt_nl e5 rfl) rfl ?_
                refine s_iinc (la' := [(12, .int (x12 + (1 : Int32))), (7, vr x10), (0, vr x0), (1, .int x1), (2, vr x2), (3, vr x3), (4, .int x4), (5, .int x5), (6, vr x6), (10, vr x10)]) C 9 dJ4_putVal_216 rfl rfl (lt_nl e5 rfl) rfl ?_
                refine s_goto C 134 dJ4_putVal_219 (by decide) ?_
                refine Sim.keep [2, 3, 4, 5, 6, 7, 8, 1, 0] rfl ?_
                exact hr134 _ _
              refine s_icmp_ne C 212 dJ4_putVal_181 (by decide) ?_ ?_
              · refine Sim.keep [1, 2, 3, 4, 5, 6, 7, 0, 9] rfl ?_
                exact hj212 _ _ _
              · refine s_aload C dJ4_putVal_184 0 rfl ?_
                refine s_getR [30, 31, 32] C (flc ⟨fo_J4_170_30, rfl⟩ (flc ⟨fo_J4_170_31, rfl⟩ (fl1 ⟨fo_J4_170_32, rfl⟩))) (pl_of e4 rfl) dJ4_putVal_186 fun a28 => ?_
                refine s_dup C dJ4_putVal_189 rfl ?_
                refine s_astore (la' := [(11, vr a28), (10, vr a25), (0, vr x0), (1, .int x1), (2, vr x2), (3, vr x3), (4, .int x4), (5, .int x5), (6, vr x6), (7, vr v134.1), (12, .int v134.2)]) C dJ4_putVal_190 (lt_nl e5 rfl) rfl ?_
                refine s_aload_n C dJ4_putVal_192 4 rfl rfl ?_
                refine s_acmp_eq 222 C dJ4_putVal_193 (by decide) ?_ ?_
                · refine Sim.keep [2, 5, 6, 7, 1] rfl ?_
                  exact hj222 _ _ _ _ _ _
                · refine s_aload_n C dJ4_putVal_196 4 rfl rfl ?_
                  refine s_ifnull C 212 dJ4_putVal_197 (by decide) ?_ ?_
                  · refine Sim.keep [2, 3, 4, 5, 6, 7, 8, 1, 10] rfl ?_
                    exact hj212 _ _ _
                  · refine s_aload_n C dJ4_putVal_200 4 rfl rfl ?_
                    refine s_aload C dJ4_putVal_201 0 rfl ?_
                    refine s_dk 206 finI [] (fun r29 h30 => ?_) (fun hk => s_dsp 10 (fun ht => c_O C 1 [] 10 RX11 _ ro_10 (ct_g_Link_equals hL x2 a28 h24) (lw_O q1012 q1014 q1013 q1025 q1026 q157 q1027) q1066 ⟨by decide +kernel, by decide +kernel, by decide +kernel⟩ rfl (le_fr hf rfl) (le_fr hlo rfl) rfl (Nat.le_of_ble_eq_true rfl) dJ4_putVal_203 hk ht) (s_dsp 12 (fun ht => c_O C 1 [] 12 RX14 _ ro_12 (ct_g_Vote_equals hL x2 a28 h24) (lw_O q1012 q1014 q1013 q1041 q1042 q160 q1043) q1066 ⟨by decide +kernel, by decide +kernel, by decide +kernel⟩ rfl (le_fr hf rfl) (le_fr hlo rfl) rfl (Nat.le_of_ble_eq_true rfl) dJ4_putVal_203 hk ht) (s_dsp 28 (fun ht => c_O C 1 [] 28 RJ27 _ ro_28 (ct_g_String_equals hL x2 a28 h24) (lw_O q1012 q1014 q1013 q1056 q1057 q139 q1058) q1066 ⟨by decide +kernel, by decide +kernel, by decide +kernel⟩ rfl (le_fr hf rfl) (le_fr hlo rfl) rfl (Nat.le_of_ble_eq_true rfl) dJ4_putVal_203 hk ht) (s_dsp 35 (fun ht => c_O C 1 [] 35 RJ9 _ ro_35 (ct_g_Integer_equals hL x2 a28 h24) (lw_O q1012 q1014 q1013 q1048 q1049 q119 q1050) q1066 ⟨by decide +kernel, by decide +kernel, by decide +kernel⟩ rfl (le_fr hf rfl) (le_fr hlo rfl) rfl (Nat.le_of_ble_eq_true rfl) dJ4_putVal_203 hk ht) s_dsp0))))
                    refine s_if_eq C 212 dJ4_putVal_206 (by decide) ?_ ?_
                    · refine Sim.keep [2, 3, 4, 5, 6, 7, 8, 1, 10] rfl ?_
                      exact hj212 _ _ _
                    · refine s_goto C 222 dJ4_putVal_209 (by decide) ?_
                      refine Sim.keep [2, 5, 6, 7, 1] rfl ?_
                      exact hj222 _ _ _ _ _ _
            · refine s_aload C dJ4_putVal_145 8 rfl ?_
              refine s_aload_n C dJ4_putVal_147 1 rfl rfl ?_
              refine s_iload_n C dJ4_putVal_148 2 rfl rfl ?_
              refine s_aload_n C dJ4_putVal_149 3 rfl rfl ?_
              refine s_aload_n C dJ4_putVal_150 4 rfl rfl ?_
              refine s_null C dJ4_putVal_151 ?_
              refine s_dk 155 finR [vr v134.1] (fun r31 h32 => ?_) (fun hk => s_dsp 22 (fun ht => c_O C 4 [vr v134.1] 22 RJ10 _ ro_22 (ct_g_LinkedHashMap_newNode hL x0 x1 x2 x3 0 h24) (lw_O q1973 q1976 q1974 q1977 q1978 q120 q1979) q1984 ⟨by decide +kernel, by decide +kernel, by decide +kernel⟩ rfl (le_fr hf rfl) (le_fr hlo rfl) rfl (Nat.le_of_ble_eq_true rfl) dJ4_putVal_152 hk ht) (s_dsp 33 (fun ht => c_V C 4 [vr v134.1] 33 RJ4 ro_33 (ct_g_HashMap_newNode hL x0 x1 x2 x3 0 h24) (lw_V q1973 q1974 q1975 q113 q1984) nd_J4_newNode rfl (le_fr hf rfl) (le_fr hlo rfl) rfl (Nat.le_of_ble_eq_true rfl) dJ4_putVal_152 hk ht) s_dsp0))
              refine s_putR [30, 31, 32] C (flc ⟨by decide, fo_J4_177_30, rfl⟩ (flc ⟨by decide, fo_J4_177_31, rfl⟩ (fl1 ⟨by decide, fo_J4_177_32, rfl⟩))) (pl_of e4 rfl) (flc (Or.inl rfl) (flc (Or.inl rfl) (fl1 (Or.inl rfl)))) dJ4_putVal_155 fun h33 => ?_
              refine s_iload C dJ4_putVal_158 9 rfl ?_
              refine s_bipush C (7 : Int32) dJ4_putVal_160 (by decide) ?_
              refine s_icmp_lt C 222 dJ4_putVal_162 (by decide) ?_ ?_
              · refine Sim.keep [1, 4, 5, 6, 0] rfl ?_
                exact hj222 _ _ _ _ _ _
              · refine s_aload_n C dJ4_putVal_165 1 rfl rfl ?_
                refine s_aload C dJ4_putVal_166 7 rfl ?_
                refine s_iload_n C dJ4_putVal_168 2 rfl rfl ?_
                refine s_dk 172 finV [] (fun _ h34 => ?_) (fun hk => s_dsp 22 (fun ht => c_U C 2 [] 22 RJ10 _ ro_22 (ct_g_HashMap_treeifyBin hL x0 x6 x1 h33) (lw_U q2027 q2030 q2031 q2028 q113 q2032) rfl nd_J4_treeifyBin.2 rfl (le_fr hf rfl) (le_fr hlo rfl) rfl (Nat.le_of_ble_eq_true rfl) dJ4_putVal_169 hk ht) (s_dsp 33 (fun ht => c_V C 2 [] 33 RJ4 ro_33 (ct_g_HashMap_treeifyBin hL x0 x6 x1 h33) (lw_V q2027 q2028 q2029 q113 q2032) nd_J4_treeifyBin rfl (le_fr hf rfl) (le_fr hlo rfl) rfl (Nat.le_of_ble_eq_true rfl) dJ4_putVal_169 hk ht) s_dsp0))
                refine s_goto C 222 dJ4_putVal_172 (by decide) ?_
                refine Sim.keep [1, 4, 5, 6, 0] rfl ?_
                exact hj222 _ _ _ _ _ _
          refine s_istore (la' := [(12, .int (0 : Int32)), (0, vr x0), (1, .int x1), (2, vr x2), (3, vr x3), (4, .int x4), (5, .int x5), (6, vr x6), (7, vr x7)]) C dJ4_putVal_132 (lt_nl e5 rfl) rfl ?_
          refine Sim.keep [1, 2, 3, 4, 5, 6, 7, 8, 0] rfl ?_
          exact hL134 _ _ _ _ _ _ _ _ _
        · refine s_aload C dJ4_putVal_112 7 rfl ?_
          refine s_cast [32] "java/util/HashMap$TreeNode" C q1067 (fl1 ao_java_util_HashMap_TreeNode_32) dJ4_putVal_114 ?_
          refine s_aload_n C dJ4_putVal_117 0 rfl rfl ?_
          refine s_aload C dJ4_putVal_118 6 rfl ?_
          refine s_iload_n C dJ4_putVal_120 1 rfl rfl ?_
          refine s_aload_n C dJ4_putVal_121 2 rfl rfl ?_
          refine s_aload_n C dJ4_putVal_122 3 rfl rfl ?_
          refine s_dk 126 finR [] (fun r35 h36 => ?_) (fun hk => s_dsp 32 (fun ht => c_V C 5 [] 32 RJ36 ro_32 (ct_g_HashMapTreeNode_putTreeVal hL x7 x0 x6 x1 x2 x3 h22) (lw_V q1985 q1986 q1987 q155 q1988) nd_J36_putTreeVal rfl (le_fr hf rfl) (le_fr hlo rfl) rfl (Nat.le_of_ble_eq_true rfl) dJ4_putVal_123 hk ht) s_dsp0)
          refine s_astore (la' := [(10, vr r35), (0, vr x0), (1, .int x1), (2, vr x2), (3, vr x3), (4, .int x4), (5, .int x5), (6, vr x6), (7, vr x7)]) C dJ4_putVal_126 (lt_nl e5 rfl) rfl ?_
          refine s_goto C 222 dJ4_putVal_128 (by decide) ?_
          refine Sim.keep [1, 4, 5, 6, 0] rfl ?_
          exact hj222 _ _ _ _ _ _
      refine s_icmp_ne C 104 dJ4_putVal_69 (by decide) ?_ ?_
      · refine Sim.keep [2, 3, 4, 5, 6, 7, 8, 0] rfl ?_
        exact hj104 _ _ _ _ _ _ _ _ _
      · refine s_aload C dJ4_putVal_72 0 rfl ?_
        refine s_getR [30, 31, 32] C (flc ⟨fo_J4_170_30, rfl⟩ (flc ⟨fo_J4_170_31, rfl⟩ (fl1 ⟨fo_J4_170_32, rfl⟩))) (pl_of e4 rfl) dJ4_putVal_74 fun a37 => ?_
        refine s_dup C dJ4_putVal_77 rfl ?_
        refine s_astore (la' := [(11, vr a37), (7, vr a4), (9, .int a3), (0, vr x0), (1, .int x1), (2, vr x2), (3, vr x3), (4, .int x4), (5, .int x5), (6, vr x6), (8, .int x8)]) C dJ4_putVal_78 (lt_nl e5 rfl) rfl ?_
        refine s_aload_n C dJ4_putVal_80 5 rfl rfl ?_
        have hj97 : ∀ (x0 : Nat) (x3 : Nat) (x4 : Int32) (x5 : Int32) (x7 : Nat) (h38 : Hp), Sim id E (QM id E finR) h38 97 [(0, vr x0), (3, vr x3), (4, .int x4), (5, .int x5), (7, vr x7)] [] (g_HashMap_putVal_j97 x0 x3 x4 x5 x7 h38) := by
          intro x0 x3 x4 x5 x7 h38
          refine s_aload C dJ4_putVal_97 4 rfl ?_
          refine s_astore (la' := [(10, vr x7), (0, vr x0), (3, vr x3), (4, .int x4), (5, .int x5), (7, vr x7)]) C dJ4_putVal_99 (lt_nl e5 rfl) rfl ?_
          refine s_goto C 222 dJ4_putVal_101 (by decide) ?_
          refine Sim.keep [1, 2, 3, 4, 0] rfl ?_
          exact hj222 _ _ _ _ _ _
        refine s_acmp_eq 97 C dJ4_putVal_81 (by decide) ?_ ?_
        · refine Sim.keep [3, 6, 7, 8, 1] rfl ?_
          exact hj97 _ _ _ _ _ _
        · refine s_aload_n C dJ4_putVal_84 5 rfl rfl ?_
          refine s_ifnull C 104 dJ4_putVal_85 (by decide) ?_ ?_
          · refine Sim.keep [3, 4, 5, 6, 7, 8, 9, 1] rfl ?_
            exact hj104 _ _ _ _ _ _ _ _ _
          · refine s_aload_n C dJ4_putVal_88 5 rfl rfl ?_
            refine s_aload C dJ4_putVal_89 0 rfl ?_
            refine s_dk 94 finI [] (fun r39 h40 => ?_) (fun hk => s_dsp 10 (fun ht => c_O C 1 [] 10 RX11 _ ro_10 (ct_g_Link_equals hL x2 a37 h2) (lw_O q1012 q1014 q1013 q1025 q1026 q157 q1027) q1066 ⟨by decide +kernel, by decide +kernel, by decide +kernel⟩ rfl (le_fr hf rfl) (le_fr hlo rfl) rfl (Nat.le_of_ble_eq_true rfl) dJ4_putVal_91 hk ht) (s_dsp 12 (fun ht => c_O C 1 [] 12 RX14 _ ro_12 (ct_g_Vote_equals hL x2 a37 h2) (lw_O q1012 q1014 q1013 q1041 q1042 q160 q1043) q1066 ⟨by decide +kernel, by decide +kernel, by decide +kernel⟩ rfl (le_fr hf rfl) (le_fr hlo rfl) rfl (Nat.le_of_ble_eq_true rfl) dJ4_putVal_91 hk ht) (s_dsp 28 (fun ht => c_O C 1 [] 28 RJ27 _ ro_28 (ct_g_String_equals hL x2 a37 h2) (lw_O q1012 q1014 q1013 q1056 q1057 q139 q1058) q1066 ⟨by decide +kernel, by decide +kernel, by decide +kernel⟩ rfl (le_fr hf rfl) (le_fr hlo rfl) rfl (Nat.le_of_ble_eq_true rfl) dJ4_putVal_91 hk ht) (s_dsp 35 (fun ht => c_O C 1 [] 35 RJ9 _ ro_35 (ct_g_Integer_equals hL x2 a37 h2) (lw_O q1012 q1014 q1013 q1048 q1049 q119 q1050) q1066 ⟨by decide +kernel, by decide +kernel, by decide +kernel⟩ rfl (le_fr hf rfl) (le_fr hlo rfl) rfl (Nat.le_of_ble_eq_true rfl) dJ4_putVal_91 hk ht) s_dsp0))))
            refine s_if_eq C 104 dJ4_putVal_94 (by decide) ?_ ?_
            · refine Sim.keep [3, 4, 5, 6, 7, 8, 9, 1] rfl ?_
              exact hj104 _ _ _ _ _ _ _ _ _
            · refine Sim.keep [3, 6, 7, 8, 1] rfl ?_
              exact hj97 _ _ _ _ _ _
    · refine s_aload C dJ4_putVal_47 8 rfl ?_
      refine s_iload C dJ4_putVal_49 1 rfl ?_
      refine s_aload_n C dJ4_putVal_51 2 rfl rfl ?_
      refine s_iload_n C dJ4_putVal_52 3 rfl rfl ?_
      refine s_aload_n C dJ4_putVal_53 4 rfl rfl ?_
      refine s_aload_n C dJ4_putVal_54 5 rfl rfl ?_
      refine s_null C dJ4_putVal_55 ?_
      refine s_dk 59 finR [.int a3, vr x6] (fun r41 h42 => ?_) (fun hk => s_dsp 22 (fun ht => c_O C 4 [.int a3, vr x6] 22 RJ10 _ ro_22 (ct_g_LinkedHashMap_newNode hL x0 x1 x2 x3 0 h2) (lw_O q1973 q1976 q1974 q1977 q1978 q120 q1979) q1984 ⟨by decide +kernel, by decide +kernel, by decide +kernel⟩ rfl (le_fr hf rfl) (le_fr hlo rfl) rfl (Nat.le_of_ble_eq_true rfl) dJ4_putVal_56 hk ht) (s_dsp 33 (fun ht => c_V C 4 [.int a3, vr x6] 33 RJ4 ro_33 (ct_g_HashMap_newNode hL x0 x1 x2 x3 0 h2) (lw_V q1973 q1974 q1975 q113 q1984) nd_J4_newNode rfl (le_fr hf rfl) (le_fr hlo rfl) rfl (Nat.le_of_ble_eq_true rfl) dJ4_putVal_56 hk ht) s_dsp0))
      refine s_aast [206] [30, 31, 32] 6 "java/util/HashMap$Node" C (by decide) rfl (fl1 ⟨by decide, rfl⟩) (pl_of e4 rfl) (flc ao_java_util_HashMap_Node_30 (flc ao_java_util_HashMap_Node_31 (fl1 ao_java_util_HashMap_Node_32))) dJ4_putVal_59 fun h43 => ?_
      refine s_goto C 259 dJ4_putVal_60 (by decide) ?_
      refine Sim.keep [2, 7] rfl ?_
      exact hj259 _ _ _
  have hj19 : ∀ (x0 : Nat) (x1 : Int32) (x2 : Nat) (x3 : Nat) (x4 : Int32) (x5 : Int32) (h44 : Hp), Sim id E (QM id E finR) h44 19 [(0, vr x0), (1, .int x1), (2, vr x2), (3, vr x3), (4, .int x4), (5, .int x5)] [] (g_HashMap_putVal_j19 x0 x1 x2 x3 x4 x5 h44) := by
    intro x0 x1 x2 x3 x4 x5 h44
    refine s_aload_n C dJ4_putVal_19 0 rfl rfl ?_
    refine s_dk 23 finR [] (fun r45 h46 => ?_) (fun hk => s_dsp 22 (fun ht => c_U C 0 [] 22 RJ10 _ ro_22 (ct_g_HashMap_resize hL x0 h44) (lw_U q1867 q1870 q1871 q1868 q113 q1872) rfl nd_J4_resize.2 rfl (le_fr hf rfl) (le_fr hlo rfl) rfl (Nat.le_of_ble_eq_true rfl) dJ4_putVal_20 hk ht) (s_dsp 33 (fun ht => c_V C 0 [] 33 RJ4 ro_33 (ct_g_HashMap_resize hL x0 h44) (lw_V q1867 q1868 q1869 q113 q1872) nd_J4_resize rfl (le_fr hf rfl) (le_fr hlo rfl) rfl (Nat.le_of_ble_eq_true rfl) dJ4_putVal_20 hk ht) s_dsp0))
    refine s_dup C dJ4_putVal_23 rfl ?_
    refine s_astore (la' := [(6, vr r45), (0, vr x0), (1, .int x1), (2, vr x2), (3, vr x3), (4, .int x4), (5, .int x5)]) C dJ4_putVal_24 (lt_nl e5 rfl) rfl ?_
    refine s_alen [206] 6 C (fl1 rfl) (pl_of e4 rfl) dJ4_putVal_26 fun a47 => ?_
    refine s_istore (la' := [(8, .int a47), (6, vr r45), (0, vr x0), (1, .int x1), (2, vr x2), (3, vr x3), (4, .int x4), (5, .int x5)]) C dJ4_putVal_27 (lt_nl e5 rfl) rfl ?_
    refine Sim.keep [2, 3, 4, 5, 6, 7, 1, 0] rfl ?_
    exact hj29 _ _ _ _ _ _ _ _ _
  refine s_ifnull C 19 dJ4_putVal_7 (by decide) ?_ ?_
  · refine Sim.keep [1, 2, 3, 4, 5, 6] rfl ?_
    exact hj19 _ _ _ _ _ _ _
  · refine s_aload C dJ4_putVal_10 0 rfl ?_
    refine s_alen [206] 6 C (fl1 rfl) (pl_of e4 rfl) dJ4_putVal_12 fun a48 => ?_
    refine s_dup C dJ4_putVal_13 rfl ?_
    refine s_istore (la' := [(8, .int a48), (6, vr a1), (0, vr x0), (1, .int x1), (2, vr x2), (3, vr x3), (4, .int x4), (5, .int x5)]) C dJ4_putVal_14 (lt_nl e5 rfl) rfl ?_
    refine s_if_ne C 29 dJ4_putVal_16 (by decide) ?_ ?_
    · refine Sim.keep [2, 3, 4, 5, 6, 7, 1, 0] rfl ?_
      exact hj29 _ _ _ _ _ _ _ _ _
    · refine Sim.keep [2, 3, 4, 5, 6, 7] rfl ?_
      exact hj19 _ _ _ _ _ _ _

def g_HashMap_put (x0 : Nat) (x1 : Nat) (x2 : Nat) (h : Hp) : Option (Nat × Hp) :=
  bn (g_HashMap_hash x1 h) fun r1 h2 =>
  bn (dsp (tg h2 x0 % 500) none [(22, g_HashMap_putVal x0 r1 x1 x2 (0 : Int32) (1 : Int32) h2), (33, g_HashMap_putVal x0 r1 x1 x2 (0 : Int32) (1 : Int32) h2)]) fun r3 h4 =>
  some (r3, h4)
theorem ct_g_HashMap_put {G : Gx} {RL : Lv} {l : Launch} (hL : LvA G RL plR) (x0 : Nat) (x1 : Nat) (x2 : Nat) (h : Hp) : Ct id G RL l yJ4_put (ws_ yJ4_put cJ4_put 3 (some (.object "java/lang/Object"))) 7 184 finR [vr x0, vr x1, vr x2] h (g_HashMap_put x0 x1 x2 h) := by
  refine Ct.of (Pl := plR) [(0, vr x0), (1, vr x1), (2, vr x2)] (by decide) hL rfl (Nat.le_of_ble_eq_true rfl) ?_
  intro E C e6 hf hlo e1 e2 e3 e4 e5
  subst e1; subst e2; subst e3
  replace C : Cx E cJ4_put (some (.object "java/lang/Object")) RJ4 := C
  replace e6 : (eMe E).name = "put" := e6
  unfold g_HashMap_put
  refine s_aload_n C dJ4_put_0 0 rfl rfl ?_
  refine s_aload_n C dJ4_put_1 1 rfl rfl ?_
  refine c_S C 1 [vr x0] (ct_g_HashMap_hash hL x1 h) (lw_S q902 q903 q113 q904) nd_J4_hash.2 rfl (le_fr hf rfl) (le_fr hlo rfl) rfl (Nat.le_of_ble_eq_true rfl) dJ4_put_2 fun r1 h2 => ?_
  refine s_aload_n C dJ4_put_5 1 rfl rfl ?_
  refine s_aload_n C dJ4_put_6 2 rfl rfl ?_
  refine s_iconst C (0 : Int32) dJ4_put_7 (by decide) ?_
  refine s_iconst C (1 : Int32) dJ4_put_8 (by decide) ?_
  refine s_dk 12 finR [] (fun r3 h4 => ?_) (fun hk => s_dsp 22 (fun ht => c_U C 5 [] 22 RJ10 _ ro_22 (ct_g_HashMap_putVal hL x0 r1 x1 x2 (0 : Int32) (1 : Int32) h2) (lw_U q1861 q1864 q1865 q1862 q113 q1866) rfl nd_J4_putVal.2 rfl (le_fr hf rfl) (le_fr hlo rfl) rfl (Nat.le_of_ble_eq_true rfl) dJ4_put_9 hk ht) (s_dsp 33 (fun ht => c_V C 5 [] 33 RJ4 ro_33 (ct_g_HashMap_putVal hL x0 r1 x1 x2 (0 : Int32) (1 : Int32) h2) (lw_V q1861 q1862 q1863 q113 q1866) nd_J4_putVal rfl (le_fr hf rfl) (le_fr hlo rfl) rfl (Nat.le_of_ble_eq_true rfl) dJ4_put_9 hk ht) s_dsp0))
  exact s_aret C (Or.inl ⟨_, rfl⟩) rfl dJ4_put_12

def g_HashMap_size (x0 : Nat) (h : Hp) : Option (Int32 × Hp) :=
  (getI [22, 33] 4 x0 h).bind fun a1 =>
  some (a1, h)
theorem ct_g_HashMap_size {G : Gx} {RL : Lv} {l : Launch} (hL : LvA G RL plR) (x0 : Nat) (h : Hp) : Ct id G RL l yJ4_size (ws_ yJ4_size cJ4_size 1 (some .int)) 0 0 finI [vr x0] h (g_HashMap_size x0 h) := by
  refine Ct.of (Pl := plR) [(0, vr x0)] (by decide) hL rfl (Nat.le_of_ble_eq_true rfl) ?_
  intro E C e6 hf hlo e1 e2 e3 e4 e5
  subst e1; subst e2; subst e3
  replace C : Cx E cJ4_size (some .int) RJ4 := C
  replace e6 : (eMe E).name = "size" := e6
  unfold g_HashMap_size
  refine s_aload_n C dJ4_size_0 0 rfl rfl ?_
  refine s_getI [22, 33] C (flc ⟨fo_J4_156_22, rfl⟩ (fl1 ⟨fo_J4_156_33, rfl⟩)) (pl_of e4 rfl) dJ4_size_1 fun a1 => ?_
  exact s_iret C rfl dJ4_size_4

def g_HashMapNode_getKey (x0 : Nat) (h : Hp) : Option (Nat × Hp) :=
  (getR [30, 31, 32] 1 x0 h).bind fun a1 =>
  some (a1, h)
theorem ct_g_HashMapNode_getKey {G : Gx} {RL : Lv} {l : Launch} (hL : LvA G RL plR) (x0 : Nat) (h : Hp) : Ct id G RL l yJ34_getKey (ws_ yJ34_getKey cJ34_getKey 1 (some (.object "java/lang/Object"))) 0 0 finR [vr x0] h (g_HashMapNode_getKey x0 h) := by
  refine Ct.of (Pl := plR) [(0, vr x0)] (by decide) hL rfl (Nat.le_of_ble_eq_true rfl) ?_
  intro E C e6 hf hlo e1 e2 e3 e4 e5
  subst e1; subst e2; subst e3
  replace C : Cx E cJ34_getKey (some (.object "java/lang/Object")) RJ34 := C
  replace e6 : (eMe E).name = "getKey" := e6
  unfold g_HashMapNode_getKey
  refine s_aload_n C dJ34_getKey_0 0 rfl rfl ?_
  refine s_getR [30, 31, 32] C (flc ⟨fo_J34_13_30, rfl⟩ (flc ⟨fo_J34_13_31, rfl⟩ (fl1 ⟨fo_J34_13_32, rfl⟩))) (pl_of e4 rfl) dJ34_getKey_1 fun a1 => ?_
  exact s_aret C (Or.inl ⟨_, rfl⟩) rfl dJ34_getKey_4

def g_HashSet_init (x0 : Nat) (x1 : Int32) (h : Hp) : Option (Unit × Hp) :=
  if x0 = 0 then none else
  bn (g_AbstractSet_init x0 h) fun _ h1 =>
  bn (newO 33 8 h1) fun o3 h4 =>
  bn (g_HashMap_init3 o3 x1 h4) fun _ h5 =>
  (putR [34] 0 x0 o3 h5).bind fun h6 =>
  some ((), h6)
theorem ct_g_HashSet_init {G : Gx} {RL : Lv} {l : Launch} (hL : LvA G RL plR) (x0 : Nat) (x1 : Int32) (h : Hp) : Ct id G RL l yJ6_init (ws_ yJ6_init cJ6_init 2 none) 4 85 finV [vr x0, .int x1] h (g_HashSet_init x0 x1 h) := by
  refine Ct.of (Pl := plR) [(0, vr x0), (1, .int x1)] (by decide) hL rfl (Nat.le_of_ble_eq_true rfl) ?_
  intro E C e6 hf hlo e1 e2 e3 e4 e5
  subst e1; subst e2; subst e3
  replace C : Cx E cJ6_init none RJ6 := C
  replace e6 : (eMe E).name = "<init>" := e6
  unfold g_HashSet_init
  refine s_aload_n C dJ6_init_0 0 rfl rfl ?_
  refine s_nz fun z2 => ?_
  refine c_I C 0 [] z2 (ct_g_AbstractSet_init hL x0 h) (lw_meth q303) q115 q301 q302 rfl nd_J5_init.2 rfl (le_fr hf rfl) (le_fr hlo rfl) rfl (Nat.le_of_ble_eq_true rfl) dJ6_init_1 fun _ h1 => ?_
  refine s_aload_n C dJ6_init_4 0 rfl rfl ?_
  refine s_newO 33 8 C no_J6_7 (pl_of1 e4 rfl) dJ6_init_5 fun o3 h4 zo3 => ?_
  refine s_dup C dJ6_init_8 rfl ?_
  refine s_iload_n C dJ6_init_9 1 rfl rfl ?_
  refine c_I C 1 [vr o3, vr x0] zo3 (ct_g_HashMap_init3 hL o3 x1 h4) (lw_meth q308) q113 q306 q307 rfl nd_J4_init_2.2 rfl (le_fr hf rfl) (le_fr hlo rfl) rfl (Nat.le_of_ble_eq_true rfl) dJ6_init_10 fun _ h5 => ?_
  refine s_putR [34] C (fl1 ⟨by decide, fo_J6_10_34, rfl⟩) (pl_of e4 rfl) (fl1 (Or.inl rfl)) dJ6_init_13 fun h6 => ?_
  exact s_vret C rfl dJ6_init_16

def g_HashSet_add_j19 (y0 : Int32) (h4 : Hp) : Option (Int32 × Hp) :=
  if nrw 2 y0 = y0 then some (y0, h4) else none
def g_HashSet_add (x0 : Nat) (x1 : Nat) (h : Hp) : Option (Int32 × Hp) :=
  (getR [34] 0 x0 h).bind fun a1 =>
  bn (dsp (tg h a1 % 500) none [(22, g_HashMap_put a1 x1 2 h), (33, g_HashMap_put a1 x1 2 h)]) fun r2 h3 =>
  if r2 = 0 then
    g_HashSet_add_j19 (1 : Int32) h3
  else
    g_HashSet_add_j19 (0 : Int32) h3
theorem ct_g_HashSet_add {G : Gx} {RL : Lv} {l : Launch} (hL : LvA G RL plR) (x0 : Nat) (x1 : Nat) (h : Hp) : Ct id G RL l yJ6_add (ws_ yJ6_add cJ6_add 2 (some .boolean)) 8 206 finI [vr x0, vr x1] h (g_HashSet_add x0 x1 h) := by
  refine Ct.of (Pl := plR) [(0, vr x0), (1, vr x1)] (by decide) hL rfl (Nat.le_of_ble_eq_true rfl) ?_
  intro E C e6 hf hlo e1 e2 e3 e4 e5
  subst e1; subst e2; subst e3
  replace C : Cx E cJ6_add (some .boolean) RJ6 := C
  replace e6 : (eMe E).name = "add" := e6
  unfold g_HashSet_add
  refine s_aload_n C dJ6_add_0 0 rfl rfl ?_
  refine s_getR [34] C (fl1 ⟨fo_J6_10_34, rfl⟩) (pl_of e4 rfl) dJ6_add_1 fun a1 => ?_
  refine s_aload_n C dJ6_add_4 1 rfl rfl ?_
  refine s_gets (vr 2) C so_J6_64 (st_ref C (by decide) (by decide)) dJ6_add_5 ?_
  refine s_dk 11 finR [] (fun r2 h3 => ?_) (fun hk => s_dsp 22 (fun ht => c_U C 2 [] 22 RJ10 _ ro_22 (ct_g_HashMap_put hL a1 x1 2 h) (lw_U q2239 q1858 q1859 q1856 q113 q1860) rfl nd_J4_put.2 rfl (le_fr hf rfl) (le_fr hlo rfl) rfl (Nat.le_of_ble_eq_true rfl) dJ6_add_8 hk ht) (s_dsp 33 (fun ht => c_V C 2 [] 33 RJ4 ro_33 (ct_g_HashMap_put hL a1 x1 2 h) (lw_V q2239 q1856 q1857 q113 q1860) nd_J4_put rfl (le_fr hf rfl) (le_fr hlo rfl) rfl (Nat.le_of_ble_eq_true rfl) dJ6_add_8 hk ht) s_dsp0))
  have hj19 : ∀ (y0 : Int32) (h4 : Hp), Sim id E (QM id E finI) h4 19 [] [.int y0] (g_HashSet_add_j19 y0 h4) := by
    intro y0 h4
    exact s_zret 2 C (by decide) (by decide) rfl dJ6_add_19
  refine s_ifnonnull C 18 dJ6_add_11 (by decide) ?_ ?_
  · refine s_iconst C (0 : Int32) dJ6_add_18 (by decide) ?_
    refine Sim.keep [] rfl ?_
    exact hj19 _ _
  · refine s_iconst C (1 : Int32) dJ6_add_14 (by decide) ?_
    refine s_goto C 19 dJ6_add_15 (by decide) ?_
    refine Sim.keep [] rfl ?_
    exact hj19 _ _

def g_LinkedHashMap_clear (x0 : Nat) (h : Hp) : Option (Unit × Hp) :=
  bn (dsp (tg h x0 % 500) none [(22, g_HashMap_clear x0 h)]) fun _ h1 =>
  (putR [22] 9 x0 0 h1).bind fun h2 =>
  (putR [22] 8 x0 0 h2).bind fun h3 =>
  some ((), h3)
theorem ct_g_LinkedHashMap_clear {G : Gx} {RL : Lv} {l : Launch} (hL : LvA G RL plR) (x0 : Nat) (h : Hp) : Ct id G RL l yJ10_clear (ws_ yJ10_clear cJ10_clear 1 none) 1 22 finV [vr x0] h (g_LinkedHashMap_clear x0 h) := by
  refine Ct.of (Pl := plR) [(0, vr x0)] (by decide) hL rfl (Nat.le_of_ble_eq_true rfl) ?_
  intro E C e6 hf hlo e1 e2 e3 e4 e5
  subst e1; subst e2; subst e3
  replace C : Cx E cJ10_clear none RJ10 := C
  replace e6 : (eMe E).name = "clear" := e6
  unfold g_LinkedHashMap_clear
  refine s_aload_n C dJ10_clear_0 0 rfl rfl ?_
  refine s_dk 4 finV [] (fun _ h1 => ?_) (fun hk => s_dsp 22 (fun ht => c_SU C 0 [] 22 RJ10 ro_22 (ct_g_HashMap_clear hL x0 h) (lw_SU q410 q406 q355 q404 q113 q411) ⟨by decide +kernel, by decide +kernel⟩ rfl (le_fr hf rfl) (le_fr hlo rfl) rfl (Nat.le_of_ble_eq_true rfl) dJ10_clear_1 rfl hk ht) s_dsp0)
  refine s_aload_n C dJ10_clear_4 0 rfl rfl ?_
  refine s_aload_n C dJ10_clear_5 0 rfl rfl ?_
  refine s_null C dJ10_clear_6 ?_
  refine s_dup_x1 C dJ10_clear_7 rfl rfl ?_
  refine s_putR [22] C (fl1 ⟨by decide, fo_J10_11_22, rfl⟩) (pl_of e4 rfl) (fl1 (Or.inl rfl)) dJ10_clear_8 fun h2 => ?_
  refine s_putR [22] C (fl1 ⟨by decide, fo_J10_7_22, rfl⟩) (pl_of e4 rfl) (fl1 (Or.inl rfl)) dJ10_clear_11 fun h3 => ?_
  exact s_vret C rfl dJ10_clear_14

def g_HashSet_clear (x0 : Nat) (h : Hp) : Option (Unit × Hp) :=
  (getR [34] 0 x0 h).bind fun a1 =>
  bn (dsp (tg h a1 % 500) none [(22, g_LinkedHashMap_clear a1 h), (33, g_HashMap_clear a1 h)]) fun _ h2 =>
  some ((), h2)
theorem ct_g_HashSet_clear {G : Gx} {RL : Lv} {l : Launch} (hL : LvA G RL plR) (x0 : Nat) (h : Hp) : Ct id G RL l yJ6_clear (ws_ yJ6_clear cJ6_clear 1 none) 2 42 finV [vr x0] h (g_HashSet_clear x0 h) := by
  refine Ct.of (Pl := plR) [(0, vr x0)] (by decide) hL rfl (Nat.le_of_ble_eq_true rfl) ?_
  intro E C e6 hf hlo e1 e2 e3 e4 e5
  subst e1; subst e2; subst e3
  replace C : Cx E cJ6_clear none RJ6 := C
  replace e6 : (eMe E).name = "clear" := e6
  unfold g_HashSet_clear
  refine s_aload_n C dJ6_clear_0 0 rfl rfl ?_
  refine s_getR [34] C (fl1 ⟨fo_J6_10_34, rfl⟩) (pl_of e4 rfl) dJ6_clear_1 fun a1 => ?_
  refine s_dk 7 finV [] (fun _ h2 => ?_) (fun hk => s_dsp 22 (fun ht => c_O C 0 [] 22 RJ10 _ ro_22 (ct_g_LinkedHashMap_clear hL a1 h) (lw_O q403 q406 q404 q407 q408 q120 q409) q411 ⟨by decide +kernel, by decide +kernel, by decide +kernel⟩ rfl (le_fr hf rfl) (le_fr hlo rfl) rfl (Nat.le_of_ble_eq_true rfl) dJ6_clear_4 hk ht) (s_dsp 33 (fun ht => c_V C 0 [] 33 RJ4 ro_33 (ct_g_HashMap_clear hL a1 h) (lw_V q403 q404 q405 q113 q411) nd_J4_clear rfl (le_fr hf rfl) (le_fr hlo rfl) rfl (Nat.le_of_ble_eq_true rfl) dJ6_clear_4 hk ht) s_dsp0))
  exact s_vret C rfl dJ6_clear_7

def g_HashSet_contains (x0 : Nat) (x1 : Nat) (h : Hp) : Option (Int32 × Hp) :=
  (getR [34] 0 x0 h).bind fun a1 =>
  bn (dsp (tg h a1 % 500) none [(22, g_HashMap_containsKey a1 x1 h), (33, g_HashMap_containsKey a1 x1 h)]) fun r2 h3 =>
  if nrw 2 r2 = r2 then some (r2, h3) else none
theorem ct_g_HashSet_contains {G : Gx} {RL : Lv} {l : Launch} (hL : LvA G RL plR) (x0 : Nat) (x1 : Nat) (h : Hp) : Ct id G RL l yJ6_contains (ws_ yJ6_contains cJ6_contains 2 (some .boolean)) 7 164 finI [vr x0, vr x1] h (g_HashSet_contains x0 x1 h) := by
  refine Ct.of (Pl := plR) [(0, vr x0), (1, vr x1)] (by decide) hL rfl (Nat.le_of_ble_eq_true rfl) ?_
  intro E C e6 hf hlo e1 e2 e3 e4 e5
  subst e1; subst e2; subst e3
  replace C : Cx E cJ6_contains (some .boolean) RJ6 := C
  replace e6 : (eMe E).name = "contains" := e6
  unfold g_HashSet_contains
  refine s_aload_n C dJ6_contains_0 0 rfl rfl ?_
  refine s_getR [34] C (fl1 ⟨fo_J6_10_34, rfl⟩) (pl_of e4 rfl) dJ6_contains_1 fun a1 => ?_
  refine s_aload_n C dJ6_contains_4 1 rfl rfl ?_
  refine s_dk 8 finI [] (fun r2 h3 => ?_) (fun hk => s_dsp 22 (fun ht => c_U C 1 [] 22 RJ10 _ ro_22 (ct_g_HashMap_containsKey hL a1 x1 h) (lw_U q2306 q1392 q1393 q1390 q113 q1394) rfl nd_J4_containsKey.2 rfl (le_fr hf rfl) (le_fr hlo rfl) rfl (Nat.le_of_ble_eq_true rfl) dJ6_contains_5 hk ht) (s_dsp 33 (fun ht => c_V C 1 [] 33 RJ4 ro_33 (ct_g_HashMap_containsKey hL a1 x1 h) (lw_V q2306 q1390 q1391 q113 q1394) nd_J4_containsKey rfl (le_fr hf rfl) (le_fr hlo rfl) rfl (Nat.le_of_ble_eq_true rfl) dJ6_contains_5 hk ht) s_dsp0))
  exact s_zret 2 C (by decide) (by decide) rfl dJ6_contains_8

def g_LinkedHashMap_init (x0 : Nat) (h : Hp) : Option (Unit × Hp) :=
  if x0 = 0 then none else
  bn (g_HashMap_init x0 h) fun _ h1 =>
  (putI [22] 0 11 x0 (0 : Int32) h1).bind fun h3 =>
  (putI [22] 2 10 x0 (0 : Int32) h3).bind fun h4 =>
  some ((), h4)
theorem ct_g_LinkedHashMap_init {G : Gx} {RL : Lv} {l : Launch} (hL : LvA G RL plR) (x0 : Nat) (h : Hp) : Ct id G RL l yJ10_init (ws_ yJ10_init cJ10_init 1 none) 3 60 finV [vr x0] h (g_LinkedHashMap_init x0 h) := by
  refine Ct.of (Pl := plR) [(0, vr x0)] (by decide) hL rfl (Nat.le_of_ble_eq_true rfl) ?_
  intro E C e6 hf hlo e1 e2 e3 e4 e5
  subst e1; subst e2; subst e3
  replace C : Cx E cJ10_init none RJ10 := C
  replace e6 : (eMe E).name = "<init>" := e6
  unfold g_LinkedHashMap_init
  refine s_aload_n C dJ10_init_0 0 rfl rfl ?_
  refine s_nz fun z2 => ?_
  refine c_I C 0 [] z2 (ct_g_HashMap_init hL x0 h) (lw_meth q219) q113 q332 q218 rfl nd_J4_init.2 rfl (le_fr hf rfl) (le_fr hlo rfl) rfl (Nat.le_of_ble_eq_true rfl) dJ10_init_1 fun _ h1 => ?_
  refine s_aload_n C dJ10_init_4 0 rfl rfl ?_
  refine s_iconst C (0 : Int32) dJ10_init_5 (by decide) ?_
  refine s_putI [22] 0 C (by decide) (by decide) (fl1 ⟨⟨by decide, fo_J10_1_22, rfl⟩, rfl⟩) (pl_of e4 rfl) (fl1 (Or.inl rfl)) dJ10_init_6 fun h3 => ?_
  refine s_aload_n C dJ10_init_9 0 rfl rfl ?_
  refine s_iconst C (0 : Int32) dJ10_init_10 (by decide) ?_
  refine s_putI [22] 2 C (by decide) (by decide) (fl1 ⟨⟨by decide, fo_J10_64_22, rfl⟩, rfl⟩) (pl_of e4 rfl) (fl1 (Or.inr ⟨e6, fx_J10_64_22⟩)) dJ10_init_11 fun h4 => ?_
  exact s_vret C rfl dJ10_init_14

def g_LinkedHashMap_get_j24 (x2 : Nat) (h4 : Hp) : Option (Nat × Hp) :=
  (getR [30, 31, 32] 2 x2 h4).bind fun a5 =>
  some (a5, h4)
def g_LinkedHashMap_get (x0 : Nat) (x1 : Nat) (h : Hp) : Option (Nat × Hp) :=
  bn (dsp (tg h x0 % 500) none [(22, g_HashMap_getNode x0 x1 h)]) fun r1 h2 =>
  if r1 = 0 then
    some (0, h2)
  else
    (getI [22] 10 x0 h2).bind fun a3 =>
    if a3 = 0 then
      g_LinkedHashMap_get_j24 r1 h2
    else
      bn (dsp (tg h2 x0 % 500) none [(22, g_LinkedHashMap_afterNodeAccess x0 r1 h2)]) fun _ h6 =>
      g_LinkedHashMap_get_j24 r1 h6
theorem ct_g_LinkedHashMap_get {G : Gx} {RL : Lv} {l : Launch} (hL : LvA G RL plR) (x0 : Nat) (x1 : Nat) (h : Hp) : Ct id G RL l yJ10_get (ws_ yJ10_get cJ10_get 3 (some (.object "java/lang/Object"))) 6 143 finR [vr x0, vr x1] h (g_LinkedHashMap_get x0 x1 h) := by
  refine Ct.of (Pl := plR) [(0, vr x0), (1, vr x1)] (by decide) hL rfl (Nat.le_of_ble_eq_true rfl) ?_
  intro E C e6 hf hlo e1 e2 e3 e4 e5
  subst e1; subst e2; subst e3
  replace C : Cx E cJ10_get (some (.object "java/lang/Object")) RJ10 := C
  replace e6 : (eMe E).name = "get" := e6
  unfold g_LinkedHashMap_get
  refine s_aload_n C dJ10_get_0 0 rfl rfl ?_
  refine s_aload_n C dJ10_get_1 1 rfl rfl ?_
  refine s_dk 5 finR [] (fun r1 h2 => ?_) (fun hk => s_dsp 22 (fun ht => c_U C 1 [] 22 RJ10 _ ro_22 (ct_g_HashMap_getNode hL x0 x1 h) (lw_U q896 q897 q899 q900 q113 q901) rfl nd_J4_getNode.2 rfl (le_fr hf rfl) (le_fr hlo rfl) rfl (Nat.le_of_ble_eq_true rfl) dJ10_get_2 hk ht) s_dsp0)
  refine s_dup C dJ10_get_5 rfl ?_
  refine s_astore_n (la' := [(2, vr r1), (0, vr x0), (1, vr x1)]) C 2 dJ10_get_6 rfl (lt_nl e5 rfl) rfl ?_
  refine s_ifnonnull C 12 dJ10_get_7 (by decide) ?_ ?_
  · refine s_aload_n C dJ10_get_12 1 rfl rfl ?_
    refine s_getI [22] C (fl1 ⟨fo_J10_64_22, rfl⟩) (pl_of e4 rfl) dJ10_get_13 fun a3 => ?_
    have hj24 : ∀ (x2 : Nat) (h4 : Hp), Sim id E (QM id E finR) h4 24 [(2, vr x2)] [] (g_LinkedHashMap_get_j24 x2 h4) := by
      intro x2 h4
      refine s_aload_n C dJ10_get_24 0 rfl rfl ?_
      refine s_getR [30, 31, 32] C (flc ⟨fo_J10_107_30, rfl⟩ (flc ⟨fo_J10_107_31, rfl⟩ (fl1 ⟨fo_J10_107_32, rfl⟩))) (pl_of e4 rfl) dJ10_get_25 fun a5 => ?_
      exact s_aret C (Or.inl ⟨_, rfl⟩) rfl dJ10_get_28
    refine s_if_eq C 24 dJ10_get_16 (by decide) ?_ ?_
    · refine Sim.keep [0] rfl ?_
      exact hj24 _ _
    · refine s_aload_n C dJ10_get_19 1 rfl rfl ?_
      refine s_aload_n C dJ10_get_20 0 rfl rfl ?_
      refine s_dk 24 finV [] (fun _ h6 => ?_) (fun hk => s_dsp 22 (fun ht => c_V C 1 [] 22 RJ10 ro_22 (ct_g_LinkedHashMap_afterNodeAccess hL x0 r1 h2) (lw_V q1298 q1299 q1300 q120 q1301) nd_J10_afterNodeAccess rfl (le_fr hf rfl) (le_fr hlo rfl) rfl (Nat.le_of_ble_eq_true rfl) dJ10_get_21 hk ht) s_dsp0)
      refine Sim.keep [0] rfl ?_
      exact hj24 _ _
  · refine s_null C dJ10_get_10 ?_
    exact s_aret C (Or.inl ⟨_, rfl⟩) rfl dJ10_get_11

def g_LinkedHashMapLinkedKeySet_init (x0 : Nat) (x1 : Nat) (x2 : Int32) (h : Hp) : Option (Unit × Hp) :=
  (putR [26] 1 x0 x1 h).bind fun h1 =>
  if x0 = 0 then none else
  bn (g_AbstractSet_init x0 h1) fun _ h2 =>
  (putI [26] 2 0 x0 x2 h2).bind fun h4 =>
  some ((), h4)
theorem ct_g_LinkedHashMapLinkedKeySet_init {G : Gx} {RL : Lv} {l : Launch} (hL : LvA G RL plR) (x0 : Nat) (x1 : Nat) (x2 : Int32) (h : Hp) : Ct id G RL l yJ21_init (ws_ yJ21_init cJ21_init 3 none) 3 60 finV [vr x0, vr x1, .int x2] h (g_LinkedHashMapLinkedKeySet_init x0 x1 x2 h) := by
  refine Ct.of (Pl := plR) [(0, vr x0), (1, vr x1), (2, .int x2)] (by decide) hL rfl (Nat.le_of_ble_eq_true rfl) ?_
  intro E C e6 hf hlo e1 e2 e3 e4 e5
  subst e1; subst e2; subst e3
  replace C : Cx E cJ21_init none RJ21 := C
  replace e6 : (eMe E).name = "<init>" := e6
  unfold g_LinkedHashMapLinkedKeySet_init
  refine s_aload_n C dJ21_init_0 0 rfl rfl ?_
  refine s_aload_n C dJ21_init_1 1 rfl rfl ?_
  refine s_putR [26] C (fl1 ⟨by decide, fo_J21_1_26, rfl⟩) (pl_of e4 rfl) (fl1 (Or.inr ⟨e6, fx_J21_1_26⟩)) dJ21_init_2 fun h1 => ?_
  refine s_aload_n C dJ21_init_5 0 rfl rfl ?_
  refine s_nz fun z3 => ?_
  refine c_I C 0 [] z3 (ct_g_AbstractSet_init hL x0 h1) (lw_meth q303) q115 q788 q302 rfl nd_J5_init.2 rfl (le_fr hf rfl) (le_fr hlo rfl) rfl (Nat.le_of_ble_eq_true rfl) dJ21_init_6 fun _ h2 => ?_
  refine s_aload_n C dJ21_init_9 0 rfl rfl ?_
  refine s_iload_n C dJ21_init_10 2 rfl rfl ?_
  refine s_putI [26] 2 C (by decide) (by decide) (fl1 ⟨⟨by decide, fo_J21_13_26, rfl⟩, rfl⟩) (pl_of e4 rfl) (fl1 (Or.inr ⟨e6, fx_J21_13_26⟩)) dJ21_init_11 fun h4 => ?_
  exact s_vret C rfl dJ21_init_14

def g_LinkedHashMap_sequencedKeySet (x0 : Nat) (h : Hp) : Option (Nat × Hp) :=
  (getR [22, 33] 0 x0 h).bind fun a1 =>
  if a1 = 0 then
    bn (newO 26 2 h) fun o2 h3 =>
    bn (g_LinkedHashMapLinkedKeySet_init o2 x0 (0 : Int32) h3) fun _ h4 =>
    (putR [22, 33] 0 x0 o2 h4).bind fun h5 =>
    some (o2, h5)
  else
    (cst [26] a1 h).bind fun _ =>
    some (a1, h)
theorem ct_g_LinkedHashMap_sequencedKeySet {G : Gx} {RL : Lv} {l : Launch} (hL : LvA G RL plR) (x0 : Nat) (h : Hp) : Ct id G RL l yJ10_sequencedKeySet (ws_ yJ10_sequencedKeySet cJ10_sequencedKeySet 3 (some (.object "java/util/SequencedSet"))) 4 82 finR [vr x0] h (g_LinkedHashMap_sequencedKeySet x0 h) := by
  refine Ct.of (Pl := plR) [(0, vr x0)] (by decide) hL rfl (Nat.le_of_ble_eq_true rfl) ?_
  intro E C e6 hf hlo e1 e2 e3 e4 e5
  subst e1; subst e2; subst e3
  replace C : Cx E cJ10_sequencedKeySet (some (.object "java/util/SequencedSet")) RJ10 := C
  replace e6 : (eMe E).name = "sequencedKeySet" := e6
  unfold g_LinkedHashMap_sequencedKeySet
  refine s_aload_n C dJ10_sequencedKeySet_0 0 rfl rfl ?_
  refine s_getR [22, 33] C (flc ⟨fo_J10_117_22, rfl⟩ (fl1 ⟨fo_J10_117_33, rfl⟩)) (pl_of e4 rfl) dJ10_sequencedKeySet_1 fun a1 => ?_
  refine s_astore_n (la' := [(1, vr a1), (0, vr x0)]) C 1 dJ10_sequencedKeySet_4 rfl (lt_nl e5 rfl) rfl ?_
  refine s_aload_n C dJ10_sequencedKeySet_5 0 rfl rfl ?_
  refine s_ifnonnull C 26 dJ10_sequencedKeySet_6 (by decide) ?_ ?_
  · refine s_aload_n C dJ10_sequencedKeySet_26 0 rfl rfl ?_
    refine s_cast [26] "java/util/SequencedSet" C q796 (fl1 ao_java_util_SequencedSet_26) dJ10_sequencedKeySet_27 ?_
    exact s_aret C (Or.inl ⟨_, rfl⟩) rfl dJ10_sequencedKeySet_30
  · refine s_newO 26 2 C no_J10_121 (pl_of1 e4 rfl) dJ10_sequencedKeySet_9 fun o2 h3 zo2 => ?_
    refine s_dup C dJ10_sequencedKeySet_12 rfl ?_
    refine s_aload_n C dJ10_sequencedKeySet_13 1 rfl rfl ?_
    refine s_iconst C (0 : Int32) dJ10_sequencedKeySet_14 (by decide) ?_
    refine c_I C 2 [vr o2] zo2 (ct_g_LinkedHashMapLinkedKeySet_init hL o2 x0 (0 : Int32) h3) (lw_meth q787) q133 q785 q786 rfl nd_J21_init.2 rfl (le_fr hf rfl) (le_fr hlo rfl) rfl (Nat.le_of_ble_eq_true rfl) dJ10_sequencedKeySet_15 fun _ h4 => ?_
    refine s_astore_n (la' := [(2, vr o2), (1, vr a1), (0, vr x0)]) C 2 dJ10_sequencedKeySet_18 rfl (lt_nl e5 rfl) rfl ?_
    refine s_aload_n C dJ10_sequencedKeySet_19 2 rfl rfl ?_
    refine s_aload_n C dJ10_sequencedKeySet_20 0 rfl rfl ?_
    refine s_putR [22, 33] C (flc ⟨by decide, fo_J10_117_22, rfl⟩ (fl1 ⟨by decide, fo_J10_117_33, rfl⟩)) (pl_of e4 rfl) (flc (Or.inl rfl) (fl1 (Or.inl rfl))) dJ10_sequencedKeySet_21 fun h5 => ?_
    refine s_aload_n C dJ10_sequencedKeySet_24 0 rfl rfl ?_
    exact s_aret C (Or.inl ⟨_, rfl⟩) rfl dJ10_sequencedKeySet_25

def g_LinkedHashMap_keySet (x0 : Nat) (h : Hp) : Option (Nat × Hp) :=
  bn (dsp (tg h x0 % 500) none [(22, g_LinkedHashMap_sequencedKeySet x0 h)]) fun r1 h2 =>
  some (r1, h2)
theorem ct_g_LinkedHashMap_keySet {G : Gx} {RL : Lv} {l : Launch} (hL : LvA G RL plR) (x0 : Nat) (h : Hp) : Ct id G RL l yJ10_keySet (ws_ yJ10_keySet cJ10_keySet 1 (some (.object "java/util/Set"))) 5 104 finR [vr x0] h (g_LinkedHashMap_keySet x0 h) := by
  refine Ct.of (Pl := plR) [(0, vr x0)] (by decide) hL rfl (Nat.le_of_ble_eq_true rfl) ?_
  intro E C e6 hf hlo e1 e2 e3 e4 e5
  subst e1; subst e2; subst e3
  replace C : Cx E cJ10_keySet (some (.object "java/util/Set")) RJ10 := C
  replace e6 : (eMe E).name = "keySet" := e6
  unfold g_LinkedHashMap_keySet
  refine s_aload_n C dJ10_keySet_0 0 rfl rfl ?_
  refine s_dk 4 finR [] (fun r1 h2 => ?_) (fun hk => s_dsp 22 (fun ht => c_V C 0 [] 22 RJ10 ro_22 (ct_g_LinkedHashMap_sequencedKeySet hL x0 h) (lw_V q779 q780 q781 q120 q782) nd_J10_sequencedKeySet rfl (le_fr hf rfl) (le_fr hlo rfl) rfl (Nat.le_of_ble_eq_true rfl) dJ10_keySet_1 hk ht) s_dsp0)
  exact s_aret C (Or.inl ⟨_, rfl⟩) rfl dJ10_keySet_4

def g_LinkedHashMapLinkedHashIterator_init_j30 (x0 : Nat) (x1 : Nat) (y0 : Nat) (y1 : Nat) (h4 : Hp) : Option (Unit × Hp) :=
  (putR [27] 0 y0 y1 h4).bind fun h5 =>
  (getI [22, 33] 5 x1 h5).bind fun a6 =>
  (putI [27] 0 2 x0 a6 h5).bind fun h7 =>
  (putR [27] 1 x0 0 h7).bind fun h8 =>
  some ((), h8)
def g_LinkedHashMapLinkedHashIterator_init (x0 : Nat) (x1 : Nat) (x2 : Int32) (h : Hp) : Option (Unit × Hp) :=
  (putR [27] 4 x0 x1 h).bind fun h1 =>
  if x0 = 0 then none else
  (putI [27] 2 3 x0 x2 h1).bind fun h3 =>
  if x2 = 0 then
    (getR [22] 8 x1 h3).bind fun a9 =>
    g_LinkedHashMapLinkedHashIterator_init_j30 x0 x1 x0 a9 h3
  else
    (getR [22] 9 x1 h3).bind fun a10 =>
    g_LinkedHashMapLinkedHashIterator_init_j30 x0 x1 x0 a10 h3
theorem ct_g_LinkedHashMapLinkedHashIterator_init {G : Gx} {RL : Lv} {l : Launch} (hL : LvA G RL plR) (x0 : Nat) (x1 : Nat) (x2 : Int32) (h : Hp) : Ct id G RL l yJ25_init (ws_ yJ25_init cJ25_init 3 none) 1 20 finV [vr x0, vr x1, .int x2] h (g_LinkedHashMapLinkedHashIterator_init x0 x1 x2 h) := by
  refine Ct.of (Pl := plR) [(0, vr x0), (1, vr x1), (2, .int x2)] (by decide) hL rfl (Nat.le_of_ble_eq_true rfl) ?_
  intro E C e6 hf hlo e1 e2 e3 e4 e5
  subst e1; subst e2; subst e3
  replace C : Cx E cJ25_init none RJ25 := C
  replace e6 : (eMe E).name = "<init>" := e6
  unfold g_LinkedHashMapLinkedHashIterator_init
  refine s_aload_n C dJ25_init_0 0 rfl rfl ?_
  refine s_aload_n C dJ25_init_1 1 rfl rfl ?_
  refine s_putR [27] C (fl1 ⟨by decide, fo_J25_1_27, rfl⟩) (pl_of e4 rfl) (fl1 (Or.inr ⟨e6, fx_J25_1_27⟩)) dJ25_init_2 fun h1 => ?_
  refine s_aload_n C dJ25_init_5 0 rfl rfl ?_
  refine s_nz fun z2 => ?_
  refine s_objI C z2 q870 q177 q178 (le_fr hf rfl) (le_fr hlo rfl) (Nat.le_of_ble_eq_true rfl) dJ25_init_6 ?_
  refine s_aload_n C dJ25_init_9 0 rfl rfl ?_
  refine s_iload_n C dJ25_init_10 2 rfl rfl ?_
  refine s_putI [27] 2 C (by decide) (by decide) (fl1 ⟨⟨by decide, fo_J25_13_27, rfl⟩, rfl⟩) (pl_of e4 rfl) (fl1 (Or.inl rfl)) dJ25_init_11 fun h3 => ?_
  refine s_aload_n C dJ25_init_14 0 rfl rfl ?_
  refine s_iload_n C dJ25_init_15 2 rfl rfl ?_
  have hj30 : ∀ (x0 : Nat) (x1 : Nat) (y0 : Nat) (y1 : Nat) (h4 : Hp), Sim id E (QM id E finV) h4 30 [(0, vr x0), (1, vr x1)] [vr y1, vr y0] (g_LinkedHashMapLinkedHashIterator_init_j30 x0 x1 y0 y1 h4) := by
    intro x0 x1 y0 y1 h4
    refine s_putR [27] C (fl1 ⟨by decide, fo_J25_26_27, rfl⟩) (pl_of e4 rfl) (fl1 (Or.inl rfl)) dJ25_init_30 fun h5 => ?_
    refine s_aload_n C dJ25_init_33 0 rfl rfl ?_
    refine s_aload_n C dJ25_init_34 1 rfl rfl ?_
    refine s_getI [22, 33] C (flc ⟨fo_J25_29_22, rfl⟩ (fl1 ⟨fo_J25_29_33, rfl⟩)) (pl_of e4 rfl) dJ25_init_35 fun a6 => ?_
    refine s_putI [27] 0 C (by decide) (by decide) (fl1 ⟨⟨by decide, fo_J25_33_27, rfl⟩, rfl⟩) (pl_of e4 rfl) (fl1 (Or.inl rfl)) dJ25_init_38 fun h7 => ?_
    refine s_aload_n C dJ25_init_41 0 rfl rfl ?_
    refine s_null C dJ25_init_42 ?_
    refine s_putR [27] C (fl1 ⟨by decide, fo_J25_36_27, rfl⟩) (pl_of e4 rfl) (fl1 (Or.inl rfl)) dJ25_init_43 fun h8 => ?_
    exact s_vret C rfl dJ25_init_46
  refine s_if_eq C 26 dJ25_init_16 (by decide) ?_ ?_
  · refine s_aload_n C dJ25_init_26 1 rfl rfl ?_
    refine s_getR [22] C (fl1 ⟨fo_J25_23_22, rfl⟩) (pl_of e4 rfl) dJ25_init_27 fun a9 => ?_
    refine Sim.keep [0, 1] rfl ?_
    exact hj30 _ _ _ _ _
  · refine s_aload_n C dJ25_init_19 1 rfl rfl ?_
    refine s_getR [22] C (fl1 ⟨fo_J25_17_22, rfl⟩) (pl_of e4 rfl) dJ25_init_20 fun a10 => ?_
    refine s_goto C 30 dJ25_init_23 (by decide) ?_
    refine Sim.keep [0, 1] rfl ?_
    exact hj30 _ _ _ _ _

def g_LinkedHashMapLinkedHashIterator_hasNext_j12 (y0 : Int32) (h2 : Hp) : Option (Int32 × Hp) :=
  if nrw 2 y0 = y0 then some (y0, h2) else none
def g_LinkedHashMapLinkedHashIterator_hasNext (x0 : Nat) (h : Hp) : Option (Int32 × Hp) :=
  (getR [27] 0 x0 h).bind fun a1 =>
  if a1 = 0 then
    g_LinkedHashMapLinkedHashIterator_hasNext_j12 (0 : Int32) h
  else
    g_LinkedHashMapLinkedHashIterator_hasNext_j12 (1 : Int32) h
theorem ct_g_LinkedHashMapLinkedHashIterator_hasNext {G : Gx} {RL : Lv} {l : Launch} (hL : LvA G RL plR) (x0 : Nat) (h : Hp) : Ct id G RL l yJ25_hasNext (ws_ yJ25_hasNext cJ25_hasNext 1 (some .boolean)) 0 0 finI [vr x0] h (g_LinkedHashMapLinkedHashIterator_hasNext x0 h) := by
  refine Ct.of (Pl := plR) [(0, vr x0)] (by decide) hL rfl (Nat.le_of_ble_eq_true rfl) ?_
  intro E C e6 hf hlo e1 e2 e3 e4 e5
  subst e1; subst e2; subst e3
  replace C : Cx E cJ25_hasNext (some .boolean) RJ25 := C
  replace e6 : (eMe E).name = "hasNext" := e6
  unfold g_LinkedHashMapLinkedHashIterator_hasNext
  refine s_aload_n C dJ25_hasNext_0 0 rfl rfl ?_
  refine s_getR [27] C (fl1 ⟨fo_J25_26_27, rfl⟩) (pl_of e4 rfl) dJ25_hasNext_1 fun a1 => ?_
  have hj12 : ∀ (y0 : Int32) (h2 : Hp), Sim id E (QM id E finI) h2 12 [] [.int y0] (g_LinkedHashMapLinkedHashIterator_hasNext_j12 y0 h2) := by
    intro y0 h2
    exact s_zret 2 C (by decide) (by decide) rfl dJ25_hasNext_12
  refine s_ifnull C 11 dJ25_hasNext_4 (by decide) ?_ ?_
  · refine s_iconst C (0 : Int32) dJ25_hasNext_11 (by decide) ?_
    refine Sim.keep [] rfl ?_
    exact hj12 _ _
  · refine s_iconst C (1 : Int32) dJ25_hasNext_7 (by decide) ?_
    refine s_goto C 12 dJ25_hasNext_8 (by decide) ?_
    refine Sim.keep [] rfl ?_
    exact hj12 _ _

def g_LinkedHashMapLinkedHashIterator_nextNode_j63 (x1 : Nat) (y0 : Nat) (y1 : Nat) (h7 : Hp) : Option (Nat × Hp) :=
  (putR [27] 0 y0 y1 h7).bind fun h8 =>
  some (x1, h8)
def g_LinkedHashMapLinkedHashIterator_nextNode (x0 : Nat) (h : Hp) : Option (Nat × Hp) :=
  (getR [27] 0 x0 h).bind fun a1 =>
  (getR [27] 4 x0 h).bind fun a2 =>
  (getI [22, 33] 5 a2 h).bind fun a3 =>
  (getI [27] 2 x0 h).bind fun a4 =>
  if a3 = a4 then
    if a1 = 0 then
      none
    else
      (putR [27] 1 x0 a1 h).bind fun h5 =>
      (getI [27] 3 x0 h5).bind fun a6 =>
      if a6 = 0 then
        (getR [31, 32] 5 a1 h5).bind fun a9 =>
        g_LinkedHashMapLinkedHashIterator_nextNode_j63 a1 x0 a9 h5
      else
        (getR [31, 32] 4 a1 h5).bind fun a10 =>
        g_LinkedHashMapLinkedHashIterator_nextNode_j63 a1 x0 a10 h5
  else
    none
theorem ct_g_LinkedHashMapLinkedHashIterator_nextNode {G : Gx} {RL : Lv} {l : Launch} (hL : LvA G RL plR) (x0 : Nat) (h : Hp) : Ct id G RL l yJ25_nextNode (ws_ yJ25_nextNode cJ25_nextNode 2 (some (.object "java/util/LinkedHashMap$Entry"))) 0 0 finR [vr x0] h (g_LinkedHashMapLinkedHashIterator_nextNode x0 h) := by
  refine Ct.of (Pl := plR) [(0, vr x0)] (by decide) hL rfl (Nat.le_of_ble_eq_true rfl) ?_
  intro E C e6 hf hlo e1 e2 e3 e4 e5
  subst e1; subst e2; subst e3
  replace C : Cx E cJ25_nextNode (some (.object "java/util/LinkedHashMap$Entry")) RJ25 := C
  replace e6 : (eMe E).name = "nextNode" := e6
  unfold g_LinkedHashMapLinkedHashIterator_nextNode
  refine s_aload_n C dJ25_nextNode_0 0 rfl rfl ?_
  refine s_getR [27] C (fl1 ⟨fo_J25_26_27, rfl⟩) (pl_of e4 rfl) dJ25_nextNode_1 fun a1 => ?_
  refine s_astore_n (la' := [(1, vr a1), (0, vr x0)]) C 1 dJ25_nextNode_4 rfl (lt_nl e5 rfl) rfl ?_
  refine s_aload_n C dJ25_nextNode_5 1 rfl rfl ?_
  refine s_getR [27] C (fl1 ⟨fo_J25_1_27, rfl⟩) (pl_of e4 rfl) dJ25_nextNode_6 fun a2 => ?_
  refine s_getI [22, 33] C (flc ⟨fo_J25_29_22, rfl⟩ (fl1 ⟨fo_J25_29_33, rfl⟩)) (pl_of e4 rfl) dJ25_nextNode_9 fun a3 => ?_
  refine s_aload_n C dJ25_nextNode_12 1 rfl rfl ?_
  refine s_getI [27] C (fl1 ⟨fo_J25_33_27, rfl⟩) (pl_of e4 rfl) dJ25_nextNode_13 fun a4 => ?_
  refine s_icmp_eq C 27 dJ25_nextNode_16 (by decide) ?_ ?_
  · refine s_aload_n C dJ25_nextNode_27 0 rfl rfl ?_
    refine s_ifnonnull C 39 dJ25_nextNode_28 (by decide) ?_ ?_
    · refine s_aload_n C dJ25_nextNode_39 1 rfl rfl ?_
      refine s_aload_n C dJ25_nextNode_40 0 rfl rfl ?_
      refine s_putR [27] C (fl1 ⟨by decide, fo_J25_36_27, rfl⟩) (pl_of e4 rfl) (fl1 (Or.inl rfl)) dJ25_nextNode_41 fun h5 => ?_
      refine s_aload_n C dJ25_nextNode_44 1 rfl rfl ?_
      refine s_aload_n C dJ25_nextNode_45 1 rfl rfl ?_
      refine s_getI [27] C (fl1 ⟨fo_J25_13_27, rfl⟩) (pl_of e4 rfl) dJ25_nextNode_46 fun a6 => ?_
      have hj63 : ∀ (x1 : Nat) (y0 : Nat) (y1 : Nat) (h7 : Hp), Sim id E (QM id E finR) h7 63 [(1, vr x1)] [vr y1, vr y0] (g_LinkedHashMapLinkedHashIterator_nextNode_j63 x1 y0 y1 h7) := by
        intro x1 y0 y1 h7
        refine s_putR [27] C (fl1 ⟨by decide, fo_J25_26_27, rfl⟩) (pl_of e4 rfl) (fl1 (Or.inl rfl)) dJ25_nextNode_63 fun h8 => ?_
        refine s_aload_n C dJ25_nextNode_66 0 rfl rfl ?_
        exact s_aret C (Or.inl ⟨_, rfl⟩) rfl dJ25_nextNode_67
      refine s_if_eq C 59 dJ25_nextNode_49 (by decide) ?_ ?_
      · refine s_aload_n C dJ25_nextNode_59 0 rfl rfl ?_
        refine s_getR [31, 32] C (flc ⟨fo_J25_50_31, rfl⟩ (fl1 ⟨fo_J25_50_32, rfl⟩)) (pl_of e4 rfl) dJ25_nextNode_60 fun a9 => ?_
        refine Sim.keep [0] rfl ?_
        exact hj63 _ _ _ _
      · refine s_aload_n C dJ25_nextNode_52 0 rfl rfl ?_
        refine s_getR [31, 32] C (flc ⟨fo_J25_45_31, rfl⟩ (fl1 ⟨fo_J25_45_32, rfl⟩)) (pl_of e4 rfl) dJ25_nextNode_53 fun a10 => ?_
        refine s_goto C 63 dJ25_nextNode_56 (by decide) ?_
        refine Sim.keep [0] rfl ?_
        exact hj63 _ _ _ _
    · exact sim_none
  · exact sim_none

def g_LinkedHashMapLinkedKeyIterator_init (x0 : Nat) (x1 : Nat) (x2 : Int32) (h : Hp) : Option (Unit × Hp) :=
  if x0 = 0 then none else
  bn (g_LinkedHashMapLinkedHashIterator_init x0 x1 x2 h) fun _ h1 =>
  some ((), h1)
theorem ct_g_LinkedHashMapLinkedKeyIterator_init {G : Gx} {RL : Lv} {l : Launch} (hL : LvA G RL plR) (x0 : Nat) (x1 : Nat) (x2 : Int32) (h : Hp) : Ct id G RL l yJ26_init (ws_ yJ26_init cJ26_init 3 none) 2 42 finV [vr x0, vr x1, .int x2] h (g_LinkedHashMapLinkedKeyIterator_init x0 x1 x2 h) := by
  refine Ct.of (Pl := plR) [(0, vr x0), (1, vr x1), (2, .int x2)] (by decide) hL rfl (Nat.le_of_ble_eq_true rfl) ?_
  intro E C e6 hf hlo e1 e2 e3 e4 e5
  subst e1; subst e2; subst e3
  replace C : Cx E cJ26_init none RJ26 := C
  replace e6 : (eMe E).name = "<init>" := e6
  unfold g_LinkedHashMapLinkedKeyIterator_init
  refine s_aload_n C dJ26_init_0 0 rfl rfl ?_
  refine s_aload_n C dJ26_init_1 1 rfl rfl ?_
  refine s_iload_n C dJ26_init_2 2 rfl rfl ?_
  refine s_nz fun z2 => ?_
  refine c_I C 2 [] z2 (ct_g_LinkedHashMapLinkedHashIterator_init hL x0 x1 x2 h) (lw_meth q869) q137 q867 q868 rfl nd_J25_init.2 rfl (le_fr hf rfl) (le_fr hlo rfl) rfl (Nat.le_of_ble_eq_true rfl) dJ26_init_3 fun _ h1 => ?_
  exact s_vret C rfl dJ26_init_6

def g_LinkedHashMapLinkedKeyIterator_next (x0 : Nat) (h : Hp) : Option (Nat × Hp) :=
  bn (dsp (tg h x0 % 500) none [(27, g_LinkedHashMapLinkedHashIterator_nextNode x0 h)]) fun r1 h2 =>
  bn (dsp (tg h2 r1 % 500) none [(31, g_HashMapNode_getKey r1 h2), (32, g_HashMapNode_getKey r1 h2)]) fun r3 h4 =>
  some (r3, h4)
theorem ct_g_LinkedHashMapLinkedKeyIterator_next {G : Gx} {RL : Lv} {l : Launch} (hL : LvA G RL plR) (x0 : Nat) (h : Hp) : Ct id G RL l yJ26_next (ws_ yJ26_next cJ26_next 1 (some (.object "java/lang/Object"))) 1 21 finR [vr x0] h (g_LinkedHashMapLinkedKeyIterator_next x0 h) := by
  refine Ct.of (Pl := plR) [(0, vr x0)] (by decide) hL rfl (Nat.le_of_ble_eq_true rfl) ?_
  intro E C e6 hf hlo e1 e2 e3 e4 e5
  subst e1; subst e2; subst e3
  replace C : Cx E cJ26_next (some (.object "java/lang/Object")) RJ26 := C
  replace e6 : (eMe E).name = "next" := e6
  unfold g_LinkedHashMapLinkedKeyIterator_next
  refine s_aload_n C dJ26_next_0 0 rfl rfl ?_
  refine s_dk 4 finR [] (fun r1 h2 => ?_) (fun hk => s_dsp 27 (fun ht => c_U C 0 [] 27 RJ26 _ ro_27 (ct_g_LinkedHashMapLinkedHashIterator_nextNode hL x0 h) (lw_U q553 q554 q556 q557 q137 q558) rfl nd_J25_nextNode.2 rfl (le_fr hf rfl) (le_fr hlo rfl) rfl (Nat.le_of_ble_eq_true rfl) dJ26_next_1 hk ht) s_dsp0)
  refine s_dk 7 finR [] (fun r3 h4 => ?_) (fun hk => s_dsp 31 (fun ht => c_U C 0 [] 31 RJ35 _ ro_31 (ct_g_HashMapNode_getKey hL r1 h2) (lw_U q561 q562 q565 q566 q153 q567) rfl nd_J34_getKey.2 rfl (le_fr hf rfl) (le_fr hlo rfl) rfl (Nat.le_of_ble_eq_true rfl) dJ26_next_4 hk ht) (s_dsp 32 (fun ht => c_U C 0 [] 32 RJ36 _ ro_32 (ct_g_HashMapNode_getKey hL r1 h2) (lw_U q561 q562 q564 q566 q153 q567) rfl nd_J34_getKey.2 rfl (le_fr hf rfl) (le_fr hlo rfl) rfl (Nat.le_of_ble_eq_true rfl) dJ26_next_4 hk ht) s_dsp0))
  exact s_aret C (Or.inl ⟨_, rfl⟩) rfl dJ26_next_7

def g_LinkedHashMapLinkedKeySet_iterator (x0 : Nat) (h : Hp) : Option (Nat × Hp) :=
  bn (newO 27 5 h) fun o1 h2 =>
  (getR [26] 1 x0 h2).bind fun a3 =>
  (getI [26] 0 x0 h2).bind fun a4 =>
  bn (g_LinkedHashMapLinkedKeyIterator_init o1 a3 a4 h2) fun _ h5 =>
  some (o1, h5)
theorem ct_g_LinkedHashMapLinkedKeySet_iterator {G : Gx} {RL : Lv} {l : Launch} (hL : LvA G RL plR) (x0 : Nat) (h : Hp) : Ct id G RL l yJ21_iterator (ws_ yJ21_iterator cJ21_iterator 1 (some (.object "java/util/Iterator"))) 3 64 finR [vr x0] h (g_LinkedHashMapLinkedKeySet_iterator x0 h) := by
  refine Ct.of (Pl := plR) [(0, vr x0)] (by decide) hL rfl (Nat.le_of_ble_eq_true rfl) ?_
  intro E C e6 hf hlo e1 e2 e3 e4 e5
  subst e1; subst e2; subst e3
  replace C : Cx E cJ21_iterator (some (.object "java/util/Iterator")) RJ21 := C
  replace e6 : (eMe E).name = "iterator" := e6
  unfold g_LinkedHashMapLinkedKeySet_iterator
  refine s_newO 27 5 C no_J21_26 (pl_of1 e4 rfl) dJ21_iterator_0 fun o1 h2 zo1 => ?_
  refine s_dup C dJ21_iterator_3 rfl ?_
  refine s_aload_n C dJ21_iterator_4 0 rfl rfl ?_
  refine s_getR [26] C (fl1 ⟨fo_J21_1_26, rfl⟩) (pl_of e4 rfl) dJ21_iterator_5 fun a3 => ?_
  refine s_aload_n C dJ21_iterator_8 0 rfl rfl ?_
  refine s_getI [26] C (fl1 ⟨fo_J21_13_26, rfl⟩) (pl_of e4 rfl) dJ21_iterator_9 fun a4 => ?_
  refine c_I C 2 [vr o1] zo1 (ct_g_LinkedHashMapLinkedKeyIterator_init hL o1 a3 a4 h2) (lw_meth q866) q138 q864 q865 rfl nd_J26_init.2 rfl (le_fr hf rfl) (le_fr hlo rfl) rfl (Nat.le_of_ble_eq_true rfl) dJ21_iterator_12 fun _ h5 => ?_
  exact s_aret C (Or.inl ⟨_, rfl⟩) rfl dJ21_iterator_15
