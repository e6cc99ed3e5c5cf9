/-! THE MODEL'S CONSTRUCTOR, at the classes' level (printed by hgenmod.py) -/
set_option maxRecDepth 100000
theorem nd_X6_init : yX6_init.cls = RX6 ∧ yX6_init.cls ≠ "java/lang/invoke/MethodHandle" ∧ yX6_init.cls ≠ "java/lang/invoke/VarHandle" ∧ (parseMethodDescriptor yX6_init.desc).map (fun d => d.parameters.length) = some 0 := ⟨rfl, by decide +kernel, by decide +kernel, by decide +kernel⟩
def g_FinalLinksModel_init (x0 : Nat) (h : Hp) : Option (Unit × Hp) :=
  if x0 = 0 then none else
  bn (newA 201 (940 : Int32) h) fun o2 h3 =>
  (putR [6] 1 x0 o2 h3).bind fun h4 =>
  bn (newA 200 (360 : Int32) h4) fun o5 h6 =>
  (putR [6] 6 x0 o5 h6).bind fun h7 =>
  bn (newA 200 (72 : Int32) h7) fun o8 h9 =>
  (putR [6] 7 x0 o8 h9).bind fun h10 =>
  bn (newA 200 (135 : Int32) h10) fun o11 h12 =>
  (putR [6] 8 x0 o11 h12).bind fun h13 =>
  bn (newA 200 (164 : Int32) h13) fun o14 h15 =>
  (putR [6] 9 x0 o14 h15).bind fun h16 =>
  bn (newA 203 (56 : Int32) h16) fun o17 h18 =>
  (putR [6] 10 x0 o17 h18).bind fun h19 =>
  bn (newA 203 (21 : Int32) h19) fun o20 h21 =>
  (putR [6] 11 x0 o20 h21).bind fun h22 =>
  bn (newA 200 (20 : Int32) h22) fun o23 h24 =>
  (putR [6] 21 x0 o23 h24).bind fun h25 =>
  bn (newA 200 (20 : Int32) h25) fun o26 h27 =>
  (putR [6] 22 x0 o26 h27).bind fun h28 =>
  bn (newA 200 (400 : Int32) h28) fun o29 h30 =>
  (putR [6] 23 x0 o29 h30).bind fun h31 =>
  bn (newA 200 (20 : Int32) h31) fun o32 h33 =>
  (putR [6] 24 x0 o32 h33).bind fun h34 =>
  bn (newA 200 (20 : Int32) h34) fun o35 h36 =>
  (putR [6] 25 x0 o35 h36).bind fun h37 =>
  bn (newA 200 (1776 : Int32) h37) fun o38 h39 =>
  (putR [6] 35 x0 o38 h39).bind fun h40 =>
  bn (newA 200 (222 : Int32) h40) fun o41 h42 =>
  (putR [6] 36 x0 o41 h42).bind fun h43 =>
  bn (newA 200 (222 : Int32) h43) fun o44 h45 =>
  (putR [6] 37 x0 o44 h45).bind fun h46 =>
  (putI [6] 0 40 x0 (-1 : Int32) h46).bind fun h47 =>
  (putI [6] 0 41 x0 (-1 : Int32) h47).bind fun h48 =>
  bn (newA 201 (30 : Int32) h48) fun o49 h50 =>
  (putR [6] 42 x0 o49 h50).bind fun h51 =>
  bn (newA 200 (4 : Int32) h51) fun o52 h53 =>
  (putR [6] 46 x0 o52 h53).bind fun h54 =>
  bn (newA 200 (45 : Int32) h54) fun o55 h56 =>
  (putR [6] 48 x0 o55 h56).bind fun h57 =>
  bn (newA 202 (45 : Int32) h57) fun o58 h59 =>
  (putR [6] 54 x0 o58 h59).bind fun h60 =>
  bn (newA 200 (720 : Int32) h60) fun o61 h62 =>
  (putR [6] 55 x0 o61 h62).bind fun h63 =>
  bn (newA 203 (56 : Int32) h63) fun o64 h65 =>
  (putR [6] 56 x0 o64 h65).bind fun h66 =>
  bn (newA 202 (2 : Int32) h66) fun o67 h68 =>
  (putR [6] 57 x0 o67 h68).bind fun h69 =>
  (getR [6] 11 x0 h69).bind fun a70 =>
  (astL [203] a70 (0 : Int32) (435678045032 : Int64) h69).bind fun h71 =>
  (getR [6] 11 x0 h71).bind fun a72 =>
  (astL [203] a72 (1 : Int32) (508676040050 : Int64) h71).bind fun h73 =>
  (getR [6] 11 x0 h73).bind fun a74 =>
  (astL [203] a74 (2 : Int32) (422726034283 : Int64) h73).bind fun h75 =>
  (getR [6] 11 x0 h75).bind fun a76 =>
  (astL [203] a76 (3 : Int32) (28526 : Int64) h75).bind fun h77 =>
  (getR [6] 11 x0 h77).bind fun a78 =>
  (astL [203] a78 (4 : Int32) (109299962373989 : Int64) h77).bind fun h79 =>
  (getR [6] 11 x0 h79).bind fun a80 =>
  (astL [203] a80 (5 : Int32) (1987015781 : Int64) h79).bind fun h81 =>
  (getR [6] 11 x0 h81).bind fun a82 =>
  (astL [203] a82 (6 : Int32) (1819242347 : Int64) h81).bind fun h83 =>
  (getR [6] 11 x0 h83).bind fun a84 =>
  (astL [203] a84 (7 : Int32) (1735552887 : Int64) h83).bind fun h85 =>
  (getR [6] 11 x0 h85).bind fun a86 =>
  (astL [203] a86 (8 : Int32) (28530 : Int64) h85).bind fun h87 =>
  (getR [6] 11 x0 h87).bind fun a88 =>
  (astL [203] a88 (9 : Int32) (6385252 : Int64) h87).bind fun h89 =>
  (getR [6] 11 x0 h89).bind fun a90 =>
  (astL [203] a90 (10 : Int32) (7237492 : Int64) h89).bind fun h91 =>
  (getR [6] 11 x0 h91).bind fun a92 =>
  (astL [203] a92 (11 : Int32) (1818583398 : Int64) h91).bind fun h93 =>
  (getR [6] 11 x0 h93).bind fun a94 =>
  (astL [203] a94 (12 : Int32) (482905517684 : Int64) h93).bind fun h95 =>
  (getR [6] 11 x0 h95).bind fun a96 =>
  (astL [203] a96 (13 : Int32) (1786082164 : Int64) h95).bind fun h97 =>
  (getR [6] 11 x0 h97).bind fun a98 =>
  (astL [203] a98 (14 : Int32) (439855505772 : Int64) h97).bind fun h99 =>
  (getR [6] 11 x0 h99).bind fun a100 =>
  (astL [203] a100 (15 : Int32) (109300197582190 : Int64) h99).bind fun h101 =>
  (getR [6] 11 x0 h101).bind fun a102 =>
  (astL [203] a102 (16 : Int32) (504363246962 : Int64) h101).bind fun h103 =>
  (getR [6] 11 x0 h103).bind fun a104 =>
  (astL [203] a104 (17 : Int32) (114784769370228 : Int64) h103).bind fun h105 =>
  (getR [6] 11 x0 h105).bind fun a106 =>
  (astL [203] a106 (18 : Int32) (465558725996 : Int64) h105).bind fun h107 =>
  (getR [6] 11 x0 h107).bind fun a108 =>
  (astL [203] a108 (19 : Int32) (1751475828 : Int64) h107).bind fun h109 =>
  (getR [6] 11 x0 h109).bind fun a110 =>
  (astL [203] a110 (20 : Int32) (121450625394034 : Int64) h109).bind fun h111 =>
  (getR [6] 6 x0 h111).bind fun a112 =>
  (astI [200] 0 a112 (0 : Int32) (1 : Int32) h111).bind fun h113 =>
  some ((), h113)
theorem ct_g_FinalLinksModel_init {G : Gx} {RL : Lv} {l : Launch} (hL : LvA G RL plA) (hJ : JK G RL l) (x0 : Nat) (h : Hp) : Ct id G RL l yX6_init (ws_ yX6_init cX6_init 1 none) 1 20 finV [vr x0] h (g_FinalLinksModel_init x0 h) := by
  refine Ct.of (Pl := plA) [(0, vr x0)] (by decide) hL rfl (Nat.le_of_ble_eq_true rfl) ?_
  intro E C e6 hf hlo e1 e2 e3 e4 e5
  subst e1; subst e2; subst e3
  replace C : Cx E cX6_init none RX6 := C
  replace e6 : (eMe E).name = "<init>" := e6
  unfold g_FinalLinksModel_init
  refine s_aload_n C dX6_init_0 0 rfl rfl ?_
  refine s_nz fun z1 => ?_
  refine s_objI C z1 q2909 q177 q178 (le_fr hf rfl) (le_fr hlo rfl) (Nat.le_of_ble_eq_true rfl) dX6_init_1 ?_
  refine s_aload_n C dX6_init_4 0 rfl rfl ?_
  refine s_sipush C (940 : Int32) dX6_init_5 (by decide) ?_
  refine s_newa 1 .byte C q214 rfl (by decide) (pl_of1 e4 rfl) dX6_init_8 fun o2 h3 zo2 => ?_
  refine s_putR [6] C (fl1 ⟨by decide, fo_X6_14_6, rfl⟩) (pl_of e4 rfl) (fl1 (Or.inr ⟨e6, fx_X6_14_6⟩)) dX6_init_10 fun h4 => ?_
  refine s_aload_n C dX6_init_13 0 rfl rfl ?_
  refine s_sipush C (360 : Int32) dX6_init_14 (by decide) ?_
  refine s_newa 0 .int C q721 rfl (by decide) (pl_of1 e4 rfl) dX6_init_17 fun o5 h6 zo5 => ?_
  refine s_putR [6] C (fl1 ⟨by decide, fo_X6_33_6, rfl⟩) (pl_of e4 rfl) (fl1 (Or.inr ⟨e6, fx_X6_33_6⟩)) dX6_init_19 fun h7 => ?_
  refine s_aload_n C dX6_init_22 0 rfl rfl ?_
  refine s_bipush C (72 : Int32) dX6_init_23 (by decide) ?_
  refine s_newa 0 .int C q721 rfl (by decide) (pl_of1 e4 rfl) dX6_init_25 fun o8 h9 zo8 => ?_
  refine s_putR [6] C (fl1 ⟨by decide, fo_X6_37_6, rfl⟩) (pl_of e4 rfl) (fl1 (Or.inr ⟨e6, fx_X6_37_6⟩)) dX6_init_27 fun h10 => ?_
  refine s_aload_n C dX6_init_30 0 rfl rfl ?_
  refine s_sipush C (135 : Int32) dX6_init_31 (by decide) ?_
  refine s_newa 0 .int C q721 rfl (by decide) (pl_of1 e4 rfl) dX6_init_34 fun o11 h12 zo11 => ?_
  refine s_putR [6] C (fl1 ⟨by decide, fo_X6_40_6, rfl⟩) (pl_of e4 rfl) (fl1 (Or.inr ⟨e6, fx_X6_40_6⟩)) dX6_init_36 fun h13 => ?_
  refine s_aload_n C dX6_init_39 0 rfl rfl ?_
  refine s_sipush C (164 : Int32) dX6_init_40 (by decide) ?_
  refine s_newa 0 .int C q721 rfl (by decide) (pl_of1 e4 rfl) dX6_init_43 fun o14 h15 zo14 => ?_
  refine s_putR [6] C (fl1 ⟨by decide, fo_X6_43_6, rfl⟩) (pl_of e4 rfl) (fl1 (Or.inr ⟨e6, fx_X6_43_6⟩)) dX6_init_45 fun h16 => ?_
  refine s_aload_n C dX6_init_48 0 rfl rfl ?_
  refine s_bipush C (56 : Int32) dX6_init_49 (by decide) ?_
  refine s_newa 3 .long C q3106 rfl (by decide) (pl_of1 e4 rfl) dX6_init_51 fun o17 h18 zo17 => ?_
  refine s_putR [6] C (fl1 ⟨by decide, fo_X6_46_6, rfl⟩) (pl_of e4 rfl) (fl1 (Or.inr ⟨e6, fx_X6_46_6⟩)) dX6_init_53 fun h19 => ?_
  refine s_aload_n C dX6_init_56 0 rfl rfl ?_
  refine s_bipush C (21 : Int32) dX6_init_57 (by decide) ?_
  refine s_newa 3 .long C q3106 rfl (by decide) (pl_of1 e4 rfl) dX6_init_59 fun o20 h21 zo20 => ?_
  refine s_putR [6] C (fl1 ⟨by decide, fo_X6_50_6, rfl⟩) (pl_of e4 rfl) (fl1 (Or.inr ⟨e6, fx_X6_50_6⟩)) dX6_init_61 fun h22 => ?_
  refine s_aload_n C dX6_init_64 0 rfl rfl ?_
  refine s_bipush C (20 : Int32) dX6_init_65 (by decide) ?_
  refine s_newa 0 .int C q721 rfl (by decide) (pl_of1 e4 rfl) dX6_init_67 fun o23 h24 zo23 => ?_
  refine s_putR [6] C (fl1 ⟨by decide, fo_X6_53_6, rfl⟩) (pl_of e4 rfl) (fl1 (Or.inr ⟨e6, fx_X6_53_6⟩)) dX6_init_69 fun h25 => ?_
  refine s_aload_n C dX6_init_72 0 rfl rfl ?_
  refine s_bipush C (20 : Int32) dX6_init_73 (by decide) ?_
  refine s_newa 0 .int C q721 rfl (by decide) (pl_of1 e4 rfl) dX6_init_75 fun o26 h27 zo26 => ?_
  refine s_putR [6] C (fl1 ⟨by decide, fo_X6_56_6, rfl⟩) (pl_of e4 rfl) (fl1 (Or.inr ⟨e6, fx_X6_56_6⟩)) dX6_init_77 fun h28 => ?_
  refine s_aload_n C dX6_init_80 0 rfl rfl ?_
  refine s_sipush C (400 : Int32) dX6_init_81 (by decide) ?_
  refine s_newa 0 .int C q721 rfl (by decide) (pl_of1 e4 rfl) dX6_init_84 fun o29 h30 zo29 => ?_
  refine s_putR [6] C (fl1 ⟨by decide, fo_X6_59_6, rfl⟩) (pl_of e4 rfl) (fl1 (Or.inr ⟨e6, fx_X6_59_6⟩)) dX6_init_86 fun h31 => ?_
  refine s_aload_n C dX6_init_89 0 rfl rfl ?_
  refine s_bipush C (20 : Int32) dX6_init_90 (by decide) ?_
  refine s_newa 0 .int C q721 rfl (by decide) (pl_of1 e4 rfl) dX6_init_92 fun o32 h33 zo32 => ?_
  refine s_putR [6] C (fl1 ⟨by decide, fo_X6_62_6, rfl⟩) (pl_of e4 rfl) (fl1 (Or.inr ⟨e6, fx_X6_62_6⟩)) dX6_init_94 fun h34 => ?_
  refine s_aload_n C dX6_init_97 0 rfl rfl ?_
  refine s_bipush C (20 : Int32) dX6_init_98 (by decide) ?_
  refine s_newa 0 .int C q721 rfl (by decide) (pl_of1 e4 rfl) dX6_init_100 fun o35 h36 zo35 => ?_
  refine s_putR [6] C (fl1 ⟨by decide, fo_X6_65_6, rfl⟩) (pl_of e4 rfl) (fl1 (Or.inr ⟨e6, fx_X6_65_6⟩)) dX6_init_102 fun h37 => ?_
  refine s_aload_n C dX6_init_105 0 rfl rfl ?_
  refine s_sipush C (1776 : Int32) dX6_init_106 (by decide) ?_
  refine s_newa 0 .int C q721 rfl (by decide) (pl_of1 e4 rfl) dX6_init_109 fun o38 h39 zo38 => ?_
  refine s_putR [6] C (fl1 ⟨by decide, fo_X6_68_6, rfl⟩) (pl_of e4 rfl) (fl1 (Or.inr ⟨e6, fx_X6_68_6⟩)) dX6_init_111 fun h40 => ?_
  refine s_aload_n C dX6_init_114 0 rfl rfl ?_
  refine s_sipush C (222 : Int32) dX6_init_115 (by decide) ?_
  refine s_newa 0 .int C q721 rfl (by decide) (pl_of1 e4 rfl) dX6_init_118 fun o41 h42 zo41 => ?_
  refine s_putR [6] C (fl1 ⟨by decide, fo_X6_71_6, rfl⟩) (pl_of e4 rfl) (fl1 (Or.inr ⟨e6, fx_X6_71_6⟩)) dX6_init_120 fun h43 => ?_
  refine s_aload_n C dX6_init_123 0 rfl rfl ?_
  refine s_sipush C (222 : Int32) dX6_init_124 (by decide) ?_
  refine s_newa 0 .int C q721 rfl (by decide) (pl_of1 e4 rfl) dX6_init_127 fun o44 h45 zo44 => ?_
  refine s_putR [6] C (fl1 ⟨by decide, fo_X6_74_6, rfl⟩) (pl_of e4 rfl) (fl1 (Or.inr ⟨e6, fx_X6_74_6⟩)) dX6_init_129 fun h46 => ?_
  refine s_aload_n C dX6_init_132 0 rfl rfl ?_
  refine s_iconst C (-1 : Int32) dX6_init_133 (by decide) ?_
  refine s_putI [6] 0 C (by decide) (by decide) (fl1 ⟨⟨by decide, fo_X6_77_6, rfl⟩, rfl⟩) (pl_of e4 rfl) (fl1 (Or.inl rfl)) dX6_init_134 fun h47 => ?_
  refine s_aload_n C dX6_init_137 0 rfl rfl ?_
  refine s_iconst C (-1 : Int32) dX6_init_138 (by decide) ?_
  refine s_putI [6] 0 C (by decide) (by decide) (fl1 ⟨⟨by decide, fo_X6_80_6, rfl⟩, rfl⟩) (pl_of e4 rfl) (fl1 (Or.inl rfl)) dX6_init_139 fun h48 => ?_
  refine s_aload_n C dX6_init_142 0 rfl rfl ?_
  refine s_bipush C (30 : Int32) dX6_init_143 (by decide) ?_
  refine s_newa 1 .byte C q214 rfl (by decide) (pl_of1 e4 rfl) dX6_init_145 fun o49 h50 zo49 => ?_
  refine s_putR [6] C (fl1 ⟨by decide, fo_X6_83_6, rfl⟩) (pl_of e4 rfl) (fl1 (Or.inr ⟨e6, fx_X6_83_6⟩)) dX6_init_147 fun h51 => ?_
  refine s_aload_n C dX6_init_150 0 rfl rfl ?_
  refine s_iconst C (4 : Int32) dX6_init_151 (by decide) ?_
  refine s_newa 0 .int C q721 rfl (by decide) (pl_of1 e4 rfl) dX6_init_152 fun o52 h53 zo52 => ?_
  refine s_putR [6] C (fl1 ⟨by decide, fo_X6_86_6, rfl⟩) (pl_of e4 rfl) (fl1 (Or.inr ⟨e6, fx_X6_86_6⟩)) dX6_init_154 fun h54 => ?_
  refine s_aload_n C dX6_init_157 0 rfl rfl ?_
  refine s_bipush C (45 : Int32) dX6_init_158 (by decide) ?_
  refine s_newa 0 .int C q721 rfl (by decide) (pl_of1 e4 rfl) dX6_init_160 fun o55 h56 zo55 => ?_
  refine s_putR [6] C (fl1 ⟨by decide, fo_X6_89_6, rfl⟩) (pl_of e4 rfl) (fl1 (Or.inr ⟨e6, fx_X6_89_6⟩)) dX6_init_162 fun h57 => ?_
  refine s_aload_n C dX6_init_165 0 rfl rfl ?_
  refine s_bipush C (45 : Int32) dX6_init_166 (by decide) ?_
  refine s_newa 2 .boolean C q3107 rfl (by decide) (pl_of1 e4 rfl) dX6_init_168 fun o58 h59 zo58 => ?_
  refine s_putR [6] C (fl1 ⟨by decide, fo_X6_92_6, rfl⟩) (pl_of e4 rfl) (fl1 (Or.inr ⟨e6, fx_X6_92_6⟩)) dX6_init_170 fun h60 => ?_
  refine s_aload_n C dX6_init_173 0 rfl rfl ?_
  refine s_sipush C (720 : Int32) dX6_init_174 (by decide) ?_
  refine s_newa 0 .int C q721 rfl (by decide) (pl_of1 e4 rfl) dX6_init_177 fun o61 h62 zo61 => ?_
  refine s_putR [6] C (fl1 ⟨by decide, fo_X6_96_6, rfl⟩) (pl_of e4 rfl) (fl1 (Or.inr ⟨e6, fx_X6_96_6⟩)) dX6_init_179 fun h63 => ?_
  refine s_aload_n C dX6_init_182 0 rfl rfl ?_
  refine s_bipush C (56 : Int32) dX6_init_183 (by decide) ?_
  refine s_newa 3 .long C q3106 rfl (by decide) (pl_of1 e4 rfl) dX6_init_185 fun o64 h65 zo64 => ?_
  refine s_putR [6] C (fl1 ⟨by decide, fo_X6_99_6, rfl⟩) (pl_of e4 rfl) (fl1 (Or.inr ⟨e6, fx_X6_99_6⟩)) dX6_init_187 fun h66 => ?_
  refine s_aload_n C dX6_init_190 0 rfl rfl ?_
  refine s_iconst C (2 : Int32) dX6_init_191 (by decide) ?_
  refine s_newa 2 .boolean C q3107 rfl (by decide) (pl_of1 e4 rfl) dX6_init_192 fun o67 h68 zo67 => ?_
  refine s_putR [6] C (fl1 ⟨by decide, fo_X6_102_6, rfl⟩) (pl_of e4 rfl) (fl1 (Or.inr ⟨e6, fx_X6_102_6⟩)) dX6_init_194 fun h69 => ?_
  refine s_aload_n C dX6_init_197 0 rfl rfl ?_
  refine s_getR [6] C (fl1 ⟨fo_X6_50_6, rfl⟩) (pl_of e4 rfl) dX6_init_198 fun a70 => ?_
  refine s_iconst C (0 : Int32) dX6_init_201 (by decide) ?_
  refine s_ldc2 C q2910 dX6_init_202 ?_
  refine s_last [203] C (fl1 ⟨by decide, rfl⟩) (pl_of e4 rfl) dX6_init_205 fun h71 => ?_
  refine s_aload_n C dX6_init_206 0 rfl rfl ?_
  refine s_getR [6] C (fl1 ⟨fo_X6_50_6, rfl⟩) (pl_of e4 rfl) dX6_init_207 fun a72 => ?_
  refine s_iconst C (1 : Int32) dX6_init_210 (by decide) ?_
  refine s_ldc2 C q2911 dX6_init_211 ?_
  refine s_last [203] C (fl1 ⟨by decide, rfl⟩) (pl_of e4 rfl) dX6_init_214 fun h73 => ?_
  refine s_aload_n C dX6_init_215 0 rfl rfl ?_
  refine s_getR [6] C (fl1 ⟨fo_X6_50_6, rfl⟩) (pl_of e4 rfl) dX6_init_216 fun a74 => ?_
  refine s_iconst C (2 : Int32) dX6_init_219 (by decide) ?_
  refine s_ldc2 C q2912 dX6_init_220 ?_
  refine s_last [203] C (fl1 ⟨by decide, rfl⟩) (pl_of e4 rfl) dX6_init_223 fun h75 => ?_
  refine s_aload_n C dX6_init_224 0 rfl rfl ?_
  refine s_getR [6] C (fl1 ⟨fo_X6_50_6, rfl⟩) (pl_of e4 rfl) dX6_init_225 fun a76 => ?_
  refine s_iconst C (3 : Int32) dX6_init_228 (by decide) ?_
  refine s_ldc2 C q2913 dX6_init_229 ?_
  refine s_last [203] C (fl1 ⟨by decide, rfl⟩) (pl_of e4 rfl) dX6_init_232 fun h77 => ?_
  refine s_aload_n C dX6_init_233 0 rfl rfl ?_
  refine s_getR [6] C (fl1 ⟨fo_X6_50_6, rfl⟩) (pl_of e4 rfl) dX6_init_234 fun a78 => ?_
  refine s_iconst C (4 : Int32) dX6_init_237 (by decide) ?_
  refine s_ldc2 C q2914 dX6_init_238 ?_
  refine s_last [203] C (fl1 ⟨by decide, rfl⟩) (pl_of e4 rfl) dX6_init_241 fun h79 => ?_
  refine s_aload_n C dX6_init_242 0 rfl rfl ?_
  refine s_getR [6] C (fl1 ⟨fo_X6_50_6, rfl⟩) (pl_of e4 rfl) dX6_init_243 fun a80 => ?_
  refine s_iconst C (5 : Int32) dX6_init_246 (by decide) ?_
  refine s_ldc2 C q2915 dX6_init_247 ?_
  refine s_last [203] C (fl1 ⟨by decide, rfl⟩) (pl_of e4 rfl) dX6_init_250 fun h81 => ?_
  refine s_aload_n C dX6_init_251 0 rfl rfl ?_
  refine s_getR [6] C (fl1 ⟨fo_X6_50_6, rfl⟩) (pl_of e4 rfl) dX6_init_252 fun a82 => ?_
  refine s_bipush C (6 : Int32) dX6_init_255 (by decide) ?_
  refine s_ldc2 C q2916 dX6_init_257 ?_
  refine s_last [203] C (fl1 ⟨by decide, rfl⟩) (pl_of e4 rfl) dX6_init_260 fun h83 => ?_
  refine s_aload_n C dX6_init_261 0 rfl rfl ?_
  refine s_getR [6] C (fl1 ⟨fo_X6_50_6, rfl⟩) (pl_of e4 rfl) dX6_init_262 fun a84 => ?_
  refine s_bipush C (7 : Int32) dX6_init_265 (by decide) ?_
  refine s_ldc2 C q2917 dX6_init_267 ?_
  refine s_last [203] C (fl1 ⟨by decide, rfl⟩) (pl_of e4 rfl) dX6_init_270 fun h85 => ?_
  refine s_aload_n C dX6_init_271 0 rfl rfl ?_
  refine s_getR [6] C (fl1 ⟨fo_X6_50_6, rfl⟩) (pl_of e4 rfl) dX6_init_272 fun a86 => ?_
  refine s_bipush C (8 : Int32) dX6_init_275 (by decide) ?_
  refine s_ldc2 C q2918 dX6_init_277 ?_
  refine s_last [203] C (fl1 ⟨by decide, rfl⟩) (pl_of e4 rfl) dX6_init_280 fun h87 => ?_
  refine s_aload_n C dX6_init_281 0 rfl rfl ?_
  refine s_getR [6] C (fl1 ⟨fo_X6_50_6, rfl⟩) (pl_of e4 rfl) dX6_init_282 fun a88 => ?_
  refine s_bipush C (9 : Int32) dX6_init_285 (by decide) ?_
  refine s_ldc2 C q2919 dX6_init_287 ?_
  refine s_last [203] C (fl1 ⟨by decide, rfl⟩) (pl_of e4 rfl) dX6_init_290 fun h89 => ?_
  refine s_aload_n C dX6_init_291 0 rfl rfl ?_
  refine s_getR [6] C (fl1 ⟨fo_X6_50_6, rfl⟩) (pl_of e4 rfl) dX6_init_292 fun a90 => ?_
  refine s_bipush C (10 : Int32) dX6_init_295 (by decide) ?_
  refine s_ldc2 C q2920 dX6_init_297 ?_
  refine s_last [203] C (fl1 ⟨by decide, rfl⟩) (pl_of e4 rfl) dX6_init_300 fun h91 => ?_
  refine s_aload_n C dX6_init_301 0 rfl rfl ?_
  refine s_getR [6] C (fl1 ⟨fo_X6_50_6, rfl⟩) (pl_of e4 rfl) dX6_init_302 fun a92 => ?_
  refine s_bipush C (11 : Int32) dX6_init_305 (by decide) ?_
  refine s_ldc2 C q2921 dX6_init_307 ?_
  refine s_last [203] C (fl1 ⟨by decide, rfl⟩) (pl_of e4 rfl) dX6_init_310 fun h93 => ?_
  refine s_aload_n C dX6_init_311 0 rfl rfl ?_
  refine s_getR [6] C (fl1 ⟨fo_X6_50_6, rfl⟩) (pl_of e4 rfl) dX6_init_312 fun a94 => ?_
  refine s_bipush C (12 : Int32) dX6_init_315 (by decide) ?_
  refine s_ldc2 C q2922 dX6_init_317 ?_
  refine s_last [203] C (fl1 ⟨by decide, rfl⟩) (pl_of e4 rfl) dX6_init_320 fun h95 => ?_
  refine s_aload_n C dX6_init_321 0 rfl rfl ?_
  refine s_getR [6] C (fl1 ⟨fo_X6_50_6, rfl⟩) (pl_of e4 rfl) dX6_init_322 fun a96 => ?_
  refine s_bipush C (13 : Int32) dX6_init_325 (by decide) ?_
  refine s_ldc2 C q2923 dX6_init_327 ?_
  refine s_last [203] C (fl1 ⟨by decide, rfl⟩) (pl_of e4 rfl) dX6_init_330 fun h97 => ?_
  refine s_aload_n C dX6_init_331 0 rfl rfl ?_
  refine s_getR [6] C (fl1 ⟨fo_X6_50_6, rfl⟩) (pl_of e4 rfl) dX6_init_332 fun a98 => ?_
  refine s_bipush C (14 : Int32) dX6_init_335 (by decide) ?_
  refine s_ldc2 C q2924 dX6_init_337 ?_
  refine s_last [203] C (fl1 ⟨by decide, rfl⟩) (pl_of e4 rfl) dX6_init_340 fun h99 => ?_
  refine s_aload_n C dX6_init_341 0 rfl rfl ?_
  refine s_getR [6] C (fl1 ⟨fo_X6_50_6, rfl⟩) (pl_of e4 rfl) dX6_init_342 fun a100 => ?_
  refine s_bipush C (15 : Int32) dX6_init_345 (by decide) ?_
  refine s_ldc2 C q2925 dX6_init_347 ?_
  refine s_last [203] C (fl1 ⟨by decide, rfl⟩) (pl_of e4 rfl) dX6_init_350 fun h101 => ?_
  refine s_aload_n C dX6_init_351 0 rfl rfl ?_
  refine s_getR [6] C (fl1 ⟨fo_X6_50_6, rfl⟩) (pl_of e4 rfl) dX6_init_352 fun a102 => ?_
  refine s_bipush C (16 : Int32) dX6_init_355 (by decide) ?_
  refine s_ldc2 C q2926 dX6_init_357 ?_
  refine s_last [203] C (fl1 ⟨by decide, rfl⟩) (pl_of e4 rfl) dX6_init_360 fun h103 => ?_
  refine s_aload_n C dX6_init_361 0 rfl rfl ?_
  refine s_getR [6] C (fl1 ⟨fo_X6_50_6, rfl⟩) (pl_of e4 rfl) dX6_init_362 fun a104 => ?_
  refine s_bipush C (17 : Int32) dX6_init_365 (by decide) ?_
  refine s_ldc2 C q2927 dX6_init_367 ?_
  refine s_last [203] C (fl1 ⟨by decide, rfl⟩) (pl_of e4 rfl) dX6_init_370 fun h105 => ?_
  refine s_aload_n C dX6_init_371 0 rfl rfl ?_
  refine s_getR [6] C (fl1 ⟨fo_X6_50_6, rfl⟩) (pl_of e4 rfl) dX6_init_372 fun a106 => ?_
  refine s_bipush C (18 : Int32) dX6_init_375 (by decide) ?_
  refine s_ldc2 C q2928 dX6_init_377 ?_
  refine s_last [203] C (fl1 ⟨by decide, rfl⟩) (pl_of e4 rfl) dX6_init_380 fun h107 => ?_
  refine s_aload_n C dX6_init_381 0 rfl rfl ?_
  refine s_getR [6] C (fl1 ⟨fo_X6_50_6, rfl⟩) (pl_of e4 rfl) dX6_init_382 fun a108 => ?_
  refine s_bipush C (19 : Int32) dX6_init_385 (by decide) ?_
  refine s_ldc2 C q2929 dX6_init_387 ?_
  refine s_last [203] C (fl1 ⟨by decide, rfl⟩) (pl_of e4 rfl) dX6_init_390 fun h109 => ?_
  refine s_aload_n C dX6_init_391 0 rfl rfl ?_
  refine s_getR [6] C (fl1 ⟨fo_X6_50_6, rfl⟩) (pl_of e4 rfl) dX6_init_392 fun a110 => ?_
  refine s_bipush C (20 : Int32) dX6_init_395 (by decide) ?_
  refine s_ldc2 C q2930 dX6_init_397 ?_
  refine s_last [203] C (fl1 ⟨by decide, rfl⟩) (pl_of e4 rfl) dX6_init_400 fun h111 => ?_
  refine s_aload_n C dX6_init_401 0 rfl rfl ?_
  refine s_getR [6] C (fl1 ⟨fo_X6_33_6, rfl⟩) (pl_of e4 rfl) dX6_init_402 fun a112 => ?_
  refine s_iconst C (0 : Int32) dX6_init_405 (by decide) ?_
  refine s_iconst C (1 : Int32) dX6_init_406 (by decide) ?_
  refine s_iast [200] C (fl1 ⟨by decide, rfl⟩) (pl_of e4 rfl) dX6_init_407 fun h113 => ?_
  exact s_vret C rfl dX6_init_408
