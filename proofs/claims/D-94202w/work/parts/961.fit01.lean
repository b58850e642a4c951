/-! FITS 1 -/
set_option maxRecDepth 100000
theorem fX0_cell_0 {X : tp_X} {az : Array Value} (hG : tp_Good X az) (hSt : tp_Stat X) : tp_Fit X yX0_cell cX0_cell (some .int) 2 tp_nm tp_by tp_ml tp_rtt 0 [o_ild (.iload_n 1) 1, o_ald (.aload_n 0) 0, o_alen, o_icmpge 9 12, o_ald (.aload_n 0) 0, o_ild (.iload_n 1) 1, o_lda .iaload [0, 20], o_goto 4 13] :=
  fG mo_ild (sim_ild_n dX0_cell_0 rfl) <|
  fG mo_ald (sim_ald_n dX0_cell_1 rfl) <|
  fG mo_alen (sim_alen dX0_cell_2) <|
  fG mo_icmpge (sim_icmpge dX0_cell_3 rfl) <|
  fG mo_ald (sim_ald_n dX0_cell_6 rfl) <|
  fG mo_ild (sim_ild_n dX0_cell_7 rfl) <|
  fG mo_lda (sim_iald dX0_cell_8) <|
  fG mo_goto (sim_goto dX0_cell_9 rfl) <|
  trivial
theorem fX0_cell_12 {X : tp_X} {az : Array Value} (hG : tp_Good X az) (hSt : tp_Stat X) : tp_Fit X yX0_cell cX0_cell (some .int) 2 tp_nm tp_by tp_ml tp_rtt 12 [o_int (.iconst 0) 0, o_fall 13] :=
  fG mo_int (sim_iconst dX0_cell_12 (by decide)) <|
  fF
theorem fX0_cell_13 {X : tp_X} {az : Array Value} (hG : tp_Good X az) (hSt : tp_Stat X) : tp_Fit X yX0_cell cX0_cell (some .int) 2 tp_nm tp_by tp_ml tp_rtt 13 [o_iret 0] :=
  fE ie_iret (sim_iret dX0_cell_13 rfl (Or.inl ⟨rfl, rfl⟩))
theorem F_X0_cell {X : tp_X} {az : Array Value} (hG : tp_Good X az) (hSt : tp_Stat X) (pc : Nat) : tp_Fit X yX0_cell cX0_cell (some .int) 2 tp_nm tp_by tp_ml tp_rtt pc (mX0_cell pc) :=
  fI (fX0_cell_0 hG hSt) <| fI (fX0_cell_12 hG hSt) <| fI (fX0_cell_13 hG hSt) <| trivial
theorem fX1_init_0 {X : tp_X} {az : Array Value} (hG : tp_Good X az) (hSt : tp_Stat X) : tp_Fit X yX1_init cX1_init none 3 tp_nm tp_by tp_ml tp_rtt 0 [o_ald (.aload_n 0) 0, o_objinit (.invokespecial 3), o_ald (.aload_n 0) 0, o_new (.new 9) 2 13 [xN, xN, xN, xN, xN, xN, xN, xN, xN, xN, xN, xN, xN], o_dup, o_cp (.invokespecial 11) kX2_init 0 0, o_putf (.putfield 12) 1 0 4, o_ald (.aload_n 0) 0, o_new (.new 9) 2 13 [xN, xN, xN, xN, xN, xN, xN, xN, xN, xN, xN, xN, xN], o_dup, o_cp (.invokespecial 11) kX2_init 0 0, o_putf (.putfield 16) 1 1 4, o_ald (.aload_n 0) 0, o_int (.sipush 300) 300, o_newa (.newarray .byte) 2, o_putf (.putfield 19) 1 5 4, o_ald (.aload_n 0) 0, o_int (.iconst (-1)) (-1), o_putf (.putfield 23) 1 7 0, o_ald (.aload_n 0) 0, o_int (.iconst (-1)) (-1), o_putf (.putfield 27) 1 8 0, o_ald (.aload_n 0) 0, o_int (.bipush 11) 11, o_newa (.newarray .int) 0, o_putf (.putfield 30) 1 9 4, o_ald (.aload_n 0) 0, o_int (.bipush 36) 36, o_newa (.newarray .int) 0, o_putf (.putfield 34) 1 10 4, o_ald (.aload_n 0) 0, o_int (.bipush 12) 12, o_newa (.newarray .int) 0, o_putf (.putfield 37) 1 12 4, o_ald (.aload_n 0) 0, o_int (.bipush 13) 13, o_int (.bipush 36) 36, o_new2 (.multianewarray 40 2), o_putf (.putfield 42) 1 13 4, o_ald (.aload_n 0) 0, o_int (.ldc 45) 86400, o_newa (.newarray .int) 0, o_putf (.putfield 46) 1 14 4, o_ald (.aload_n 0) 0, o_int (.bipush 13) 13, o_int (.iconst 3) 3, o_new2 (.multianewarray 40 2), o_putf (.putfield 49) 1 15 4, o_ald (.aload_n 0) 0, o_int (.iconst 3) 3, o_int (.iconst 4) 4, o_int (.bipush 36) 36, o_new3 (.multianewarray 52 3), o_putf (.putfield 54) 1 17 4, o_ald (.aload_n 0) 0, o_int (.bipush 36) 36, o_newa (.newarray .int) 0, o_putf (.putfield 57) 1 18 4, o_ald (.aload_n 0) 0, o_int (.bipush 36) 36, o_newa (.newarray .int) 0, o_putf (.putfield 60) 1 19 4, o_ald (.aload_n 0) 0, o_int (.iconst 4) 4, o_newa (.newarray .int) 0, o_putf (.putfield 63) 1 20 4, o_ald (.aload_n 0) 0, o_int (.bipush 36) 36, o_newa (.newarray .int) 0, o_putf (.putfield 66) 1 21 4, o_ald (.aload_n 0) 0, o_int (.bipush 36) 36, o_newa (.newarray .int) 0, o_putf (.putfield 69) 1 22 4, o_ald (.aload_n 0) 0, o_int (.iconst 3) 3, o_int (.bipush 6) 6, o_ild (.iload_n 1) 1, o_mmin (.invokestatic 72), o_mmax (.invokestatic 78), o_putf (.putfield 81) 1 2 0, o_ald (.aload_n 0) 0, o_int (.iconst 3) 3, o_int (.bipush 6) 6, o_ild (.iload_n 2) 2, o_mmin (.invokestatic 72), o_mmax (.invokestatic 78), o_putf (.putfield 84) 1 3 0, o_ald (.aload_n 0) 0, o_ald (.aload_n 0) 0, o_getf (.getfield 81) 1 2, o_ald (.aload_n 0) 0, o_getf (.getfield 84) 1 3, o_imul, o_putf (.putfield 87) 1 4 0, o_ald (.aload_n 0) 0, o_getf (.getfield 16) 1 1, o_ald (.aload_n 0) 0, o_getf (.getfield 12) 1 0, o_cv (.invokevirtual 90) 2 kX2_be 1 0, o_vret] :=
  fG mo_ald (sim_ald_n dX1_init_0 rfl) <|
  fG mo_objinit (sim_objinit hG dX1_init_1 q162 q163 q164) <|
  fG mo_ald (sim_ald_n dX1_init_4 rfl) <|
  fG mo_new (sim_new hG dX1_init_5 hc_2 rfl (by decide) (by decide) in_X2 tyX2_ok q165 q166 q126 df_X2) <|
  fG mo_dup (sim_dup dX1_init_8) <|
  fC (ic_cp (Or.inl rfl)) (sim_cp hG dX1_init_9 M_X2_init (by rw [nm_X2_init]; rfl) rt_X2_init (by rw [nm_X2_init]; rfl) (by rw [nm_X2_init]; exact q167) (by rw [nm_X2_init]; exact q168)) <|
  fG mo_putf (sim_putfF hG dX1_init_12 hc_1 (by decide) rfl (by decide) in_X1 tyX1_ok nmX1 (Or.inr (Or.inr (Or.inr (Or.inr ⟨Or.inl ⟨_, rfl⟩, by decide⟩)))) (fun _ _ _ h => h) rfl rfl rfl q256) <|
  fG mo_ald (sim_ald_n dX1_init_15 rfl) <|
  fG mo_new (sim_new hG dX1_init_16 hc_2 rfl (by decide) (by decide) in_X2 tyX2_ok q165 q166 q126 df_X2) <|
  fG mo_dup (sim_dup dX1_init_19) <|
  fC (ic_cp (Or.inl rfl)) (sim_cp hG dX1_init_20 M_X2_init (by rw [nm_X2_init]; rfl) rt_X2_init (by rw [nm_X2_init]; rfl) (by rw [nm_X2_init]; exact q167) (by rw [nm_X2_init]; exact q168)) <|
  fG mo_putf (sim_putfF hG dX1_init_23 hc_1 (by decide) rfl (by decide) in_X1 tyX1_ok nmX1 (Or.inr (Or.inr (Or.inr (Or.inr ⟨Or.inl ⟨_, rfl⟩, by decide⟩)))) (fun _ _ _ h => h) rfl rfl rfl q257) <|
  fG mo_ald (sim_ald_n dX1_init_26 rfl) <|
  fG mo_int (sim_sipush dX1_init_27 (by decide)) <|
  fG mo_newa (sim_newa hG dX1_init_30 q326 ⟨rfl, by decide⟩) <|
  fG mo_putf (sim_putfF hG dX1_init_32 hc_1 (by decide) rfl (by decide) in_X1 tyX1_ok nmX1 (Or.inr (Or.inr (Or.inr (Or.inr ⟨Or.inr ⟨_, rfl⟩, by decide⟩)))) (fun _ _ _ h => h) rfl rfl rfl q261) <|
  fG mo_ald (sim_ald_n dX1_init_35 rfl) <|
  fG mo_int (sim_iconst dX1_init_36 (by decide)) <|
  fG mo_putf (sim_putf hG dX1_init_37 hc_1 (by decide) rfl (by decide) in_X1 tyX1_ok nmX1 (Or.inl ⟨rfl, rfl⟩) (fun _ _ _ h => h) rfl q263) <|
  fG mo_ald (sim_ald_n dX1_init_40 rfl) <|
  fG mo_int (sim_iconst dX1_init_41 (by decide)) <|
  fG mo_putf (sim_putf hG dX1_init_42 hc_1 (by decide) rfl (by decide) in_X1 tyX1_ok nmX1 (Or.inl ⟨rfl, rfl⟩) (fun _ _ _ h => h) rfl q264) <|
  fG mo_ald (sim_ald_n dX1_init_45 rfl) <|
  fG mo_int (sim_bipush dX1_init_46 (by decide)) <|
  fG mo_newa (sim_newa hG dX1_init_48 q231 ⟨rfl, by decide⟩) <|
  fG mo_putf (sim_putfF hG dX1_init_50 hc_1 (by decide) rfl (by decide) in_X1 tyX1_ok nmX1 (Or.inr (Or.inr (Or.inr (Or.inr ⟨Or.inr ⟨_, rfl⟩, by decide⟩)))) (fun _ _ _ h => h) rfl rfl rfl q265) <|
  fG mo_ald (sim_ald_n dX1_init_53 rfl) <|
  fG mo_int (sim_bipush dX1_init_54 (by decide)) <|
  fG mo_newa (sim_newa hG dX1_init_56 q231 ⟨rfl, by decide⟩) <|
  fG mo_putf (sim_putfF hG dX1_init_58 hc_1 (by decide) rfl (by decide) in_X1 tyX1_ok nmX1 (Or.inr (Or.inr (Or.inr (Or.inr ⟨Or.inr ⟨_, rfl⟩, by decide⟩)))) (fun _ _ _ h => h) rfl rfl rfl q266) <|
  fG mo_ald (sim_ald_n dX1_init_61 rfl) <|
  fG mo_int (sim_bipush dX1_init_62 (by decide)) <|
  fG mo_newa (sim_newa hG dX1_init_64 q231 ⟨rfl, by decide⟩) <|
  fG mo_putf (sim_putfF hG dX1_init_66 hc_1 (by decide) rfl (by decide) in_X1 tyX1_ok nmX1 (Or.inr (Or.inr (Or.inr (Or.inr ⟨Or.inr ⟨_, rfl⟩, by decide⟩)))) (fun _ _ _ h => h) rfl rfl rfl q268) <|
  fG mo_ald (sim_ald_n dX1_init_69 rfl) <|
  fG mo_int (sim_bipush dX1_init_70 (by decide)) <|
  fG mo_int (sim_bipush dX1_init_72 (by decide)) <|
  fG mo_new2 (sim_new2 hG dX1_init_74 q233 q172 q231) <|
  fG mo_putf (sim_putfF hG dX1_init_78 hc_1 (by decide) rfl (by decide) in_X1 tyX1_ok nmX1 (Or.inr (Or.inr (Or.inr (Or.inr ⟨Or.inr ⟨_, rfl⟩, by decide⟩)))) (fun _ _ _ h => h) rfl rfl rfl q269) <|
  fG mo_ald (sim_ald_n dX1_init_81 rfl) <|
  fG mo_int (sim_ldc hG dX1_init_82 q234 rfl) <|
  fG mo_newa (sim_newa hG dX1_init_84 q231 ⟨rfl, by decide⟩) <|
  fG mo_putf (sim_putfF hG dX1_init_86 hc_1 (by decide) rfl (by decide) in_X1 tyX1_ok nmX1 (Or.inr (Or.inr (Or.inr (Or.inr ⟨Or.inr ⟨_, rfl⟩, by decide⟩)))) (fun _ _ _ h => h) rfl rfl rfl q270) <|
  fG mo_ald (sim_ald_n dX1_init_89 rfl) <|
  fG mo_int (sim_bipush dX1_init_90 (by decide)) <|
  fG mo_int (sim_iconst dX1_init_92 (by decide)) <|
  fG mo_new2 (sim_new2 hG dX1_init_93 q233 q172 q231) <|
  fG mo_putf (sim_putfF hG dX1_init_97 hc_1 (by decide) rfl (by decide) in_X1 tyX1_ok nmX1 (Or.inr (Or.inr (Or.inr (Or.inr ⟨Or.inr ⟨_, rfl⟩, by decide⟩)))) (fun _ _ _ h => h) rfl rfl rfl q271) <|
  fG mo_ald (sim_ald_n dX1_init_100 rfl) <|
  fG mo_int (sim_iconst dX1_init_101 (by decide)) <|
  fG mo_int (sim_iconst dX1_init_102 (by decide)) <|
  fG mo_int (sim_bipush dX1_init_103 (by decide)) <|
  fG mo_new3 (sim_new3 hG dX1_init_105 q235 q172 q236 q231) <|
  fG mo_putf (sim_putfF hG dX1_init_109 hc_1 (by decide) rfl (by decide) in_X1 tyX1_ok nmX1 (Or.inr (Or.inr (Or.inr (Or.inr ⟨Or.inr ⟨_, rfl⟩, by decide⟩)))) (fun _ _ _ h => h) rfl rfl rfl q273) <|
  fG mo_ald (sim_ald_n dX1_init_112 rfl) <|
  fG mo_int (sim_bipush dX1_init_113 (by decide)) <|
  fG mo_newa (sim_newa hG dX1_init_115 q231 ⟨rfl, by decide⟩) <|
  fG mo_putf (sim_putfF hG dX1_init_117 hc_1 (by decide) rfl (by decide) in_X1 tyX1_ok nmX1 (Or.inr (Or.inr (Or.inr (Or.inr ⟨Or.inr ⟨_, rfl⟩, by decide⟩)))) (fun _ _ _ h => h) rfl rfl rfl q274) <|
  fG mo_ald (sim_ald_n dX1_init_120 rfl) <|
  fG mo_int (sim_bipush dX1_init_121 (by decide)) <|
  fG mo_newa (sim_newa hG dX1_init_123 q231 ⟨rfl, by decide⟩) <|
  fG mo_putf (sim_putfF hG dX1_init_125 hc_1 (by decide) rfl (by decide) in_X1 tyX1_ok nmX1 (Or.inr (Or.inr (Or.inr (Or.inr ⟨Or.inr ⟨_, rfl⟩, by decide⟩)))) (fun _ _ _ h => h) rfl rfl rfl q275) <|
  fG mo_ald (sim_ald_n dX1_init_128 rfl) <|
  fG mo_int (sim_iconst dX1_init_129 (by decide)) <|
  fG mo_newa (sim_newa hG dX1_init_130 q231 ⟨rfl, by decide⟩) <|
  fG mo_putf (sim_putfF hG dX1_init_132 hc_1 (by decide) rfl (by decide) in_X1 tyX1_ok nmX1 (Or.inr (Or.inr (Or.inr (Or.inr ⟨Or.inr ⟨_, rfl⟩, by decide⟩)))) (fun _ _ _ h => h) rfl rfl rfl q276) <|
  fG mo_ald (sim_ald_n dX1_init_135 rfl) <|
  fG mo_int (sim_bipush dX1_init_136 (by decide)) <|
  fG mo_newa (sim_newa hG dX1_init_138 q231 ⟨rfl, by decide⟩) <|
  fG mo_putf (sim_putf hG dX1_init_140 hc_1 (by decide) rfl (by decide) in_X1 tyX1_ok nmX1 (Or.inr (Or.inr (Or.inr (Or.inr ⟨Or.inr ⟨_, rfl⟩, by decide⟩)))) (fun _ _ _ h => h) rfl q277) <|
  fG mo_ald (sim_ald_n dX1_init_143 rfl) <|
  fG mo_int (sim_bipush dX1_init_144 (by decide)) <|
  fG mo_newa (sim_newa hG dX1_init_146 q231 ⟨rfl, by decide⟩) <|
  fG mo_putf (sim_putf hG dX1_init_148 hc_1 (by decide) rfl (by decide) in_X1 tyX1_ok nmX1 (Or.inr (Or.inr (Or.inr (Or.inr ⟨Or.inr ⟨_, rfl⟩, by decide⟩)))) (fun _ _ _ h => h) rfl q278) <|
  fG mo_ald (sim_ald_n dX1_init_151 rfl) <|
  fG mo_int (sim_iconst dX1_init_152 (by decide)) <|
  fG mo_int (sim_bipush dX1_init_153 (by decide)) <|
  fG mo_ild (sim_ild_n dX1_init_155 rfl) <|
  fG mo_mmin (sim_mmin hG dX1_init_156 q237 q238 q128 q239) <|
  fG mo_mmax (sim_mmax hG dX1_init_159 q240 q241 q128 q242) <|
  fG mo_putf (sim_putfF hG dX1_init_162 hc_1 (by decide) rfl (by decide) in_X1 tyX1_ok nmX1 (Or.inl ⟨rfl, rfl⟩) (fun _ _ _ h => h) rfl rfl rfl q258) <|
  fG mo_ald (sim_ald_n dX1_init_165 rfl) <|
  fG mo_int (sim_iconst dX1_init_166 (by decide)) <|
  fG mo_int (sim_bipush dX1_init_167 (by decide)) <|
  fG mo_ild (sim_ild_n dX1_init_169 rfl) <|
  fG mo_mmin (sim_mmin hG dX1_init_170 q237 q238 q128 q239) <|
  fG mo_mmax (sim_mmax hG dX1_init_173 q240 q241 q128 q242) <|
  fG mo_putf (sim_putfF hG dX1_init_176 hc_1 (by decide) rfl (by decide) in_X1 tyX1_ok nmX1 (Or.inl ⟨rfl, rfl⟩) (fun _ _ _ h => h) rfl rfl rfl q259) <|
  fG mo_ald (sim_ald_n dX1_init_179 rfl) <|
  fG mo_ald (sim_ald_n dX1_init_180 rfl) <|
  fG mo_getf (sim_getfG hG dX1_init_181 hc_1 (by decide) rfl in_X1 (fun _ _ _ h => h) (Or.inl q258)) <|
  fG mo_ald (sim_ald_n dX1_init_184 rfl) <|
  fG mo_getf (sim_getfG hG dX1_init_185 hc_1 (by decide) rfl in_X1 (fun _ _ _ h => h) (Or.inl q259)) <|
  fG mo_imul (sim_imul dX1_init_188) <|
  fG mo_putf (sim_putfF hG dX1_init_189 hc_1 (by decide) rfl (by decide) in_X1 tyX1_ok nmX1 (Or.inl ⟨rfl, rfl⟩) (fun _ _ _ h => h) rfl rfl rfl q260) <|
  fG mo_ald (sim_ald_n dX1_init_192 rfl) <|
  fG mo_getf (sim_getfG hG dX1_init_193 hc_1 (by decide) rfl in_X1 (fun _ _ _ h => h) (Or.inl q257)) <|
  fG mo_ald (sim_ald_n dX1_init_196 rfl) <|
  fG mo_getf (sim_getfG hG dX1_init_197 hc_1 (by decide) rfl in_X1 (fun _ _ _ h => h) (Or.inl q256)) <|
  fC (ic_cv (Or.inl rfl)) (sim_cv hG dX1_init_200 (hG.2.1 2 _ hc_2).2.1 M_X2_be (by rw [nm_X2_be]; rfl) (by rw [nm_X2_be]; exact q243) (by rw [nm_X2_be]; exact q244) (by rw [nm_X2_be]; exact q245)) <|
  fE ie_vret (sim_vret dX1_init_203 rfl)
theorem F_X1_init {X : tp_X} {az : Array Value} (hG : tp_Good X az) (hSt : tp_Stat X) (pc : Nat) : tp_Fit X yX1_init cX1_init none 3 tp_nm tp_by tp_ml tp_rtt pc (mX1_init pc) :=
  fI (fX1_init_0 hG hSt) <| trivial
theorem fX1_ice_0 {X : tp_X} {az : Array Value} (hG : tp_Good X az) (hSt : tp_Stat X) : tp_Fit X yX1_ice cX1_ice (some .boolean) 3 tp_nm tp_by tp_ml tp_rtt 0 [o_ald (.aload_n 0) 0, o_ild (.iload_n 1) 1, o_cv (.invokevirtual 98) 1 kX1_isCell 1 0, o_ifeq 13 18, o_ild (.iload_n 2) 2, o_int (.iconst 0) 0, o_int (.bipush 99) 99, o_cs (.invokestatic 94) kX1_in 3 0, o_ifne 5 20, o_fall 18] :=
  fG mo_ald (sim_ald_n dX1_ice_0 rfl) <|
  fG mo_ild (sim_ild_n dX1_ice_1 rfl) <|
  fC (ic_cv (Or.inl rfl)) (sim_cv hG dX1_ice_2 (hG.2.1 1 _ hc_1).2.1 M_X1_isCell (by rw [nm_X1_isCell]; rfl) (by rw [nm_X1_isCell]; exact q331) (by rw [nm_X1_isCell]; exact q333) (by rw [nm_X1_isCell]; exact qs0)) <|
  fG mo_ifeq (sim_ifeq dX1_ice_5 rfl) <|
  fG mo_ild (sim_ild_n dX1_ice_8 rfl) <|
  fG mo_int (sim_iconst dX1_ice_9 (by decide)) <|
  fG mo_int (sim_bipush dX1_ice_10 (by decide)) <|
  fC (ic_cs (Or.inl rfl)) (sim_cs hG dX1_ice_12 M_X1_in (by rw [nm_X1_in]; rfl) (by rw [nm_X1_in]; exact q335) (by rw [nm_X1_in]; exact q336)) <|
  fG mo_ifne (sim_ifne dX1_ice_15 rfl) <|
  fF
theorem fX1_ice_18 {X : tp_X} {az : Array Value} (hG : tp_Good X az) (hSt : tp_Stat X) : tp_Fit X yX1_ice cX1_ice (some .boolean) 3 tp_nm tp_by tp_ml tp_rtt 18 [o_int (.iconst 0) 0, o_iret 1] :=
  fG mo_int (sim_iconst dX1_ice_18 (by decide)) <|
  fE ie_iret (sim_iret dX1_ice_19 rfl (Or.inr (Or.inl ⟨rfl, rfl⟩)))
theorem fX1_ice_20 {X : tp_X} {az : Array Value} (hG : tp_Good X az) (hSt : tp_Stat X) : tp_Fit X yX1_ice cX1_ice (some .boolean) 3 tp_nm tp_by tp_ml tp_rtt 20 [o_ald (.aload_n 0) 0, o_getf (.getfield 12) 1 0, o_getf (.getfield 102) 2 1, o_ild (.iload_n 1) 1, o_ild (.iload_n 2) 2, o_sta .iastore [0], o_int (.iconst 1) 1, o_iret 1] :=
  fG mo_ald (sim_ald_n dX1_ice_20 rfl) <|
  fG mo_getf (sim_getfG hG dX1_ice_21 hc_1 (by decide) rfl in_X1 (fun _ _ _ h => h) (Or.inl q256)) <|
  fG mo_getf (sim_getfG hG dX1_ice_24 hc_2 (by decide) rfl in_X2 (fun _ _ _ h => h) (Or.inr ⟨_, q181⟩)) <|
  fG mo_ild (sim_ild_n dX1_ice_27 rfl) <|
  fG mo_ild (sim_ild_n dX1_ice_28 rfl) <|
  fG mo_sta (sim_iast dX1_ice_29) <|
  fG mo_int (sim_iconst dX1_ice_30 (by decide)) <|
  fE ie_iret (sim_iret dX1_ice_31 rfl (Or.inr (Or.inl ⟨rfl, rfl⟩)))
theorem F_X1_ice {X : tp_X} {az : Array Value} (hG : tp_Good X az) (hSt : tp_Stat X) (pc : Nat) : tp_Fit X yX1_ice cX1_ice (some .boolean) 3 tp_nm tp_by tp_ml tp_rtt pc (mX1_ice pc) :=
  fI (fX1_ice_0 hG hSt) <| fI (fX1_ice_18 hG hSt) <| fI (fX1_ice_20 hG hSt) <| trivial
theorem fX1_isCell_0 {X : tp_X} {az : Array Value} (hG : tp_Good X az) (hSt : tp_Stat X) : tp_Fit X yX1_isCell cX1_isCell (some .boolean) 2 tp_nm tp_by tp_ml tp_rtt 0 [o_ild (.iload_n 1) 1, o_int (.iconst 0) 0, o_ald (.aload_n 0) 0, o_getf (.getfield 87) 1 4, o_int (.iconst 1) 1, o_isub, o_cs (.invokestatic 94) kX1_in 3 0, o_iret 1] :=
  fG mo_ild (sim_ild_n dX1_isCell_0 rfl) <|
  fG mo_int (sim_iconst dX1_isCell_1 (by decide)) <|
  fG mo_ald (sim_ald_n dX1_isCell_2 rfl) <|
  fG mo_getf (sim_getfG hG dX1_isCell_3 hc_1 (by decide) rfl in_X1 (fun _ _ _ h => h) (Or.inl q260)) <|
  fG mo_int (sim_iconst dX1_isCell_6 (by decide)) <|
  fG mo_isub (sim_isub dX1_isCell_7) <|
  fC (ic_cs (Or.inl rfl)) (sim_cs hG dX1_isCell_8 M_X1_in (by rw [nm_X1_in]; rfl) (by rw [nm_X1_in]; exact q335) (by rw [nm_X1_in]; exact q336)) <|
  fE ie_iret (sim_iret dX1_isCell_11 rfl (Or.inr (Or.inl ⟨rfl, rfl⟩)))
theorem F_X1_isCell {X : tp_X} {az : Array Value} (hG : tp_Good X az) (hSt : tp_Stat X) (pc : Nat) : tp_Fit X yX1_isCell cX1_isCell (some .boolean) 2 tp_nm tp_by tp_ml tp_rtt pc (mX1_isCell pc) :=
  fI (fX1_isCell_0 hG hSt) <| trivial
theorem fX1_in_0 {X : tp_X} {az : Array Value} (hG : tp_Good X az) (hSt : tp_Stat X) : tp_Fit X yX1_in cX1_in (some .boolean) 3 tp_nm tp_by tp_ml tp_rtt 0 [o_ild (.iload_n 0) 0, o_ild (.iload_n 1) 1, o_icmplt 12 14, o_ild (.iload_n 0) 0, o_ild (.iload_n 2) 2, o_icmpgt 7 14, o_int (.iconst 1) 1, o_goto 4 15] :=
  fG mo_ild (sim_ild_n dX1_in_0 rfl) <|
  fG mo_ild (sim_ild_n dX1_in_1 rfl) <|
  fG mo_icmplt (sim_icmplt dX1_in_2 rfl) <|
  fG mo_ild (sim_ild_n dX1_in_5 rfl) <|
  fG mo_ild (sim_ild_n dX1_in_6 rfl) <|
  fG mo_icmpgt (sim_icmpgt dX1_in_7 rfl) <|
  fG mo_int (sim_iconst dX1_in_10 (by decide)) <|
  fG mo_goto (sim_goto dX1_in_11 rfl) <|
  trivial
theorem fX1_in_14 {X : tp_X} {az : Array Value} (hG : tp_Good X az) (hSt : tp_Stat X) : tp_Fit X yX1_in cX1_in (some .boolean) 3 tp_nm tp_by tp_ml tp_rtt 14 [o_int (.iconst 0) 0, o_fall 15] :=
  fG mo_int (sim_iconst dX1_in_14 (by decide)) <|
  fF
theorem fX1_in_15 {X : tp_X} {az : Array Value} (hG : tp_Good X az) (hSt : tp_Stat X) : tp_Fit X yX1_in cX1_in (some .boolean) 3 tp_nm tp_by tp_ml tp_rtt 15 [o_iret 1] :=
  fE ie_iret (sim_iret dX1_in_15 rfl (Or.inr (Or.inl ⟨rfl, rfl⟩)))
theorem F_X1_in {X : tp_X} {az : Array Value} (hG : tp_Good X az) (hSt : tp_Stat X) (pc : Nat) : tp_Fit X yX1_in cX1_in (some .boolean) 3 tp_nm tp_by tp_ml tp_rtt pc (mX1_in pc) :=
  fI (fX1_in_0 hG hSt) <| fI (fX1_in_14 hG hSt) <| fI (fX1_in_15 hG hSt) <| trivial
theorem fX1_iceAt_0 {X : tp_X} {az : Array Value} (hG : tp_Good X az) (hSt : tp_Stat X) : tp_Fit X yX1_iceAt cX1_iceAt (some .int) 2 tp_nm tp_by tp_ml tp_rtt 0 [o_ald (.aload_n 0) 0, o_ild (.iload_n 1) 1, o_cv (.invokevirtual 98) 1 kX1_isCell 1 0, o_ifeq 15 20, o_ald (.aload_n 0) 0, o_getf (.getfield 12) 1 0, o_getf (.getfield 102) 2 1, o_ild (.iload_n 1) 1, o_lda .iaload [0, 20], o_goto 4 21] :=
  fG mo_ald (sim_ald_n dX1_iceAt_0 rfl) <|
  fG mo_ild (sim_ild_n dX1_iceAt_1 rfl) <|
  fC (ic_cv (Or.inl rfl)) (sim_cv hG dX1_iceAt_2 (hG.2.1 1 _ hc_1).2.1 M_X1_isCell (by rw [nm_X1_isCell]; rfl) (by rw [nm_X1_isCell]; exact q331) (by rw [nm_X1_isCell]; exact q333) (by rw [nm_X1_isCell]; exact qs0)) <|
  fG mo_ifeq (sim_ifeq dX1_iceAt_5 rfl) <|
  fG mo_ald (sim_ald_n dX1_iceAt_8 rfl) <|
  fG mo_getf (sim_getfG hG dX1_iceAt_9 hc_1 (by decide) rfl in_X1 (fun _ _ _ h => h) (Or.inl q256)) <|
  fG mo_getf (sim_getfG hG dX1_iceAt_12 hc_2 (by decide) rfl in_X2 (fun _ _ _ h => h) (Or.inr ⟨_, q181⟩)) <|
  fG mo_ild (sim_ild_n dX1_iceAt_15 rfl) <|
  fG mo_lda (sim_iald dX1_iceAt_16) <|
  fG mo_goto (sim_goto dX1_iceAt_17 rfl) <|
  trivial
theorem fX1_iceAt_20 {X : tp_X} {az : Array Value} (hG : tp_Good X az) (hSt : tp_Stat X) : tp_Fit X yX1_iceAt cX1_iceAt (some .int) 2 tp_nm tp_by tp_ml tp_rtt 20 [o_int (.iconst (-1)) (-1), o_fall 21] :=
  fG mo_int (sim_iconst dX1_iceAt_20 (by decide)) <|
  fF
theorem fX1_iceAt_21 {X : tp_X} {az : Array Value} (hG : tp_Good X az) (hSt : tp_Stat X) : tp_Fit X yX1_iceAt cX1_iceAt (some .int) 2 tp_nm tp_by tp_ml tp_rtt 21 [o_iret 0] :=
  fE ie_iret (sim_iret dX1_iceAt_21 rfl (Or.inl ⟨rfl, rfl⟩))
theorem F_X1_iceAt {X : tp_X} {az : Array Value} (hG : tp_Good X az) (hSt : tp_Stat X) (pc : Nat) : tp_Fit X yX1_iceAt cX1_iceAt (some .int) 2 tp_nm tp_by tp_ml tp_rtt pc (mX1_iceAt pc) :=
  fI (fX1_iceAt_0 hG hSt) <| fI (fX1_iceAt_20 hG hSt) <| fI (fX1_iceAt_21 hG hSt) <| trivial
theorem fX1_mark_0 {X : tp_X} {az : Array Value} (hG : tp_Good X az) (hSt : tp_Stat X) : tp_Fit X yX1_mark cX1_mark (some .boolean) 4 tp_nm tp_by tp_ml tp_rtt 0 [o_ald (.aload_n 0) 0, o_ild (.iload_n 1) 1, o_cv (.invokevirtual 98) 1 kX1_isCell 1 0, o_ifne 5 10, o_int (.iconst 0) 0, o_iret 1] :=
  fG mo_ald (sim_ald_n dX1_mark_0 rfl) <|
  fG mo_ild (sim_ild_n dX1_mark_1 rfl) <|
  fC (ic_cv (Or.inl rfl)) (sim_cv hG dX1_mark_2 (hG.2.1 1 _ hc_1).2.1 M_X1_isCell (by rw [nm_X1_isCell]; rfl) (by rw [nm_X1_isCell]; exact q331) (by rw [nm_X1_isCell]; exact q333) (by rw [nm_X1_isCell]; exact qs0)) <|
  fG mo_ifne (sim_ifne dX1_mark_5 rfl) <|
  fG mo_int (sim_iconst dX1_mark_8 (by decide)) <|
  fE ie_iret (sim_iret dX1_mark_9 rfl (Or.inr (Or.inl ⟨rfl, rfl⟩)))
theorem fX1_mark_10 {X : tp_X} {az : Array Value} (hG : tp_Good X az) (hSt : tp_Stat X) : tp_Fit X yX1_mark cX1_mark (some .boolean) 4 tp_nm tp_by tp_ml tp_rtt 10 [o_ild (.iload_n 2) 2, o_ifeq 16 27, o_ald (.aload_n 0) 0, o_getf (.getfield 12) 1 0, o_getf (.getfield 105) 2 7, o_ild (.iload_n 1) 1, o_ild (.iload_n 3) 3, o_sta .bastore [1, 2], o_goto 13 37] :=
  fG mo_ild (sim_ild_n dX1_mark_10 rfl) <|
  fG mo_ifeq (sim_ifeq dX1_mark_11 rfl) <|
  fG mo_ald (sim_ald_n dX1_mark_14 rfl) <|
  fG mo_getf (sim_getfG hG dX1_mark_15 hc_1 (by decide) rfl in_X1 (fun _ _ _ h => h) (Or.inl q256)) <|
  fG mo_getf (sim_getfG hG dX1_mark_18 hc_2 (by decide) rfl in_X2 (fun _ _ _ h => h) (Or.inr ⟨_, q193⟩)) <|
  fG mo_ild (sim_ild_n dX1_mark_21 rfl) <|
  fG mo_ild (sim_ild_n dX1_mark_22 rfl) <|
  fG mo_sta (sim_bast dX1_mark_23) <|
  fG mo_goto (sim_goto dX1_mark_24 rfl) <|
  trivial
theorem fX1_mark_27 {X : tp_X} {az : Array Value} (hG : tp_Good X az) (hSt : tp_Stat X) : tp_Fit X yX1_mark cX1_mark (some .boolean) 4 tp_nm tp_by tp_ml tp_rtt 27 [o_ald (.aload_n 0) 0, o_getf (.getfield 12) 1 0, o_getf (.getfield 109) 2 6, o_ild (.iload_n 1) 1, o_ild (.iload_n 3) 3, o_sta .bastore [1, 2], o_fall 37] :=
  fG mo_ald (sim_ald_n dX1_mark_27 rfl) <|
  fG mo_getf (sim_getfG hG dX1_mark_28 hc_1 (by decide) rfl in_X1 (fun _ _ _ h => h) (Or.inl q256)) <|
  fG mo_getf (sim_getfG hG dX1_mark_31 hc_2 (by decide) rfl in_X2 (fun _ _ _ h => h) (Or.inr ⟨_, q191⟩)) <|
  fG mo_ild (sim_ild_n dX1_mark_34 rfl) <|
  fG mo_ild (sim_ild_n dX1_mark_35 rfl) <|
  fG mo_sta (sim_bast dX1_mark_36) <|
  fF
theorem fX1_mark_37 {X : tp_X} {az : Array Value} (hG : tp_Good X az) (hSt : tp_Stat X) : tp_Fit X yX1_mark cX1_mark (some .boolean) 4 tp_nm tp_by tp_ml tp_rtt 37 [o_int (.iconst 1) 1, o_iret 1] :=
  fG mo_int (sim_iconst dX1_mark_37 (by decide)) <|
  fE ie_iret (sim_iret dX1_mark_38 rfl (Or.inr (Or.inl ⟨rfl, rfl⟩)))
theorem F_X1_mark {X : tp_X} {az : Array Value} (hG : tp_Good X az) (hSt : tp_Stat X) (pc : Nat) : tp_Fit X yX1_mark cX1_mark (some .boolean) 4 tp_nm tp_by tp_ml tp_rtt pc (mX1_mark pc) :=
  fI (fX1_mark_0 hG hSt) <| fI (fX1_mark_10 hG hSt) <| fI (fX1_mark_27 hG hSt) <| fI (fX1_mark_37 hG hSt) <| trivial
theorem fX1_edge_0 {X : tp_X} {az : Array Value} (hG : tp_Good X az) (hSt : tp_Stat X) : tp_Fit X yX1_edge cX1_edge (some .boolean) 2 tp_nm tp_by tp_ml tp_rtt 0 [o_ild (.iload_n 1) 1, o_int (.iconst 0) 0, o_int (.bipush 99) 99, o_cs (.invokestatic 94) kX1_in 3 0, o_ifne 5 12, o_int (.iconst 0) 0, o_iret 1] :=
  fG mo_ild (sim_ild_n dX1_edge_0 rfl) <|
  fG mo_int (sim_iconst dX1_edge_1 (by decide)) <|
  fG mo_int (sim_bipush dX1_edge_2 (by decide)) <|
  fC (ic_cs (Or.inl rfl)) (sim_cs hG dX1_edge_4 M_X1_in (by rw [nm_X1_in]; rfl) (by rw [nm_X1_in]; exact q335) (by rw [nm_X1_in]; exact q336)) <|
  fG mo_ifne (sim_ifne dX1_edge_7 rfl) <|
  fG mo_int (sim_iconst dX1_edge_10 (by decide)) <|
  fE ie_iret (sim_iret dX1_edge_11 rfl (Or.inr (Or.inl ⟨rfl, rfl⟩)))
theorem fX1_edge_12 {X : tp_X} {az : Array Value} (hG : tp_Good X az) (hSt : tp_Stat X) : tp_Fit X yX1_edge cX1_edge (some .boolean) 2 tp_nm tp_by tp_ml tp_rtt 12 [o_ald (.aload_n 0) 0, o_getf (.getfield 12) 1 0, o_getf (.getfield 112) 2 0, o_int (.bipush 8) 8, o_ild (.iload_n 1) 1, o_sta .iastore [0], o_int (.iconst 1) 1, o_iret 1] :=
  fG mo_ald (sim_ald_n dX1_edge_12 rfl) <|
  fG mo_getf (sim_getfG hG dX1_edge_13 hc_1 (by decide) rfl in_X1 (fun _ _ _ h => h) (Or.inl q256)) <|
  fG mo_getf (sim_getfG hG dX1_edge_16 hc_2 (by decide) rfl in_X2 (fun _ _ _ h => h) (Or.inr ⟨_, q179⟩)) <|
  fG mo_int (sim_bipush dX1_edge_19 (by decide)) <|
  fG mo_ild (sim_ild_n dX1_edge_21 rfl) <|
  fG mo_sta (sim_iast dX1_edge_22) <|
  fG mo_int (sim_iconst dX1_edge_23 (by decide)) <|
  fE ie_iret (sim_iret dX1_edge_24 rfl (Or.inr (Or.inl ⟨rfl, rfl⟩)))
theorem F_X1_edge {X : tp_X} {az : Array Value} (hG : tp_Good X az) (hSt : tp_Stat X) (pc : Nat) : tp_Fit X yX1_edge cX1_edge (some .boolean) 2 tp_nm tp_by tp_ml tp_rtt pc (mX1_edge pc) :=
  fI (fX1_edge_0 hG hSt) <| fI (fX1_edge_12 hG hSt) <| trivial
theorem fX1_drift_0 {X : tp_X} {az : Array Value} (hG : tp_Good X az) (hSt : tp_Stat X) : tp_Fit X yX1_drift cX1_drift (some .boolean) 4 tp_nm tp_by tp_ml tp_rtt 0 [o_ild (.iload_n 1) 1, o_cs (.invokestatic 115) kX1_isWind 1 0, o_ifeq 21 25, o_ild (.iload_n 2) 2, o_int (.iconst (-1)) (-1), o_int (.iconst 1) 1, o_cs (.invokestatic 94) kX1_in 3 0, o_ifeq 12 25, o_ild (.iload_n 3) 3, o_int (.iconst (-1)) (-1), o_int (.iconst 1) 1, o_cs (.invokestatic 94) kX1_in 3 0, o_ifne 5 27, o_fall 25] :=
  fG mo_ild (sim_ild_n dX1_drift_0 rfl) <|
  fC (ic_cs (Or.inl rfl)) (sim_cs hG dX1_drift_1 M_X1_isWind (by rw [nm_X1_isWind]; rfl) (by rw [nm_X1_isWind]; exact q354) (by rw [nm_X1_isWind]; exact q355)) <|
  fG mo_ifeq (sim_ifeq dX1_drift_4 rfl) <|
  fG mo_ild (sim_ild_n dX1_drift_7 rfl) <|
  fG mo_int (sim_iconst dX1_drift_8 (by decide)) <|
  fG mo_int (sim_iconst dX1_drift_9 (by decide)) <|
  fC (ic_cs (Or.inl rfl)) (sim_cs hG dX1_drift_10 M_X1_in (by rw [nm_X1_in]; rfl) (by rw [nm_X1_in]; exact q335) (by rw [nm_X1_in]; exact q336)) <|
  fG mo_ifeq (sim_ifeq dX1_drift_13 rfl) <|
  fG mo_ild (sim_ild_n dX1_drift_16 rfl) <|
  fG mo_int (sim_iconst dX1_drift_17 (by decide)) <|
  fG mo_int (sim_iconst dX1_drift_18 (by decide)) <|
  fC (ic_cs (Or.inl rfl)) (sim_cs hG dX1_drift_19 M_X1_in (by rw [nm_X1_in]; rfl) (by rw [nm_X1_in]; exact q335) (by rw [nm_X1_in]; exact q336)) <|
  fG mo_ifne (sim_ifne dX1_drift_22 rfl) <|
  fF
theorem fX1_drift_25 {X : tp_X} {az : Array Value} (hG : tp_Good X az) (hSt : tp_Stat X) : tp_Fit X yX1_drift cX1_drift (some .boolean) 4 tp_nm tp_by tp_ml tp_rtt 25 [o_int (.iconst 0) 0, o_iret 1] :=
  fG mo_int (sim_iconst dX1_drift_25 (by decide)) <|
  fE ie_iret (sim_iret dX1_drift_26 rfl (Or.inr (Or.inl ⟨rfl, rfl⟩)))
theorem fX1_drift_27 {X : tp_X} {az : Array Value} (hG : tp_Good X az) (hSt : tp_Stat X) : tp_Fit X yX1_drift cX1_drift (some .boolean) 4 tp_nm tp_by tp_ml tp_rtt 27 [o_ald (.aload_n 0) 0, o_getf (.getfield 12) 1 0, o_getf (.getfield 118) 2 8, o_ild (.iload_n 1) 1, o_lda .aaload [4, 5, 6, 7, 28, 29], o_int (.iconst 0) 0, o_ild (.iload_n 2) 2, o_sta .iastore [0], o_ald (.aload_n 0) 0, o_getf (.getfield 12) 1 0, o_getf (.getfield 118) 2 8, o_ild (.iload_n 1) 1, o_lda .aaload [4, 5, 6, 7, 28, 29], o_int (.iconst 1) 1, o_ild (.iload_n 3) 3, o_sta .iastore [0], o_int (.iconst 1) 1, o_iret 1] :=
  fG mo_ald (sim_ald_n dX1_drift_27 rfl) <|
  fG mo_getf (sim_getfG hG dX1_drift_28 hc_1 (by decide) rfl in_X1 (fun _ _ _ h => h) (Or.inl q256)) <|
  fG mo_getf (sim_getfG hG dX1_drift_31 hc_2 (by decide) rfl in_X2 (fun _ _ _ h => h) (Or.inr ⟨_, q195⟩)) <|
  fG mo_ild (sim_ild_n dX1_drift_34 rfl) <|
  fG mo_lda (sim_aald dX1_drift_35) <|
  fG mo_int (sim_iconst dX1_drift_36 (by decide)) <|
  fG mo_ild (sim_ild_n dX1_drift_37 rfl) <|
  fG mo_sta (sim_iast dX1_drift_38) <|
  fG mo_ald (sim_ald_n dX1_drift_39 rfl) <|
  fG mo_getf (sim_getfG hG dX1_drift_40 hc_1 (by decide) rfl in_X1 (fun _ _ _ h => h) (Or.inl q256)) <|
  fG mo_getf (sim_getfG hG dX1_drift_43 hc_2 (by decide) rfl in_X2 (fun _ _ _ h => h) (Or.inr ⟨_, q195⟩)) <|
  fG mo_ild (sim_ild_n dX1_drift_46 rfl) <|
  fG mo_lda (sim_aald dX1_drift_47) <|
  fG mo_int (sim_iconst dX1_drift_48 (by decide)) <|
  fG mo_ild (sim_ild_n dX1_drift_49 rfl) <|
  fG mo_sta (sim_iast dX1_drift_50) <|
  fG mo_int (sim_iconst dX1_drift_51 (by decide)) <|
  fE ie_iret (sim_iret dX1_drift_52 rfl (Or.inr (Or.inl ⟨rfl, rfl⟩)))
theorem F_X1_drift {X : tp_X} {az : Array Value} (hG : tp_Good X az) (hSt : tp_Stat X) (pc : Nat) : tp_Fit X yX1_drift cX1_drift (some .boolean) 4 tp_nm tp_by tp_ml tp_rtt pc (mX1_drift pc) :=
  fI (fX1_drift_0 hG hSt) <| fI (fX1_drift_25 hG hSt) <| fI (fX1_drift_27 hG hSt) <| trivial
theorem fX1_isWind_0 {X : tp_X} {az : Array Value} (hG : tp_Good X az) (hSt : tp_Stat X) : tp_Fit X yX1_isWind cX1_isWind (some .boolean) 1 tp_nm tp_by tp_ml tp_rtt 0 [o_ild (.iload_n 0) 0, o_int (.iconst 0) 0, o_int (.iconst 3) 3, o_cs (.invokestatic 94) kX1_in 3 0, o_iret 1] :=
  fG mo_ild (sim_ild_n dX1_isWind_0 rfl) <|
  fG mo_int (sim_iconst dX1_isWind_1 (by decide)) <|
  fG mo_int (sim_iconst dX1_isWind_2 (by decide)) <|
  fC (ic_cs (Or.inl rfl)) (sim_cs hG dX1_isWind_3 M_X1_in (by rw [nm_X1_in]; rfl) (by rw [nm_X1_in]; exact q335) (by rw [nm_X1_in]; exact q336)) <|
  fE ie_iret (sim_iret dX1_isWind_6 rfl (Or.inr (Or.inl ⟨rfl, rfl⟩)))
theorem F_X1_isWind {X : tp_X} {az : Array Value} (hG : tp_Good X az) (hSt : tp_Stat X) (pc : Nat) : tp_Fit X yX1_isWind cX1_isWind (some .boolean) 1 tp_nm tp_by tp_ml tp_rtt pc (mX1_isWind pc) :=
  fI (fX1_isWind_0 hG hSt) <| trivial
theorem fX1_chances_0 {X : tp_X} {az : Array Value} (hG : tp_Good X az) (hSt : tp_Stat X) : tp_Fit X yX1_chances cX1_chances (some .boolean) 8 tp_nm tp_by tp_ml tp_rtt 0 [o_int (.iconst 4) 4, o_newa (.newarray .int) 0, o_dup, o_int (.iconst 0) 0, o_ild (.iload_n 2) 2, o_sta .iastore [0], o_dup, o_int (.iconst 1) 1, o_ild (.iload_n 3) 3, o_sta .iastore [0], o_dup, o_int (.iconst 2) 2, o_ild (.iload 4) 4, o_sta .iastore [0], o_dup, o_int (.iconst 3) 3, o_ild (.iload 5) 5, o_sta .iastore [0], o_ast (.astore 6) 6, o_ild (.iload_n 1) 1, o_cs (.invokestatic 115) kX1_isWind 1 0, o_ifne 5 32, o_int (.iconst 0) 0, o_iret 1] :=
  fG mo_int (sim_iconst dX1_chances_0 (by decide)) <|
  fG mo_newa (sim_newa hG dX1_chances_1 q231 ⟨rfl, by decide⟩) <|
  fG mo_dup (sim_dup dX1_chances_3) <|
  fG mo_int (sim_iconst dX1_chances_4 (by decide)) <|
  fG mo_ild (sim_ild_n dX1_chances_5 rfl) <|
  fG mo_sta (sim_iast dX1_chances_6) <|
  fG mo_dup (sim_dup dX1_chances_7) <|
  fG mo_int (sim_iconst dX1_chances_8 (by decide)) <|
  fG mo_ild (sim_ild_n dX1_chances_9 rfl) <|
  fG mo_sta (sim_iast dX1_chances_10) <|
  fG mo_dup (sim_dup dX1_chances_11) <|
  fG mo_int (sim_iconst dX1_chances_12 (by decide)) <|
  fG mo_ild (sim_ild dX1_chances_13) <|
  fG mo_sta (sim_iast dX1_chances_15) <|
  fG mo_dup (sim_dup dX1_chances_16) <|
  fG mo_int (sim_iconst dX1_chances_17 (by decide)) <|
  fG mo_ild (sim_ild dX1_chances_18) <|
  fG mo_sta (sim_iast dX1_chances_20) <|
  fG mo_ast (sim_ast dX1_chances_21) <|
  fG mo_ild (sim_ild_n dX1_chances_23 rfl) <|
  fC (ic_cs (Or.inl rfl)) (sim_cs hG dX1_chances_24 M_X1_isWind (by rw [nm_X1_isWind]; rfl) (by rw [nm_X1_isWind]; exact q354) (by rw [nm_X1_isWind]; exact q355)) <|
  fG mo_ifne (sim_ifne dX1_chances_27 rfl) <|
  fG mo_int (sim_iconst dX1_chances_30 (by decide)) <|
  fE ie_iret (sim_iret dX1_chances_31 rfl (Or.inr (Or.inl ⟨rfl, rfl⟩)))
theorem fX1_chances_32 {X : tp_X} {az : Array Value} (hG : tp_Good X az) (hSt : tp_Stat X) : tp_Fit X yX1_chances cX1_chances (some .boolean) 8 tp_nm tp_by tp_ml tp_rtt 32 [o_int (.iconst 0) 0, o_ist (.istore 7) 7, o_fall 35] :=
  fG mo_int (sim_iconst dX1_chances_32 (by decide)) <|
  fG mo_ist (sim_ist dX1_chances_33) <|
  fF
theorem fX1_chances_35 {X : tp_X} {az : Array Value} (hG : tp_Good X az) (hSt : tp_Stat X) : tp_Fit X yX1_chances cX1_chances (some .boolean) 8 tp_nm tp_by tp_ml tp_rtt 35 [o_ild (.iload 7) 7, o_int (.iconst 4) 4, o_icmpge 25 63, o_ald (.aload 6) 6, o_ild (.iload 7) 7, o_lda .iaload [0, 20], o_int (.iconst 0) 0, o_int (.bipush 10) 10, o_cs (.invokestatic 94) kX1_in 3 0, o_ifne 5 57, o_int (.iconst 0) 0, o_iret 1] :=
  fG mo_ild (sim_ild dX1_chances_35) <|
  fG mo_int (sim_iconst dX1_chances_37 (by decide)) <|
  fG mo_icmpge (sim_icmpge dX1_chances_38 rfl) <|
  fG mo_ald (sim_ald dX1_chances_41) <|
  fG mo_ild (sim_ild dX1_chances_43) <|
  fG mo_lda (sim_iald dX1_chances_45) <|
  fG mo_int (sim_iconst dX1_chances_46 (by decide)) <|
  fG mo_int (sim_bipush dX1_chances_47 (by decide)) <|
  fC (ic_cs (Or.inl rfl)) (sim_cs hG dX1_chances_49 M_X1_in (by rw [nm_X1_in]; rfl) (by rw [nm_X1_in]; exact q335) (by rw [nm_X1_in]; exact q336)) <|
  fG mo_ifne (sim_ifne dX1_chances_52 rfl) <|
  fG mo_int (sim_iconst dX1_chances_55 (by decide)) <|
  fE ie_iret (sim_iret dX1_chances_56 rfl (Or.inr (Or.inl ⟨rfl, rfl⟩)))
theorem fX1_chances_57 {X : tp_X} {az : Array Value} (hG : tp_Good X az) (hSt : tp_Stat X) : tp_Fit X yX1_chances cX1_chances (some .boolean) 8 tp_nm tp_by tp_ml tp_rtt 57 [o_inc 7 1, o_goto (-25) 35] :=
  fG mo_inc (sim_inc dX1_chances_57 (by decide)) <|
  fG mo_goto (sim_goto dX1_chances_60 rfl) <|
  trivial
theorem fX1_chances_63 {X : tp_X} {az : Array Value} (hG : tp_Good X az) (hSt : tp_Stat X) : tp_Fit X yX1_chances cX1_chances (some .boolean) 8 tp_nm tp_by tp_ml tp_rtt 63 [o_ild (.iload_n 2) 2, o_ild (.iload_n 3) 3, o_iadd, o_ild (.iload 4) 4, o_iadd, o_ild (.iload 5) 5, o_iadd, o_int (.bipush 10) 10, o_icmpeq 5 79, o_int (.iconst 0) 0, o_iret 1] :=
  fG mo_ild (sim_ild_n dX1_chances_63 rfl) <|
  fG mo_ild (sim_ild_n dX1_chances_64 rfl) <|
  fG mo_iadd (sim_iadd dX1_chances_65) <|
  fG mo_ild (sim_ild dX1_chances_66) <|
  fG mo_iadd (sim_iadd dX1_chances_68) <|
  fG mo_ild (sim_ild dX1_chances_69) <|
  fG mo_iadd (sim_iadd dX1_chances_71) <|
  fG mo_int (sim_bipush dX1_chances_72 (by decide)) <|
  fG mo_icmpeq (sim_icmpeq dX1_chances_74 rfl) <|
  fG mo_int (sim_iconst dX1_chances_77 (by decide)) <|
  fE ie_iret (sim_iret dX1_chances_78 rfl (Or.inr (Or.inl ⟨rfl, rfl⟩)))
theorem fX1_chances_79 {X : tp_X} {az : Array Value} (hG : tp_Good X az) (hSt : tp_Stat X) : tp_Fit X yX1_chances cX1_chances (some .boolean) 8 tp_nm tp_by tp_ml tp_rtt 79 [o_ald (.aload 6) 6, o_int (.iconst 0) 0, o_ald (.aload_n 0) 0, o_getf (.getfield 12) 1 0, o_getf (.getfield 121) 2 9, o_ild (.iload_n 1) 1, o_lda .aaload [4, 5, 6, 7, 28, 29], o_int (.iconst 0) 0, o_int (.iconst 4) 4, o_acopy (.invokestatic 124), o_int (.iconst 1) 1, o_iret 1] :=
  fG mo_ald (sim_ald dX1_chances_79) <|
  fG mo_int (sim_iconst dX1_chances_81 (by decide)) <|
  fG mo_ald (sim_ald_n dX1_chances_82 rfl) <|
  fG mo_getf (sim_getfG hG dX1_chances_83 hc_1 (by decide) rfl in_X1 (fun _ _ _ h => h) (Or.inl q256)) <|
  fG mo_getf (sim_getfG hG dX1_chances_86 hc_2 (by decide) rfl in_X2 (fun _ _ _ h => h) (Or.inr ⟨_, q197⟩)) <|
  fG mo_ild (sim_ild_n dX1_chances_89 rfl) <|
  fG mo_lda (sim_aald dX1_chances_90) <|
  fG mo_int (sim_iconst dX1_chances_91 (by decide)) <|
  fG mo_int (sim_iconst dX1_chances_92 (by decide)) <|
  fG mo_acopy (sim_acopy hG dX1_chances_93 q361 q252 q251 q129) <|
  fG mo_int (sim_iconst dX1_chances_96 (by decide)) <|
  fE ie_iret (sim_iret dX1_chances_97 rfl (Or.inr (Or.inl ⟨rfl, rfl⟩)))
theorem F_X1_chances {X : tp_X} {az : Array Value} (hG : tp_Good X az) (hSt : tp_Stat X) (pc : Nat) : tp_Fit X yX1_chances cX1_chances (some .boolean) 8 tp_nm tp_by tp_ml tp_rtt pc (mX1_chances pc) :=
  fI (fX1_chances_0 hG hSt) <| fI (fX1_chances_32 hG hSt) <| fI (fX1_chances_35 hG hSt) <| fI (fX1_chances_57 hG hSt) <| fI (fX1_chances_63 hG hSt) <| fI (fX1_chances_79 hG hSt) <| trivial
theorem fX1_ship_0 {X : tp_X} {az : Array Value} (hG : tp_Good X az) (hSt : tp_Stat X) : tp_Fit X yX1_ship cX1_ship (some .boolean) 5 tp_nm tp_by tp_ml tp_rtt 0 [o_ild (.iload_n 1) 1, o_int (.iconst 0) 0, o_int (.iconst 1) 1, o_cs (.invokestatic 94) kX1_in 3 0, o_ifeq 31 37, o_ild (.iload_n 3) 3, o_int (.iconst 0) 0, o_int (.bipush 99) 99, o_cs (.invokestatic 94) kX1_in 3 0, o_ifeq 21 37, o_ald (.aload_n 0) 0, o_ild (.iload_n 2) 2, o_cv (.invokevirtual 98) 1 kX1_isCell 1 0, o_ifne 15 39, o_ild (.iload_n 1) 1, o_int (.iconst 1) 1, o_icmpne 8 37, o_ild (.iload_n 2) 2, o_int (.iconst (-1)) (-1), o_icmpeq 5 39, o_fall 37] :=
  fG mo_ild (sim_ild_n dX1_ship_0 rfl) <|
  fG mo_int (sim_iconst dX1_ship_1 (by decide)) <|
  fG mo_int (sim_iconst dX1_ship_2 (by decide)) <|
  fC (ic_cs (Or.inl rfl)) (sim_cs hG dX1_ship_3 M_X1_in (by rw [nm_X1_in]; rfl) (by rw [nm_X1_in]; exact q335) (by rw [nm_X1_in]; exact q336)) <|
  fG mo_ifeq (sim_ifeq dX1_ship_6 rfl) <|
  fG mo_ild (sim_ild_n dX1_ship_9 rfl) <|
  fG mo_int (sim_iconst dX1_ship_10 (by decide)) <|
  fG mo_int (sim_bipush dX1_ship_11 (by decide)) <|
  fC (ic_cs (Or.inl rfl)) (sim_cs hG dX1_ship_13 M_X1_in (by rw [nm_X1_in]; rfl) (by rw [nm_X1_in]; exact q335) (by rw [nm_X1_in]; exact q336)) <|
  fG mo_ifeq (sim_ifeq dX1_ship_16 rfl) <|
  fG mo_ald (sim_ald_n dX1_ship_19 rfl) <|
  fG mo_ild (sim_ild_n dX1_ship_20 rfl) <|
  fC (ic_cv (Or.inl rfl)) (sim_cv hG dX1_ship_21 (hG.2.1 1 _ hc_1).2.1 M_X1_isCell (by rw [nm_X1_isCell]; rfl) (by rw [nm_X1_isCell]; exact q331) (by rw [nm_X1_isCell]; exact q333) (by rw [nm_X1_isCell]; exact qs0)) <|
  fG mo_ifne (sim_ifne dX1_ship_24 rfl) <|
  fG mo_ild (sim_ild_n dX1_ship_27 rfl) <|
  fG mo_int (sim_iconst dX1_ship_28 (by decide)) <|
  fG mo_icmpne (sim_icmpne dX1_ship_29 rfl) <|
  fG mo_ild (sim_ild_n dX1_ship_32 rfl) <|
  fG mo_int (sim_iconst dX1_ship_33 (by decide)) <|
  fG mo_icmpeq (sim_icmpeq dX1_ship_34 rfl) <|
  fF
theorem fX1_ship_37 {X : tp_X} {az : Array Value} (hG : tp_Good X az) (hSt : tp_Stat X) : tp_Fit X yX1_ship cX1_ship (some .boolean) 5 tp_nm tp_by tp_ml tp_rtt 37 [o_int (.iconst 0) 0, o_iret 1] :=
  fG mo_int (sim_iconst dX1_ship_37 (by decide)) <|
  fE ie_iret (sim_iret dX1_ship_38 rfl (Or.inr (Or.inl ⟨rfl, rfl⟩)))
theorem fX1_ship_39 {X : tp_X} {az : Array Value} (hG : tp_Good X az) (hSt : tp_Stat X) : tp_Fit X yX1_ship cX1_ship (some .boolean) 5 tp_nm tp_by tp_ml tp_rtt 39 [o_int (.iconst 4) 4, o_newa (.newarray .int) 0, o_dup, o_int (.iconst 0) 0, o_ild (.iload_n 2) 2, o_sta .iastore [0], o_dup, o_int (.iconst 1) 1, o_ild (.iload_n 3) 3, o_sta .iastore [0], o_dup, o_int (.iconst 2) 2, o_int (.iconst 0) 0, o_sta .iastore [0], o_dup, o_int (.iconst 3) 3, o_int (.iconst 0) 0, o_sta .iastore [0], o_ast (.astore 4) 4, o_ald (.aload 4) 4, o_int (.iconst 0) 0, o_ald (.aload_n 0) 0, o_getf (.getfield 12) 1 0, o_getf (.getfield 130) 2 10, o_ild (.iload_n 1) 1, o_lda .aaload [4, 5, 6, 7, 28, 29], o_int (.iconst 0) 0, o_int (.iconst 4) 4, o_acopy (.invokestatic 124), o_int (.iconst 1) 1, o_iret 1] :=
  fG mo_int (sim_iconst dX1_ship_39 (by decide)) <|
  fG mo_newa (sim_newa hG dX1_ship_40 q231 ⟨rfl, by decide⟩) <|
  fG mo_dup (sim_dup dX1_ship_42) <|
  fG mo_int (sim_iconst dX1_ship_43 (by decide)) <|
  fG mo_ild (sim_ild_n dX1_ship_44 rfl) <|
  fG mo_sta (sim_iast dX1_ship_45) <|
  fG mo_dup (sim_dup dX1_ship_46) <|
  fG mo_int (sim_iconst dX1_ship_47 (by decide)) <|
  fG mo_ild (sim_ild_n dX1_ship_48 rfl) <|
  fG mo_sta (sim_iast dX1_ship_49) <|
  fG mo_dup (sim_dup dX1_ship_50) <|
  fG mo_int (sim_iconst dX1_ship_51 (by decide)) <|
  fG mo_int (sim_iconst dX1_ship_52 (by decide)) <|
  fG mo_sta (sim_iast dX1_ship_53) <|
  fG mo_dup (sim_dup dX1_ship_54) <|
  fG mo_int (sim_iconst dX1_ship_55 (by decide)) <|
  fG mo_int (sim_iconst dX1_ship_56 (by decide)) <|
  fG mo_sta (sim_iast dX1_ship_57) <|
  fG mo_ast (sim_ast dX1_ship_58) <|
  fG mo_ald (sim_ald dX1_ship_60) <|
  fG mo_int (sim_iconst dX1_ship_62 (by decide)) <|
  fG mo_ald (sim_ald_n dX1_ship_63 rfl) <|
  fG mo_getf (sim_getfG hG dX1_ship_64 hc_1 (by decide) rfl in_X1 (fun _ _ _ h => h) (Or.inl q256)) <|
  fG mo_getf (sim_getfG hG dX1_ship_67 hc_2 (by decide) rfl in_X2 (fun _ _ _ h => h) (Or.inr ⟨_, q199⟩)) <|
  fG mo_ild (sim_ild_n dX1_ship_70 rfl) <|
  fG mo_lda (sim_aald dX1_ship_71) <|
  fG mo_int (sim_iconst dX1_ship_72 (by decide)) <|
  fG mo_int (sim_iconst dX1_ship_73 (by decide)) <|
  fG mo_acopy (sim_acopy hG dX1_ship_74 q361 q252 q251 q129) <|
  fG mo_int (sim_iconst dX1_ship_77 (by decide)) <|
  fE ie_iret (sim_iret dX1_ship_78 rfl (Or.inr (Or.inl ⟨rfl, rfl⟩)))
theorem F_X1_ship {X : tp_X} {az : Array Value} (hG : tp_Good X az) (hSt : tp_Stat X) (pc : Nat) : tp_Fit X yX1_ship cX1_ship (some .boolean) 5 tp_nm tp_by tp_ml tp_rtt pc (mX1_ship pc) :=
  fI (fX1_ship_0 hG hSt) <| fI (fX1_ship_37 hG hSt) <| fI (fX1_ship_39 hG hSt) <| trivial
theorem fX1_costs_0 {X : tp_X} {az : Array Value} (hG : tp_Good X az) (hSt : tp_Stat X) : tp_Fit X yX1_costs cX1_costs (some .boolean) 5 tp_nm tp_by tp_ml tp_rtt 0 [o_ild (.iload_n 1) 1, o_int (.iconst 0) 0, o_int (.bipush 99) 99, o_cs (.invokestatic 94) kX1_in 3 0, o_ifeq 23 30, o_ild (.iload_n 2) 2, o_int (.iconst 0) 0, o_int (.bipush 99) 99, o_cs (.invokestatic 94) kX1_in 3 0, o_ifeq 13 30, o_ild (.iload_n 3) 3, o_int (.iconst 0) 0, o_int (.bipush 99) 99, o_cs (.invokestatic 94) kX1_in 3 0, o_ifne 5 32, o_fall 30] :=
  fG mo_ild (sim_ild_n dX1_costs_0 rfl) <|
  fG mo_int (sim_iconst dX1_costs_1 (by decide)) <|
  fG mo_int (sim_bipush dX1_costs_2 (by decide)) <|
  fC (ic_cs (Or.inl rfl)) (sim_cs hG dX1_costs_4 M_X1_in (by rw [nm_X1_in]; rfl) (by rw [nm_X1_in]; exact q335) (by rw [nm_X1_in]; exact q336)) <|
  fG mo_ifeq (sim_ifeq dX1_costs_7 rfl) <|
  fG mo_ild (sim_ild_n dX1_costs_10 rfl) <|
  fG mo_int (sim_iconst dX1_costs_11 (by decide)) <|
  fG mo_int (sim_bipush dX1_costs_12 (by decide)) <|
  fC (ic_cs (Or.inl rfl)) (sim_cs hG dX1_costs_14 M_X1_in (by rw [nm_X1_in]; rfl) (by rw [nm_X1_in]; exact q335) (by rw [nm_X1_in]; exact q336)) <|
  fG mo_ifeq (sim_ifeq dX1_costs_17 rfl) <|
  fG mo_ild (sim_ild_n dX1_costs_20 rfl) <|
  fG mo_int (sim_iconst dX1_costs_21 (by decide)) <|
  fG mo_int (sim_bipush dX1_costs_22 (by decide)) <|
  fC (ic_cs (Or.inl rfl)) (sim_cs hG dX1_costs_24 M_X1_in (by rw [nm_X1_in]; rfl) (by rw [nm_X1_in]; exact q335) (by rw [nm_X1_in]; exact q336)) <|
  fG mo_ifne (sim_ifne dX1_costs_27 rfl) <|
  fF
theorem fX1_costs_30 {X : tp_X} {az : Array Value} (hG : tp_Good X az) (hSt : tp_Stat X) : tp_Fit X yX1_costs cX1_costs (some .boolean) 5 tp_nm tp_by tp_ml tp_rtt 30 [o_int (.iconst 0) 0, o_iret 1] :=
  fG mo_int (sim_iconst dX1_costs_30 (by decide)) <|
  fE ie_iret (sim_iret dX1_costs_31 rfl (Or.inr (Or.inl ⟨rfl, rfl⟩)))
theorem fX1_costs_32 {X : tp_X} {az : Array Value} (hG : tp_Good X az) (hSt : tp_Stat X) : tp_Fit X yX1_costs cX1_costs (some .boolean) 5 tp_nm tp_by tp_ml tp_rtt 32 [o_int (.iconst 4) 4, o_newa (.newarray .int) 0, o_dup, o_int (.iconst 0) 0, o_ild (.iload_n 1) 1, o_sta .iastore [0], o_dup, o_int (.iconst 1) 1, o_ild (.iload_n 2) 2, o_sta .iastore [0], o_dup, o_int (.iconst 2) 2, o_int (.iconst 0) 0, o_sta .iastore [0], o_dup, o_int (.iconst 3) 3, o_ild (.iload_n 3) 3, o_sta .iastore [0], o_ast (.astore 4) 4, o_ald (.aload 4) 4, o_int (.iconst 0) 0, o_ald (.aload_n 0) 0, o_getf (.getfield 12) 1 0, o_getf (.getfield 133) 2 2, o_int (.iconst 0) 0, o_int (.iconst 4) 4, o_acopy (.invokestatic 124), o_int (.iconst 1) 1, o_iret 1] :=
  fG mo_int (sim_iconst dX1_costs_32 (by decide)) <|
  fG mo_newa (sim_newa hG dX1_costs_33 q231 ⟨rfl, by decide⟩) <|
  fG mo_dup (sim_dup dX1_costs_35) <|
  fG mo_int (sim_iconst dX1_costs_36 (by decide)) <|
  fG mo_ild (sim_ild_n dX1_costs_37 rfl) <|
  fG mo_sta (sim_iast dX1_costs_38) <|
  fG mo_dup (sim_dup dX1_costs_39) <|
  fG mo_int (sim_iconst dX1_costs_40 (by decide)) <|
  fG mo_ild (sim_ild_n dX1_costs_41 rfl) <|
  fG mo_sta (sim_iast dX1_costs_42) <|
  fG mo_dup (sim_dup dX1_costs_43) <|
  fG mo_int (sim_iconst dX1_costs_44 (by decide)) <|
  fG mo_int (sim_iconst dX1_costs_45 (by decide)) <|
  fG mo_sta (sim_iast dX1_costs_46) <|
  fG mo_dup (sim_dup dX1_costs_47) <|
  fG mo_int (sim_iconst dX1_costs_48 (by decide)) <|
  fG mo_ild (sim_ild_n dX1_costs_49 rfl) <|
  fG mo_sta (sim_iast dX1_costs_50) <|
  fG mo_ast (sim_ast dX1_costs_51) <|
  fG mo_ald (sim_ald dX1_costs_53) <|
  fG mo_int (sim_iconst dX1_costs_55 (by decide)) <|
  fG mo_ald (sim_ald_n dX1_costs_56 rfl) <|
  fG mo_getf (sim_getfG hG dX1_costs_57 hc_1 (by decide) rfl in_X1 (fun _ _ _ h => h) (Or.inl q256)) <|
  fG mo_getf (sim_getfG hG dX1_costs_60 hc_2 (by decide) rfl in_X2 (fun _ _ _ h => h) (Or.inr ⟨_, q183⟩)) <|
  fG mo_int (sim_iconst dX1_costs_63 (by decide)) <|
  fG mo_int (sim_iconst dX1_costs_64 (by decide)) <|
  fG mo_acopy (sim_acopy hG dX1_costs_65 q361 q252 q251 q129) <|
  fG mo_int (sim_iconst dX1_costs_68 (by decide)) <|
  fE ie_iret (sim_iret dX1_costs_69 rfl (Or.inr (Or.inl ⟨rfl, rfl⟩)))
theorem F_X1_costs {X : tp_X} {az : Array Value} (hG : tp_Good X az) (hSt : tp_Stat X) (pc : Nat) : tp_Fit X yX1_costs cX1_costs (some .boolean) 5 tp_nm tp_by tp_ml tp_rtt pc (mX1_costs pc) :=
  fI (fX1_costs_0 hG hSt) <| fI (fX1_costs_30 hG hSt) <| fI (fX1_costs_32 hG hSt) <| trivial
theorem fX1_wind_0 {X : tp_X} {az : Array Value} (hG : tp_Good X az) (hSt : tp_Stat X) : tp_Fit X yX1_wind cX1_wind (some .boolean) 2 tp_nm tp_by tp_ml tp_rtt 0 [o_ild (.iload_n 1) 1, o_cs (.invokestatic 115) kX1_isWind 1 0, o_ifne 5 9, o_int (.iconst 0) 0, o_iret 1] :=
  fG mo_ild (sim_ild_n dX1_wind_0 rfl) <|
  fC (ic_cs (Or.inl rfl)) (sim_cs hG dX1_wind_1 M_X1_isWind (by rw [nm_X1_isWind]; rfl) (by rw [nm_X1_isWind]; exact q354) (by rw [nm_X1_isWind]; exact q355)) <|
  fG mo_ifne (sim_ifne dX1_wind_4 rfl) <|
  fG mo_int (sim_iconst dX1_wind_7 (by decide)) <|
  fE ie_iret (sim_iret dX1_wind_8 rfl (Or.inr (Or.inl ⟨rfl, rfl⟩)))
theorem fX1_wind_9 {X : tp_X} {az : Array Value} (hG : tp_Good X az) (hSt : tp_Stat X) : tp_Fit X yX1_wind cX1_wind (some .boolean) 2 tp_nm tp_by tp_ml tp_rtt 9 [o_ald (.aload_n 0) 0, o_getf (.getfield 12) 1 0, o_getf (.getfield 112) 2 0, o_int (.iconst 1) 1, o_ild (.iload_n 1) 1, o_sta .iastore [0], o_int (.iconst 1) 1, o_iret 1] :=
  fG mo_ald (sim_ald_n dX1_wind_9 rfl) <|
  fG mo_getf (sim_getfG hG dX1_wind_10 hc_1 (by decide) rfl in_X1 (fun _ _ _ h => h) (Or.inl q256)) <|
  fG mo_getf (sim_getfG hG dX1_wind_13 hc_2 (by decide) rfl in_X2 (fun _ _ _ h => h) (Or.inr ⟨_, q179⟩)) <|
  fG mo_int (sim_iconst dX1_wind_16 (by decide)) <|
  fG mo_ild (sim_ild_n dX1_wind_17 rfl) <|
  fG mo_sta (sim_iast dX1_wind_18) <|
  fG mo_int (sim_iconst dX1_wind_19 (by decide)) <|
  fE ie_iret (sim_iret dX1_wind_20 rfl (Or.inr (Or.inl ⟨rfl, rfl⟩)))
theorem F_X1_wind {X : tp_X} {az : Array Value} (hG : tp_Good X az) (hSt : tp_Stat X) (pc : Nat) : tp_Fit X yX1_wind cX1_wind (some .boolean) 2 tp_nm tp_by tp_ml tp_rtt pc (mX1_wind pc) :=
  fI (fX1_wind_0 hG hSt) <| fI (fX1_wind_9 hG hSt) <| trivial
theorem fX1_feed_0 {X : tp_X} {az : Array Value} (hG : tp_Good X az) (hSt : tp_Stat X) : tp_Fit X yX1_feed cX1_feed (some .int) 6 tp_nm tp_by tp_ml tp_rtt 0 [o_ald (.aload_n 0) 0, o_getf (.getfield 136) 1 6, o_int (.bipush 20) 20, o_iadd, o_int (.sipush 300) 300, o_icmple 5 15, o_int (.iconst (-1)) (-1), o_iret 0] :=
  fG mo_ald (sim_ald_n dX1_feed_0 rfl) <|
  fG mo_getf (sim_getfG hG dX1_feed_1 hc_1 (by decide) rfl in_X1 (fun _ _ _ h => h) (Or.inl q262)) <|
  fG mo_int (sim_bipush dX1_feed_4 (by decide)) <|
  fG mo_iadd (sim_iadd dX1_feed_6) <|
  fG mo_int (sim_sipush dX1_feed_7 (by decide)) <|
  fG mo_icmple (sim_icmple dX1_feed_10 rfl) <|
  fG mo_int (sim_iconst dX1_feed_13 (by decide)) <|
  fE ie_iret (sim_iret dX1_feed_14 rfl (Or.inl ⟨rfl, rfl⟩))
theorem fX1_feed_15 {X : tp_X} {az : Array Value} (hG : tp_Good X az) (hSt : tp_Stat X) : tp_Fit X yX1_feed cX1_feed (some .int) 6 tp_nm tp_by tp_ml tp_rtt 15 [o_ald (.aload_n 0) 0, o_ild (.iload_n 1) 1, o_cv (.invokevirtual 139) 1 kX1_put 1 0, o_ald (.aload_n 0) 0, o_ild (.iload_n 2) 2, o_cv (.invokevirtual 139) 1 kX1_put 1 0, o_ald (.aload_n 0) 0, o_ild (.iload_n 3) 3, o_cv (.invokevirtual 139) 1 kX1_put 1 0, o_ald (.aload_n 0) 0, o_ild (.iload 4) 4, o_cv (.invokevirtual 139) 1 kX1_put 1 0, o_ald (.aload_n 0) 0, o_ild (.iload 5) 5, o_cv (.invokevirtual 139) 1 kX1_put 1 0, o_ald (.aload_n 0) 0, o_getf (.getfield 136) 1 6, o_iret 0] :=
  fG mo_ald (sim_ald_n dX1_feed_15 rfl) <|
  fG mo_ild (sim_ild_n dX1_feed_16 rfl) <|
  fC (ic_cv (Or.inl rfl)) (sim_cv hG dX1_feed_17 (hG.2.1 1 _ hc_1).2.1 M_X1_put (by rw [nm_X1_put]; rfl) (by rw [nm_X1_put]; exact q378) (by rw [nm_X1_put]; exact q380) (by rw [nm_X1_put]; exact qs1)) <|
  fG mo_ald (sim_ald_n dX1_feed_20 rfl) <|
  fG mo_ild (sim_ild_n dX1_feed_21 rfl) <|
  fC (ic_cv (Or.inl rfl)) (sim_cv hG dX1_feed_22 (hG.2.1 1 _ hc_1).2.1 M_X1_put (by rw [nm_X1_put]; rfl) (by rw [nm_X1_put]; exact q378) (by rw [nm_X1_put]; exact q380) (by rw [nm_X1_put]; exact qs1)) <|
  fG mo_ald (sim_ald_n dX1_feed_25 rfl) <|
  fG mo_ild (sim_ild_n dX1_feed_26 rfl) <|
  fC (ic_cv (Or.inl rfl)) (sim_cv hG dX1_feed_27 (hG.2.1 1 _ hc_1).2.1 M_X1_put (by rw [nm_X1_put]; rfl) (by rw [nm_X1_put]; exact q378) (by rw [nm_X1_put]; exact q380) (by rw [nm_X1_put]; exact qs1)) <|
  fG mo_ald (sim_ald_n dX1_feed_30 rfl) <|
  fG mo_ild (sim_ild dX1_feed_31) <|
  fC (ic_cv (Or.inl rfl)) (sim_cv hG dX1_feed_33 (hG.2.1 1 _ hc_1).2.1 M_X1_put (by rw [nm_X1_put]; rfl) (by rw [nm_X1_put]; exact q378) (by rw [nm_X1_put]; exact q380) (by rw [nm_X1_put]; exact qs1)) <|
  fG mo_ald (sim_ald_n dX1_feed_36 rfl) <|
  fG mo_ild (sim_ild dX1_feed_37) <|
  fC (ic_cv (Or.inl rfl)) (sim_cv hG dX1_feed_39 (hG.2.1 1 _ hc_1).2.1 M_X1_put (by rw [nm_X1_put]; rfl) (by rw [nm_X1_put]; exact q378) (by rw [nm_X1_put]; exact q380) (by rw [nm_X1_put]; exact qs1)) <|
  fG mo_ald (sim_ald_n dX1_feed_42 rfl) <|
  fG mo_getf (sim_getfG hG dX1_feed_43 hc_1 (by decide) rfl in_X1 (fun _ _ _ h => h) (Or.inl q262)) <|
  fE ie_iret (sim_iret dX1_feed_46 rfl (Or.inl ⟨rfl, rfl⟩))
theorem F_X1_feed {X : tp_X} {az : Array Value} (hG : tp_Good X az) (hSt : tp_Stat X) (pc : Nat) : tp_Fit X yX1_feed cX1_feed (some .int) 6 tp_nm tp_by tp_ml tp_rtt pc (mX1_feed pc) :=
  fI (fX1_feed_0 hG hSt) <| fI (fX1_feed_15 hG hSt) <| trivial
theorem fX1_put_0 {X : tp_X} {az : Array Value} (hG : tp_Good X az) (hSt : tp_Stat X) : tp_Fit X yX1_put cX1_put none 3 tp_nm tp_by tp_ml tp_rtt 0 [o_int (.bipush 24) 24, o_ist (.istore_n 2) 2, o_fall 3] :=
  fG mo_int (sim_bipush dX1_put_0 (by decide)) <|
  fG mo_ist (sim_ist_n dX1_put_2 rfl) <|
  fF
theorem fX1_put_3 {X : tp_X} {az : Array Value} (hG : tp_Good X az) (hSt : tp_Stat X) : tp_Fit X yX1_put cX1_put none 3 tp_nm tp_by tp_ml tp_rtt 3 [o_ild (.iload_n 2) 2, o_iflt 32 36, o_ald (.aload_n 0) 0, o_getf (.getfield 19) 1 5, o_ald (.aload_n 0) 0, o_getf (.getfield 136) 1 6, o_ild (.iload_n 1) 1, o_ild (.iload_n 2) 2, o_ishr, o_i2b, o_sta .bastore [1, 2], o_ald (.aload_n 0) 0, o_dup, o_getf (.getfield 136) 1 6, o_int (.iconst 1) 1, o_iadd, o_putf (.putfield 136) 1 6 0, o_inc 2 (-8), o_goto (-30) 3] :=
  fG mo_ild (sim_ild_n dX1_put_3 rfl) <|
  fG mo_iflt (sim_iflt dX1_put_4 rfl) <|
  fG mo_ald (sim_ald_n dX1_put_7 rfl) <|
  fG mo_getf (sim_getfG hG dX1_put_8 hc_1 (by decide) rfl in_X1 (fun _ _ _ h => h) (Or.inl q261)) <|
  fG mo_ald (sim_ald_n dX1_put_11 rfl) <|
  fG mo_getf (sim_getfG hG dX1_put_12 hc_1 (by decide) rfl in_X1 (fun _ _ _ h => h) (Or.inl q262)) <|
  fG mo_ild (sim_ild_n dX1_put_15 rfl) <|
  fG mo_ild (sim_ild_n dX1_put_16 rfl) <|
  fG mo_ishr (sim_ishr dX1_put_17) <|
  fG mo_i2b (sim_i2b dX1_put_18) <|
  fG mo_sta (sim_bast dX1_put_19) <|
  fG mo_ald (sim_ald_n dX1_put_20 rfl) <|
  fG mo_dup (sim_dup dX1_put_21) <|
  fG mo_getf (sim_getfG hG dX1_put_22 hc_1 (by decide) rfl in_X1 (fun _ _ _ h => h) (Or.inl q262)) <|
  fG mo_int (sim_iconst dX1_put_25 (by decide)) <|
  fG mo_iadd (sim_iadd dX1_put_26) <|
  fG mo_putf (sim_putf hG dX1_put_27 hc_1 (by decide) rfl (by decide) in_X1 tyX1_ok nmX1 (Or.inl ⟨rfl, rfl⟩) (fun _ _ _ h => h) rfl q262) <|
  fG mo_inc (sim_inc dX1_put_30 (by decide)) <|
  fG mo_goto (sim_goto dX1_put_33 rfl) <|
  trivial
theorem fX1_put_36 {X : tp_X} {az : Array Value} (hG : tp_Good X az) (hSt : tp_Stat X) : tp_Fit X yX1_put cX1_put none 3 tp_nm tp_by tp_ml tp_rtt 36 [o_vret] :=
  fE ie_vret (sim_vret dX1_put_36 rfl)
theorem F_X1_put {X : tp_X} {az : Array Value} (hG : tp_Good X az) (hSt : tp_Stat X) (pc : Nat) : tp_Fit X yX1_put cX1_put none 3 tp_nm tp_by tp_ml tp_rtt pc (mX1_put pc) :=
  fI (fX1_put_0 hG hSt) <| fI (fX1_put_3 hG hSt) <| fI (fX1_put_36 hG hSt) <| trivial
theorem fX1_end_0 {X : tp_X} {az : Array Value} (hG : tp_Good X az) (hSt : tp_Stat X) : tp_Fit X yX1_end cX1_end (some .int) 2 tp_nm tp_by tp_ml tp_rtt 0 [o_ild (.iload_n 1) 1, o_int (.iconst 0) 0, o_ald (.aload_n 0) 0, o_getf (.getfield 136) 1 6, o_cs (.invokestatic 94) kX1_in 3 0, o_ifne 5 14, o_int (.iconst (-1)) (-1), o_iret 0] :=
  fG mo_ild (sim_ild_n dX1_end_0 rfl) <|
  fG mo_int (sim_iconst dX1_end_1 (by decide)) <|
  fG mo_ald (sim_ald_n dX1_end_2 rfl) <|
  fG mo_getf (sim_getfG hG dX1_end_3 hc_1 (by decide) rfl in_X1 (fun _ _ _ h => h) (Or.inl q262)) <|
  fC (ic_cs (Or.inl rfl)) (sim_cs hG dX1_end_6 M_X1_in (by rw [nm_X1_in]; rfl) (by rw [nm_X1_in]; exact q335) (by rw [nm_X1_in]; exact q336)) <|
  fG mo_ifne (sim_ifne dX1_end_9 rfl) <|
  fG mo_int (sim_iconst dX1_end_12 (by decide)) <|
  fE ie_iret (sim_iret dX1_end_13 rfl (Or.inl ⟨rfl, rfl⟩))
theorem fX1_end_14 {X : tp_X} {az : Array Value} (hG : tp_Good X az) (hSt : tp_Stat X) : tp_Fit X yX1_end cX1_end (some .int) 2 tp_nm tp_by tp_ml tp_rtt 14 [o_ald (.aload_n 0) 0, o_ild (.iload_n 1) 1, o_putf (.putfield 136) 1 6 0, o_ild (.iload_n 1) 1, o_iret 0] :=
  fG mo_ald (sim_ald_n dX1_end_14 rfl) <|
  fG mo_ild (sim_ild_n dX1_end_15 rfl) <|
  fG mo_putf (sim_putf hG dX1_end_16 hc_1 (by decide) rfl (by decide) in_X1 tyX1_ok nmX1 (Or.inl ⟨rfl, rfl⟩) (fun _ _ _ h => h) rfl q262) <|
  fG mo_ild (sim_ild_n dX1_end_19 rfl) <|
  fE ie_iret (sim_iret dX1_end_20 rfl (Or.inl ⟨rfl, rfl⟩))
theorem F_X1_end {X : tp_X} {az : Array Value} (hG : tp_Good X az) (hSt : tp_Stat X) (pc : Nat) : tp_Fit X yX1_end cX1_end (some .int) 2 tp_nm tp_by tp_ml tp_rtt pc (mX1_end pc) :=
  fI (fX1_end_0 hG hSt) <| fI (fX1_end_14 hG hSt) <| trivial
theorem fX1_text_0 {X : tp_X} {az : Array Value} (hG : tp_Good X az) (hSt : tp_Stat X) : tp_Fit X yX1_text cX1_text (some .int) 5 tp_nm tp_by tp_ml tp_rtt 0 [o_ald (.aload_n 0) 0, o_getf (.getfield 12) 1 0, o_getf (.getfield 112) 2 0, o_int (.iconst 2) 2, o_lda .iaload [0, 20], o_int (.iconst 4) 4, o_icmpne 5 15, o_int (.iconst (-1)) (-1), o_iret 0] :=
  fG mo_ald (sim_ald_n dX1_text_0 rfl) <|
  fG mo_getf (sim_getfG hG dX1_text_1 hc_1 (by decide) rfl in_X1 (fun _ _ _ h => h) (Or.inl q256)) <|
  fG mo_getf (sim_getfG hG dX1_text_4 hc_2 (by decide) rfl in_X2 (fun _ _ _ h => h) (Or.inr ⟨_, q179⟩)) <|
  fG mo_int (sim_iconst dX1_text_7 (by decide)) <|
  fG mo_lda (sim_iald dX1_text_8) <|
  fG mo_int (sim_iconst dX1_text_9 (by decide)) <|
  fG mo_icmpne (sim_icmpne dX1_text_10 rfl) <|
  fG mo_int (sim_iconst dX1_text_13 (by decide)) <|
  fE ie_iret (sim_iret dX1_text_14 rfl (Or.inl ⟨rfl, rfl⟩))
theorem fX1_text_15 {X : tp_X} {az : Array Value} (hG : tp_Good X az) (hSt : tp_Stat X) : tp_Fit X yX1_text cX1_text (some .int) 5 tp_nm tp_by tp_ml tp_rtt 15 [o_ald (.aload_n 0) 0, o_getf (.getfield 136) 1 6, o_ist (.istore_n 1) 1, o_ald (.aload_n 0) 0, o_int (.iconst 0) 0, o_putf (.putfield 23) 1 7 0, o_ald (.aload_n 0) 0, o_int (.iconst (-1)) (-1), o_putf (.putfield 27) 1 8 0, o_ald (.aload_n 0) 0, o_getf (.getfield 12) 1 0, o_getf (.getfield 143) 2 12, o_ald (.aload_n 0) 0, o_getf (.getfield 12) 1 0, o_getf (.getfield 112) 2 0, o_int (.iconst 2) 2, o_lda .iaload [0, 20], o_new (.new 147) 4 8 [xN, xI 0, xI 0, xI 0, xI 0, xI 0, xI 0, xI 0], o_dup, o_ald (.aload_n 0) 0, o_getf (.getfield 19) 1 5, o_ild (.iload_n 1) 1, o_cp (.invokespecial 149) kX4_init 2 0, o_cv (.invokevirtual 152) 4 kX4_read 0 72, o_aast [7] [5], o_ald (.aload_n 0) 0, o_int (.iconst 0) 0, o_putf (.putfield 136) 1 6 0, o_goto 39 106] :=
  fG mo_ald (sim_ald_n dX1_text_15 rfl) <|
  fG mo_getf (sim_getfG hG dX1_text_16 hc_1 (by decide) rfl in_X1 (fun _ _ _ h => h) (Or.inl q262)) <|
  fG mo_ist (sim_ist_n dX1_text_19 rfl) <|
  fG mo_ald (sim_ald_n dX1_text_20 rfl) <|
  fG mo_int (sim_iconst dX1_text_21 (by decide)) <|
  fG mo_putf (sim_putf hG dX1_text_22 hc_1 (by decide) rfl (by decide) in_X1 tyX1_ok nmX1 (Or.inl ⟨rfl, rfl⟩) (fun _ _ _ h => h) rfl q263) <|
  fG mo_ald (sim_ald_n dX1_text_25 rfl) <|
  fG mo_int (sim_iconst dX1_text_26 (by decide)) <|
  fG mo_putf (sim_putf hG dX1_text_27 hc_1 (by decide) rfl (by decide) in_X1 tyX1_ok nmX1 (Or.inl ⟨rfl, rfl⟩) (fun _ _ _ h => h) rfl q264) <|
  fG mo_ald (sim_ald_n dX1_text_30 rfl) <|
  fG mo_getf (sim_getfG hG dX1_text_31 hc_1 (by decide) rfl in_X1 (fun _ _ _ h => h) (Or.inl q256)) <|
  fG mo_getf (sim_getfG hG dX1_text_34 hc_2 (by decide) rfl in_X2 (fun _ _ _ h => h) (Or.inr ⟨_, q203⟩)) <|
  fG mo_ald (sim_ald_n dX1_text_37 rfl) <|
  fG mo_getf (sim_getfG hG dX1_text_38 hc_1 (by decide) rfl in_X1 (fun _ _ _ h => h) (Or.inl q256)) <|
  fG mo_getf (sim_getfG hG dX1_text_41 hc_2 (by decide) rfl in_X2 (fun _ _ _ h => h) (Or.inr ⟨_, q179⟩)) <|
  fG mo_int (sim_iconst dX1_text_44 (by decide)) <|
  fG mo_lda (sim_iald dX1_text_45) <|
  fG mo_new (sim_new hG dX1_text_46 hc_4 rfl (by decide) (by decide) in_X4 tyX4_ok q391 q392 q131 df_X4) <|
  fG mo_dup (sim_dup dX1_text_49) <|
  fG mo_ald (sim_ald_n dX1_text_50 rfl) <|
  fG mo_getf (sim_getfG hG dX1_text_51 hc_1 (by decide) rfl in_X1 (fun _ _ _ h => h) (Or.inl q261)) <|
  fG mo_ild (sim_ild_n dX1_text_54 rfl) <|
  fC (ic_cp (Or.inl rfl)) (sim_cp hG dX1_text_55 M_X4_init (by rw [nm_X4_init]; rfl) rt_X4_init (by rw [nm_X4_init]; rfl) (by rw [nm_X4_init]; exact q393) (by rw [nm_X4_init]; exact q394)) <|
  fC (ic_cv (Or.inr (Or.inr ⟨rfl, rfl, by decide, by decide⟩))) (sim_cv hG dX1_text_58 (hG.2.1 4 _ hc_4).2.1 M_X4_read (by rw [nm_X4_read]; rfl) (by rw [nm_X4_read]; exact q422) (by rw [nm_X4_read]; exact q423) (by rw [nm_X4_read]; exact q424)) <|
  fG mo_aast (sim_aast hG dX1_text_61 (Or.inr rfl) (by decide)) <|
  fG mo_ald (sim_ald_n dX1_text_62 rfl) <|
  fG mo_int (sim_iconst dX1_text_63 (by decide)) <|
  fG mo_putf (sim_putf hG dX1_text_64 hc_1 (by decide) rfl (by decide) in_X1 tyX1_ok nmX1 (Or.inl ⟨rfl, rfl⟩) (fun _ _ _ h => h) rfl q262) <|
  fG mo_goto (sim_goto dX1_text_67 rfl) <|
  trivial
theorem fX1_text_70 {X : tp_X} {az : Array Value} (hG : tp_Good X az) (hSt : tp_Stat X) : tp_Fit X yX1_text cX1_text (some .int) 5 tp_nm tp_by tp_ml tp_rtt 70 [o_ast (.astore_n 2) 2, o_ald (.aload_n 0) 0, o_ald (.aload_n 2) 2, o_getf (.getfield 158) 6 6, o_putf (.putfield 23) 1 7 0, o_ald (.aload_n 0) 0, o_ald (.aload_n 2) 2, o_getf (.getfield 159) 6 7, o_putf (.putfield 27) 1 8 0, o_int (.iconst (-1)) (-1), o_ist (.istore_n 3) 3, o_ald (.aload_n 0) 0, o_int (.iconst 0) 0, o_putf (.putfield 136) 1 6 0, o_ild (.iload_n 3) 3, o_iret 0] :=
  fG mo_ast (sim_ast_n dX1_text_70 rfl) <|
  fG mo_ald (sim_ald_n dX1_text_71 rfl) <|
  fG mo_ald (sim_ald_n dX1_text_72 rfl) <|
  fG mo_getf (sim_getfG hG dX1_text_73 hc_6 (by decide) rfl in_X6 (fun _ _ _ h => h) (Or.inr ⟨_, q606⟩)) <|
  fG mo_putf (sim_putf hG dX1_text_76 hc_1 (by decide) rfl (by decide) in_X1 tyX1_ok nmX1 (Or.inl ⟨rfl, rfl⟩) (fun _ _ _ h => h) rfl q263) <|
  fG mo_ald (sim_ald_n dX1_text_79 rfl) <|
  fG mo_ald (sim_ald_n dX1_text_80 rfl) <|
  fG mo_getf (sim_getfG hG dX1_text_81 hc_6 (by decide) rfl in_X6 (fun _ _ _ h => h) (Or.inr ⟨_, q608⟩)) <|
  fG mo_putf (sim_putf hG dX1_text_84 hc_1 (by decide) rfl (by decide) in_X1 tyX1_ok nmX1 (Or.inl ⟨rfl, rfl⟩) (fun _ _ _ h => h) rfl q264) <|
  fG mo_int (sim_iconst dX1_text_87 (by decide)) <|
  fG mo_ist (sim_ist_n dX1_text_88 rfl) <|
  fG mo_ald (sim_ald_n dX1_text_89 rfl) <|
  fG mo_int (sim_iconst dX1_text_90 (by decide)) <|
  fG mo_putf (sim_putf hG dX1_text_91 hc_1 (by decide) rfl (by decide) in_X1 tyX1_ok nmX1 (Or.inl ⟨rfl, rfl⟩) (fun _ _ _ h => h) rfl q262) <|
  fG mo_ild (sim_ild_n dX1_text_94 rfl) <|
  fE ie_iret (sim_iret dX1_text_95 rfl (Or.inl ⟨rfl, rfl⟩))
theorem fX1_text_96 {X : tp_X} {az : Array Value} (hG : tp_Good X az) (hSt : tp_Stat X) : tp_Fit X yX1_text cX1_text (some .int) 5 tp_nm tp_by tp_ml tp_rtt 96 [o_ast (.astore 4) 4, o_ald (.aload_n 0) 0, o_int (.iconst 0) 0, o_putf (.putfield 136) 1 6 0, o_ald (.aload 4) 4, o_dead .athrow, o_fall 106] :=
  fG mo_ast (sim_ast dX1_text_96) <|
  fG mo_ald (sim_ald_n dX1_text_98 rfl) <|
  fG mo_int (sim_iconst dX1_text_99 (by decide)) <|
  fG mo_putf (sim_putf hG dX1_text_100 hc_1 (by decide) rfl (by decide) in_X1 tyX1_ok nmX1 (Or.inl ⟨rfl, rfl⟩) (fun _ _ _ h => h) rfl q262) <|
  fG mo_ald (sim_ald dX1_text_103) <|
  fD
theorem fX1_text_106 {X : tp_X} {az : Array Value} (hG : tp_Good X az) (hSt : tp_Stat X) : tp_Fit X yX1_text cX1_text (some .int) 5 tp_nm tp_by tp_ml tp_rtt 106 [o_ald (.aload_n 0) 0, o_getf (.getfield 12) 1 0, o_getf (.getfield 112) 2 0, o_int (.iconst 2) 2, o_dup2, o_lda .iaload [0, 20], o_int (.iconst 1) 1, o_iadd, o_sta .iastore [0], o_ald (.aload_n 0) 0, o_getf (.getfield 12) 1 0, o_getf (.getfield 112) 2 0, o_int (.iconst 2) 2, o_lda .iaload [0, 20], o_int (.iconst 1) 1, o_isub, o_iret 0] :=
  fG mo_ald (sim_ald_n dX1_text_106 rfl) <|
  fG mo_getf (sim_getfG hG dX1_text_107 hc_1 (by decide) rfl in_X1 (fun _ _ _ h => h) (Or.inl q256)) <|
  fG mo_getf (sim_getfG hG dX1_text_110 hc_2 (by decide) rfl in_X2 (fun _ _ _ h => h) (Or.inr ⟨_, q179⟩)) <|
  fG mo_int (sim_iconst dX1_text_113 (by decide)) <|
  fG mo_dup2 (sim_dup2 dX1_text_114) <|
  fG mo_lda (sim_iald dX1_text_115) <|
  fG mo_int (sim_iconst dX1_text_116 (by decide)) <|
  fG mo_iadd (sim_iadd dX1_text_117) <|
  fG mo_sta (sim_iast dX1_text_118) <|
  fG mo_ald (sim_ald_n dX1_text_119 rfl) <|
  fG mo_getf (sim_getfG hG dX1_text_120 hc_1 (by decide) rfl in_X1 (fun _ _ _ h => h) (Or.inl q256)) <|
  fG mo_getf (sim_getfG hG dX1_text_123 hc_2 (by decide) rfl in_X2 (fun _ _ _ h => h) (Or.inr ⟨_, q179⟩)) <|
  fG mo_int (sim_iconst dX1_text_126 (by decide)) <|
  fG mo_lda (sim_iald dX1_text_127) <|
  fG mo_int (sim_iconst dX1_text_128 (by decide)) <|
  fG mo_isub (sim_isub dX1_text_129) <|
  fE ie_iret (sim_iret dX1_text_130 rfl (Or.inl ⟨rfl, rfl⟩))
theorem F_X1_text {X : tp_X} {az : Array Value} (hG : tp_Good X az) (hSt : tp_Stat X) (pc : Nat) : tp_Fit X yX1_text cX1_text (some .int) 5 tp_nm tp_by tp_ml tp_rtt pc (mX1_text pc) :=
  fI (fX1_text_0 hG hSt) <| fI (fX1_text_15 hG hSt) <| fI (fX1_text_70 hG hSt) <| fI (fX1_text_96 hG hSt) <| fI (fX1_text_106 hG hSt) <| trivial
theorem fX1_fault_0 {X : tp_X} {az : Array Value} (hG : tp_Good X az) (hSt : tp_Stat X) : tp_Fit X yX1_fault cX1_fault (some .int) 2 tp_nm tp_by tp_ml tp_rtt 0 [o_ild (.iload_n 1) 1, o_ifne 10 11, o_ald (.aload_n 0) 0, o_getf (.getfield 23) 1 7, o_goto 16 24] :=
  fG mo_ild (sim_ild_n dX1_fault_0 rfl) <|
  fG mo_ifne (sim_ifne dX1_fault_1 rfl) <|
  fG mo_ald (sim_ald_n dX1_fault_4 rfl) <|
  fG mo_getf (sim_getfG hG dX1_fault_5 hc_1 (by decide) rfl in_X1 (fun _ _ _ h => h) (Or.inl q263)) <|
  fG mo_goto (sim_goto dX1_fault_8 rfl) <|
  trivial
theorem fX1_fault_11 {X : tp_X} {az : Array Value} (hG : tp_Good X az) (hSt : tp_Stat X) : tp_Fit X yX1_fault cX1_fault (some .int) 2 tp_nm tp_by tp_ml tp_rtt 11 [o_ild (.iload_n 1) 1, o_int (.iconst 1) 1, o_icmpne 10 23, o_ald (.aload_n 0) 0, o_getf (.getfield 27) 1 8, o_goto 4 24] :=
  fG mo_ild (sim_ild_n dX1_fault_11 rfl) <|
  fG mo_int (sim_iconst dX1_fault_12 (by decide)) <|
  fG mo_icmpne (sim_icmpne dX1_fault_13 rfl) <|
  fG mo_ald (sim_ald_n dX1_fault_16 rfl) <|
  fG mo_getf (sim_getfG hG dX1_fault_17 hc_1 (by decide) rfl in_X1 (fun _ _ _ h => h) (Or.inl q264)) <|
  fG mo_goto (sim_goto dX1_fault_20 rfl) <|
  trivial
theorem fX1_fault_23 {X : tp_X} {az : Array Value} (hG : tp_Good X az) (hSt : tp_Stat X) : tp_Fit X yX1_fault cX1_fault (some .int) 2 tp_nm tp_by tp_ml tp_rtt 23 [o_int (.iconst (-1)) (-1), o_fall 24] :=
  fG mo_int (sim_iconst dX1_fault_23 (by decide)) <|
  fF
theorem fX1_fault_24 {X : tp_X} {az : Array Value} (hG : tp_Good X az) (hSt : tp_Stat X) : tp_Fit X yX1_fault cX1_fault (some .int) 2 tp_nm tp_by tp_ml tp_rtt 24 [o_iret 0] :=
  fE ie_iret (sim_iret dX1_fault_24 rfl (Or.inl ⟨rfl, rfl⟩))
theorem F_X1_fault {X : tp_X} {az : Array Value} (hG : tp_Good X az) (hSt : tp_Stat X) (pc : Nat) : tp_Fit X yX1_fault cX1_fault (some .int) 2 tp_nm tp_by tp_ml tp_rtt pc (mX1_fault pc) :=
  fI (fX1_fault_0 hG hSt) <| fI (fX1_fault_11 hG hSt) <| fI (fX1_fault_23 hG hSt) <| fI (fX1_fault_24 hG hSt) <| trivial
theorem fX1_by_0 {X : tp_X} {az : Array Value} (hG : tp_Good X az) (hSt : tp_Stat X) : tp_Fit X yX1_by cX1_by (some .boolean) 2 tp_nm tp_by tp_ml tp_rtt 0 [o_ild (.iload_n 1) 1, o_int (.iconst (-1)) (-1), o_icmpeq 13 15, o_ald (.aload_n 0) 0, o_ild (.iload_n 1) 1, o_cv (.invokevirtual 162) 1 kX1_isText 1 0, o_ifne 5 15, o_int (.iconst 0) 0, o_iret 1] :=
  fG mo_ild (sim_ild_n dX1_by_0 rfl) <|
  fG mo_int (sim_iconst dX1_by_1 (by decide)) <|
  fG mo_icmpeq (sim_icmpeq dX1_by_2 rfl) <|
  fG mo_ald (sim_ald_n dX1_by_5 rfl) <|
  fG mo_ild (sim_ild_n dX1_by_6 rfl) <|
  fC (ic_cv (Or.inl rfl)) (sim_cv hG dX1_by_7 (hG.2.1 1 _ hc_1).2.1 M_X1_isText (by rw [nm_X1_isText]; rfl) (by rw [nm_X1_isText]; exact q885) (by rw [nm_X1_isText]; exact q887) (by rw [nm_X1_isText]; exact qs19)) <|
  fG mo_ifne (sim_ifne dX1_by_10 rfl) <|
  fG mo_int (sim_iconst dX1_by_13 (by decide)) <|
  fE ie_iret (sim_iret dX1_by_14 rfl (Or.inr (Or.inl ⟨rfl, rfl⟩)))
theorem fX1_by_15 {X : tp_X} {az : Array Value} (hG : tp_Good X az) (hSt : tp_Stat X) : tp_Fit X yX1_by cX1_by (some .boolean) 2 tp_nm tp_by tp_ml tp_rtt 15 [o_ald (.aload_n 0) 0, o_getf (.getfield 12) 1 0, o_getf (.getfield 112) 2 0, o_int (.iconst 3) 3, o_ild (.iload_n 1) 1, o_sta .iastore [0], o_int (.iconst 1) 1, o_iret 1] :=
  fG mo_ald (sim_ald_n dX1_by_15 rfl) <|
  fG mo_getf (sim_getfG hG dX1_by_16 hc_1 (by decide) rfl in_X1 (fun _ _ _ h => h) (Or.inl q256)) <|
  fG mo_getf (sim_getfG hG dX1_by_19 hc_2 (by decide) rfl in_X2 (fun _ _ _ h => h) (Or.inr ⟨_, q179⟩)) <|
  fG mo_int (sim_iconst dX1_by_22 (by decide)) <|
  fG mo_ild (sim_ild_n dX1_by_23 rfl) <|
  fG mo_sta (sim_iast dX1_by_24) <|
  fG mo_int (sim_iconst dX1_by_25 (by decide)) <|
  fE ie_iret (sim_iret dX1_by_26 rfl (Or.inr (Or.inl ⟨rfl, rfl⟩)))
theorem F_X1_by {X : tp_X} {az : Array Value} (hG : tp_Good X az) (hSt : tp_Stat X) (pc : Nat) : tp_Fit X yX1_by cX1_by (some .boolean) 2 tp_nm tp_by tp_ml tp_rtt pc (mX1_by pc) :=
  fI (fX1_by_0 hG hSt) <| fI (fX1_by_15 hG hSt) <| trivial
theorem fX1_isText_0 {X : tp_X} {az : Array Value} (hG : tp_Good X az) (hSt : tp_Stat X) : tp_Fit X yX1_isText cX1_isText (some .boolean) 2 tp_nm tp_by tp_ml tp_rtt 0 [o_ild (.iload_n 1) 1, o_int (.iconst 0) 0, o_ald (.aload_n 0) 0, o_getf (.getfield 12) 1 0, o_getf (.getfield 112) 2 0, o_int (.iconst 2) 2, o_lda .iaload [0, 20], o_int (.iconst 1) 1, o_isub, o_cs (.invokestatic 94) kX1_in 3 0, o_iret 1] :=
  fG mo_ild (sim_ild_n dX1_isText_0 rfl) <|
  fG mo_int (sim_iconst dX1_isText_1 (by decide)) <|
  fG mo_ald (sim_ald_n dX1_isText_2 rfl) <|
  fG mo_getf (sim_getfG hG dX1_isText_3 hc_1 (by decide) rfl in_X1 (fun _ _ _ h => h) (Or.inl q256)) <|
  fG mo_getf (sim_getfG hG dX1_isText_6 hc_2 (by decide) rfl in_X2 (fun _ _ _ h => h) (Or.inr ⟨_, q179⟩)) <|
  fG mo_int (sim_iconst dX1_isText_9 (by decide)) <|
  fG mo_lda (sim_iald dX1_isText_10) <|
  fG mo_int (sim_iconst dX1_isText_11 (by decide)) <|
  fG mo_isub (sim_isub dX1_isText_12) <|
  fC (ic_cs (Or.inl rfl)) (sim_cs hG dX1_isText_13 M_X1_in (by rw [nm_X1_in]; rfl) (by rw [nm_X1_in]; exact q335) (by rw [nm_X1_in]; exact q336)) <|
  fE ie_iret (sim_iret dX1_isText_16 rfl (Or.inr (Or.inl ⟨rfl, rfl⟩)))
theorem F_X1_isText {X : tp_X} {az : Array Value} (hG : tp_Good X az) (hSt : tp_Stat X) (pc : Nat) : tp_Fit X yX1_isText cX1_isText (some .boolean) 2 tp_nm tp_by tp_ml tp_rtt pc (mX1_isText pc) :=
  fI (fX1_isText_0 hG hSt) <| trivial
theorem fX1_can_0 {X : tp_X} {az : Array Value} (hG : tp_Good X az) (hSt : tp_Stat X) : tp_Fit X yX1_can cX1_can (some .boolean) 4 tp_nm tp_by tp_ml tp_rtt 0 [o_ild (.iload_n 1) 1, o_int (.iconst 0) 0, o_int (.iconst 1) 1, o_cs (.invokestatic 94) kX1_in 3 0, o_ifeq 10 16, o_ild (.iload_n 2) 2, o_cs (.invokestatic 229) kX1_isOrder 1 0, o_ifne 5 18, o_fall 16] :=
  fG mo_ild (sim_ild_n dX1_can_0 rfl) <|
  fG mo_int (sim_iconst dX1_can_1 (by decide)) <|
  fG mo_int (sim_iconst dX1_can_2 (by decide)) <|
  fC (ic_cs (Or.inl rfl)) (sim_cs hG dX1_can_3 M_X1_in (by rw [nm_X1_in]; rfl) (by rw [nm_X1_in]; exact q335) (by rw [nm_X1_in]; exact q336)) <|
  fG mo_ifeq (sim_ifeq dX1_can_6 rfl) <|
  fG mo_ild (sim_ild_n dX1_can_9 rfl) <|
  fC (ic_cs (Or.inl rfl)) (sim_cs hG dX1_can_10 M_X1_isOrder (by rw [nm_X1_isOrder]; rfl) (by rw [nm_X1_isOrder]; exact q893) (by rw [nm_X1_isOrder]; exact q894)) <|
  fG mo_ifne (sim_ifne dX1_can_13 rfl) <|
  fF
theorem fX1_can_16 {X : tp_X} {az : Array Value} (hG : tp_Good X az) (hSt : tp_Stat X) : tp_Fit X yX1_can cX1_can (some .boolean) 4 tp_nm tp_by tp_ml tp_rtt 16 [o_int (.iconst 0) 0, o_iret 1] :=
  fG mo_int (sim_iconst dX1_can_16 (by decide)) <|
  fE ie_iret (sim_iret dX1_can_17 rfl (Or.inr (Or.inl ⟨rfl, rfl⟩)))
theorem fX1_can_18 {X : tp_X} {az : Array Value} (hG : tp_Good X az) (hSt : tp_Stat X) : tp_Fit X yX1_can cX1_can (some .boolean) 4 tp_nm tp_by tp_ml tp_rtt 18 [o_ald (.aload_n 0) 0, o_getf (.getfield 12) 1 0, o_getf (.getfield 130) 2 10, o_ild (.iload_n 1) 1, o_lda .aaload [4, 5, 6, 7, 28, 29], o_ast (.astore_n 3) 3, o_ald (.aload_n 3) 3, o_int (.iconst 0) 0, o_lda .iaload [0, 20], o_int (.iconst (-1)) (-1), o_icmpeq 56 88, o_ald (.aload_n 3) 3, o_int (.iconst 3) 3, o_lda .iaload [0, 20], o_ifne 50 88, o_ald (.aload_n 0) 0, o_ild (.iload_n 2) 2, o_ald (.aload_n 3) 3, o_int (.iconst 0) 0, o_lda .iaload [0, 20], o_ald (.aload_n 3) 3, o_int (.iconst 1) 1, o_lda .iaload [0, 20], o_ald (.aload_n 3) 3, o_int (.iconst 2) 2, o_lda .iaload [0, 20], o_ald (.aload_n 0) 0, o_getf (.getfield 12) 1 0, o_getf (.getfield 102) 2 1, o_ald (.aload_n 0) 0, o_getf (.getfield 12) 1 0, o_getf (.getfield 112) 2 0, o_int (.iconst 1) 1, o_lda .iaload [0, 20], o_ald (.aload_n 0) 0, o_getf (.getfield 12) 1 0, o_getf (.getfield 112) 2 0, o_int (.iconst 0) 0, o_lda .iaload [0, 20], o_cv (.invokevirtual 232) 1 kX1_costOf 7 0, o_int (.iconst (-1)) (-1), o_icmpeq 7 88, o_int (.iconst 1) 1, o_goto 4 89] :=
  fG mo_ald (sim_ald_n dX1_can_18 rfl) <|
  fG mo_getf (sim_getfG hG dX1_can_19 hc_1 (by decide) rfl in_X1 (fun _ _ _ h => h) (Or.inl q256)) <|
  fG mo_getf (sim_getfG hG dX1_can_22 hc_2 (by decide) rfl in_X2 (fun _ _ _ h => h) (Or.inr ⟨_, q199⟩)) <|
  fG mo_ild (sim_ild_n dX1_can_25 rfl) <|
  fG mo_lda (sim_aald dX1_can_26) <|
  fG mo_ast (sim_ast_n dX1_can_27 rfl) <|
  fG mo_ald (sim_ald_n dX1_can_28 rfl) <|
  fG mo_int (sim_iconst dX1_can_29 (by decide)) <|
  fG mo_lda (sim_iald dX1_can_30) <|
  fG mo_int (sim_iconst dX1_can_31 (by decide)) <|
  fG mo_icmpeq (sim_icmpeq dX1_can_32 rfl) <|
  fG mo_ald (sim_ald_n dX1_can_35 rfl) <|
  fG mo_int (sim_iconst dX1_can_36 (by decide)) <|
  fG mo_lda (sim_iald dX1_can_37) <|
  fG mo_ifne (sim_ifne dX1_can_38 rfl) <|
  fG mo_ald (sim_ald_n dX1_can_41 rfl) <|
  fG mo_ild (sim_ild_n dX1_can_42 rfl) <|
  fG mo_ald (sim_ald_n dX1_can_43 rfl) <|
  fG mo_int (sim_iconst dX1_can_44 (by decide)) <|
  fG mo_lda (sim_iald dX1_can_45) <|
  fG mo_ald (sim_ald_n dX1_can_46 rfl) <|
  fG mo_int (sim_iconst dX1_can_47 (by decide)) <|
  fG mo_lda (sim_iald dX1_can_48) <|
  fG mo_ald (sim_ald_n dX1_can_49 rfl) <|
  fG mo_int (sim_iconst dX1_can_50 (by decide)) <|
  fG mo_lda (sim_iald dX1_can_51) <|
  fG mo_ald (sim_ald_n dX1_can_52 rfl) <|
  fG mo_getf (sim_getfG hG dX1_can_53 hc_1 (by decide) rfl in_X1 (fun _ _ _ h => h) (Or.inl q256)) <|
  fG mo_getf (sim_getfG hG dX1_can_56 hc_2 (by decide) rfl in_X2 (fun _ _ _ h => h) (Or.inr ⟨_, q181⟩)) <|
  fG mo_ald (sim_ald_n dX1_can_59 rfl) <|
  fG mo_getf (sim_getfG hG dX1_can_60 hc_1 (by decide) rfl in_X1 (fun _ _ _ h => h) (Or.inl q256)) <|
  fG mo_getf (sim_getfG hG dX1_can_63 hc_2 (by decide) rfl in_X2 (fun _ _ _ h => h) (Or.inr ⟨_, q179⟩)) <|
  fG mo_int (sim_iconst dX1_can_66 (by decide)) <|
  fG mo_lda (sim_iald dX1_can_67) <|
  fG mo_ald (sim_ald_n dX1_can_68 rfl) <|
  fG mo_getf (sim_getfG hG dX1_can_69 hc_1 (by decide) rfl in_X1 (fun _ _ _ h => h) (Or.inl q256)) <|
  fG mo_getf (sim_getfG hG dX1_can_72 hc_2 (by decide) rfl in_X2 (fun _ _ _ h => h) (Or.inr ⟨_, q179⟩)) <|
  fG mo_int (sim_iconst dX1_can_75 (by decide)) <|
  fG mo_lda (sim_iald dX1_can_76) <|
  fC (ic_cv (Or.inl rfl)) (sim_cv hG dX1_can_77 (hG.2.1 1 _ hc_1).2.1 M_X1_costOf (by rw [nm_X1_costOf]; rfl) (by rw [nm_X1_costOf]; exact q896) (by rw [nm_X1_costOf]; exact q898) (by rw [nm_X1_costOf]; exact qs20)) <|
  fG mo_int (sim_iconst dX1_can_80 (by decide)) <|
  fG mo_icmpeq (sim_icmpeq dX1_can_81 rfl) <|
  fG mo_int (sim_iconst dX1_can_84 (by decide)) <|
  fG mo_goto (sim_goto dX1_can_85 rfl) <|
  trivial
theorem fX1_can_88 {X : tp_X} {az : Array Value} (hG : tp_Good X az) (hSt : tp_Stat X) : tp_Fit X yX1_can cX1_can (some .boolean) 4 tp_nm tp_by tp_ml tp_rtt 88 [o_int (.iconst 0) 0, o_fall 89] :=
  fG mo_int (sim_iconst dX1_can_88 (by decide)) <|
  fF
theorem fX1_can_89 {X : tp_X} {az : Array Value} (hG : tp_Good X az) (hSt : tp_Stat X) : tp_Fit X yX1_can cX1_can (some .boolean) 4 tp_nm tp_by tp_ml tp_rtt 89 [o_iret 1] :=
  fE ie_iret (sim_iret dX1_can_89 rfl (Or.inr (Or.inl ⟨rfl, rfl⟩)))
theorem F_X1_can {X : tp_X} {az : Array Value} (hG : tp_Good X az) (hSt : tp_Stat X) (pc : Nat) : tp_Fit X yX1_can cX1_can (some .boolean) 4 tp_nm tp_by tp_ml tp_rtt pc (mX1_can pc) :=
  fI (fX1_can_0 hG hSt) <| fI (fX1_can_16 hG hSt) <| fI (fX1_can_18 hG hSt) <| fI (fX1_can_88 hG hSt) <| fI (fX1_can_89 hG hSt) <| trivial
theorem fX1_isOrder_0 {X : tp_X} {az : Array Value} (hG : tp_Good X az) (hSt : tp_Stat X) : tp_Fit X yX1_isOrder cX1_isOrder (some .boolean) 1 tp_nm tp_by tp_ml tp_rtt 0 [o_ild (.iload_n 0) 0, o_int (.iconst 0) 0, o_int (.bipush 7) 7, o_cs (.invokestatic 94) kX1_in 3 0, o_iret 1] :=
  fG mo_ild (sim_ild_n dX1_isOrder_0 rfl) <|
  fG mo_int (sim_iconst dX1_isOrder_1 (by decide)) <|
  fG mo_int (sim_bipush dX1_isOrder_2 (by decide)) <|
  fC (ic_cs (Or.inl rfl)) (sim_cs hG dX1_isOrder_4 M_X1_in (by rw [nm_X1_in]; rfl) (by rw [nm_X1_in]; exact q335) (by rw [nm_X1_in]; exact q336)) <|
  fE ie_iret (sim_iret dX1_isOrder_7 rfl (Or.inr (Or.inl ⟨rfl, rfl⟩)))
theorem F_X1_isOrder {X : tp_X} {az : Array Value} (hG : tp_Good X az) (hSt : tp_Stat X) (pc : Nat) : tp_Fit X yX1_isOrder cX1_isOrder (some .boolean) 1 tp_nm tp_by tp_ml tp_rtt pc (mX1_isOrder pc) :=
  fI (fX1_isOrder_0 hG hSt) <| trivial
theorem fX1_costOf_0 {X : tp_X} {az : Array Value} (hG : tp_Good X az) (hSt : tp_Stat X) : tp_Fit X yX1_costOf cX1_costOf (some .int) 10 tp_nm tp_by tp_ml tp_rtt 0 [o_ild (.iload_n 1) 1, o_int (.bipush 6) 6, o_icmpne 5 8, o_int (.iconst 0) 0, o_iret 0] :=
  fG mo_ild (sim_ild_n dX1_costOf_0 rfl) <|
  fG mo_int (sim_bipush dX1_costOf_1 (by decide)) <|
  fG mo_icmpne (sim_icmpne dX1_costOf_3 rfl) <|
  fG mo_int (sim_iconst dX1_costOf_6 (by decide)) <|
  fE ie_iret (sim_iret dX1_costOf_7 rfl (Or.inl ⟨rfl, rfl⟩))
theorem fX1_costOf_8 {X : tp_X} {az : Array Value} (hG : tp_Good X az) (hSt : tp_Stat X) : tp_Fit X yX1_costOf cX1_costOf (some .int) 10 tp_nm tp_by tp_ml tp_rtt 8 [o_ild (.iload_n 1) 1, o_int (.bipush 7) 7, o_icmpne 7 18, o_int (.iconst 1) 1, o_goto 4 19] :=
  fG mo_ild (sim_ild_n dX1_costOf_8 rfl) <|
  fG mo_int (sim_bipush dX1_costOf_9 (by decide)) <|
  fG mo_icmpne (sim_icmpne dX1_costOf_11 rfl) <|
  fG mo_int (sim_iconst dX1_costOf_14 (by decide)) <|
  fG mo_goto (sim_goto dX1_costOf_15 rfl) <|
  trivial
theorem fX1_costOf_18 {X : tp_X} {az : Array Value} (hG : tp_Good X az) (hSt : tp_Stat X) : tp_Fit X yX1_costOf cX1_costOf (some .int) 10 tp_nm tp_by tp_ml tp_rtt 18 [o_int (.iconst 0) 0, o_fall 19] :=
  fG mo_int (sim_iconst dX1_costOf_18 (by decide)) <|
  fF
theorem fX1_costOf_19 {X : tp_X} {az : Array Value} (hG : tp_Good X az) (hSt : tp_Stat X) : tp_Fit X yX1_costOf cX1_costOf (some .int) 10 tp_nm tp_by tp_ml tp_rtt 19 [o_ild (.iload 4) 4, o_int (.iconst 1) 1, o_icmpne 7 29, o_int (.iconst 1) 1, o_goto 4 30] :=
  fG mo_ild (sim_ild dX1_costOf_19) <|
  fG mo_int (sim_iconst dX1_costOf_21 (by decide)) <|
  fG mo_icmpne (sim_icmpne dX1_costOf_22 rfl) <|
  fG mo_int (sim_iconst dX1_costOf_25 (by decide)) <|
  fG mo_goto (sim_goto dX1_costOf_26 rfl) <|
  trivial
theorem fX1_costOf_29 {X : tp_X} {az : Array Value} (hG : tp_Good X az) (hSt : tp_Stat X) : tp_Fit X yX1_costOf cX1_costOf (some .int) 10 tp_nm tp_by tp_ml tp_rtt 29 [o_int (.iconst 0) 0, o_fall 30] :=
  fG mo_int (sim_iconst dX1_costOf_29 (by decide)) <|
  fF
theorem fX1_costOf_30 {X : tp_X} {az : Array Value} (hG : tp_Good X az) (hSt : tp_Stat X) : tp_Fit X yX1_costOf cX1_costOf (some .int) 10 tp_nm tp_by tp_ml tp_rtt 30 [o_icmpeq 5 35, o_int (.iconst (-1)) (-1), o_iret 0] :=
  fG mo_icmpeq (sim_icmpeq dX1_costOf_30 rfl) <|
  fG mo_int (sim_iconst dX1_costOf_33 (by decide)) <|
  fE ie_iret (sim_iret dX1_costOf_34 rfl (Or.inl ⟨rfl, rfl⟩))
theorem fX1_costOf_35 {X : tp_X} {az : Array Value} (hG : tp_Good X az) (hSt : tp_Stat X) : tp_Fit X yX1_costOf cX1_costOf (some .int) 10 tp_nm tp_by tp_ml tp_rtt 35 [o_int (.iconst (-1)) (-1), o_ist (.istore 8) 8, o_ild (.iload_n 1) 1, o_int (.iconst 4) 4, o_icmplt 19 59, o_ald (.aload_n 0) 0, o_getf (.getfield 12) 1 0, o_getf (.getfield 133) 2 2, o_ild (.iload_n 1) 1, o_int (.iconst 4) 4, o_isub, o_lda .iaload [0, 20], o_ist (.istore 8) 8, o_goto 55 111] :=
  fG mo_int (sim_iconst dX1_costOf_35 (by decide)) <|
  fG mo_ist (sim_ist dX1_costOf_36) <|
  fG mo_ild (sim_ild_n dX1_costOf_38 rfl) <|
  fG mo_int (sim_iconst dX1_costOf_39 (by decide)) <|
  fG mo_icmplt (sim_icmplt dX1_costOf_40 rfl) <|
  fG mo_ald (sim_ald_n dX1_costOf_43 rfl) <|
  fG mo_getf (sim_getfG hG dX1_costOf_44 hc_1 (by decide) rfl in_X1 (fun _ _ _ h => h) (Or.inl q256)) <|
  fG mo_getf (sim_getfG hG dX1_costOf_47 hc_2 (by decide) rfl in_X2 (fun _ _ _ h => h) (Or.inr ⟨_, q183⟩)) <|
  fG mo_ild (sim_ild_n dX1_costOf_50 rfl) <|
  fG mo_int (sim_iconst dX1_costOf_51 (by decide)) <|
  fG mo_isub (sim_isub dX1_costOf_52) <|
  fG mo_lda (sim_iald dX1_costOf_53) <|
  fG mo_ist (sim_ist dX1_costOf_54) <|
  fG mo_goto (sim_goto dX1_costOf_56 rfl) <|
  trivial
theorem fX1_costOf_59 {X : tp_X} {az : Array Value} (hG : tp_Good X az) (hSt : tp_Stat X) : tp_Fit X yX1_costOf cX1_costOf (some .int) 10 tp_nm tp_by tp_ml tp_rtt 59 [o_ald (.aload_n 0) 0, o_ild (.iload_n 2) 2, o_ild (.iload_n 1) 1, o_cs (.invokestatic 169) kX1_dx 1 0, o_ild (.iload_n 1) 1, o_cs (.invokestatic 173) kX1_dy 1 0, o_cv (.invokevirtual 165) 1 kX1_beside 3 0, o_ist (.istore 9) 9, o_ild (.iload 9) 9, o_int (.iconst (-1)) (-1), o_icmpeq 18 95, o_ald (.aload_n 0) 0, o_ald (.aload 5) 5, o_ild (.iload 9) 9, o_ild (.iload 6) 6, o_ild (.iload 7) 7, o_cv (.invokevirtual 222) 1 kX1_may 4 0, o_ifne 5 97, o_fall 95] :=
  fG mo_ald (sim_ald_n dX1_costOf_59 rfl) <|
  fG mo_ild (sim_ild_n dX1_costOf_60 rfl) <|
  fG mo_ild (sim_ild_n dX1_costOf_61 rfl) <|
  fC (ic_cs (Or.inl rfl)) (sim_cs hG dX1_costOf_62 M_X1_dx (by rw [nm_X1_dx]; rfl) (by rw [nm_X1_dx]; exact q900) (by rw [nm_X1_dx]; exact q901)) <|
  fG mo_ild (sim_ild_n dX1_costOf_65 rfl) <|
  fC (ic_cs (Or.inl rfl)) (sim_cs hG dX1_costOf_66 M_X1_dy (by rw [nm_X1_dy]; rfl) (by rw [nm_X1_dy]; exact q903) (by rw [nm_X1_dy]; exact q904)) <|
  fC (ic_cv (Or.inl rfl)) (sim_cv hG dX1_costOf_69 (hG.2.1 1 _ hc_1).2.1 M_X1_beside (by rw [nm_X1_beside]; rfl) (by rw [nm_X1_beside]; exact q906) (by rw [nm_X1_beside]; exact q908) (by rw [nm_X1_beside]; exact qs21)) <|
  fG mo_ist (sim_ist dX1_costOf_72) <|
  fG mo_ild (sim_ild dX1_costOf_74) <|
  fG mo_int (sim_iconst dX1_costOf_76 (by decide)) <|
  fG mo_icmpeq (sim_icmpeq dX1_costOf_77 rfl) <|
  fG mo_ald (sim_ald_n dX1_costOf_80 rfl) <|
  fG mo_ald (sim_ald dX1_costOf_81) <|
  fG mo_ild (sim_ild dX1_costOf_83) <|
  fG mo_ild (sim_ild dX1_costOf_85) <|
  fG mo_ild (sim_ild dX1_costOf_87) <|
  fC (ic_cv (Or.inl rfl)) (sim_cv hG dX1_costOf_89 (hG.2.1 1 _ hc_1).2.1 M_X1_may (by rw [nm_X1_may]; rfl) (by rw [nm_X1_may]; exact q910) (by rw [nm_X1_may]; exact q912) (by rw [nm_X1_may]; exact qs22)) <|
  fG mo_ifne (sim_ifne dX1_costOf_92 rfl) <|
  fF
theorem fX1_costOf_95 {X : tp_X} {az : Array Value} (hG : tp_Good X az) (hSt : tp_Stat X) : tp_Fit X yX1_costOf cX1_costOf (some .int) 10 tp_nm tp_by tp_ml tp_rtt 95 [o_int (.iconst (-1)) (-1), o_iret 0] :=
  fG mo_int (sim_iconst dX1_costOf_95 (by decide)) <|
  fE ie_iret (sim_iret dX1_costOf_96 rfl (Or.inl ⟨rfl, rfl⟩))
theorem fX1_costOf_97 {X : tp_X} {az : Array Value} (hG : tp_Good X az) (hSt : tp_Stat X) : tp_Fit X yX1_costOf cX1_costOf (some .int) 10 tp_nm tp_by tp_ml tp_rtt 97 [o_ald (.aload_n 0) 0, o_ald (.aload 5) 5, o_ild (.iload 9) 9, o_ild (.iload 6) 6, o_ild (.iload 7) 7, o_cv (.invokevirtual 225) 1 kX1_costOf_2 4 0, o_ist (.istore 8) 8, o_fall 111] :=
  fG mo_ald (sim_ald_n dX1_costOf_97 rfl) <|
  fG mo_ald (sim_ald dX1_costOf_98) <|
  fG mo_ild (sim_ild dX1_costOf_100) <|
  fG mo_ild (sim_ild dX1_costOf_102) <|
  fG mo_ild (sim_ild dX1_costOf_104) <|
  fC (ic_cv (Or.inl rfl)) (sim_cv hG dX1_costOf_106 (hG.2.1 1 _ hc_1).2.1 M_X1_costOf_2 (by rw [nm_X1_costOf_2]; rfl) (by rw [nm_X1_costOf_2]; exact q1006) (by rw [nm_X1_costOf_2]; exact q1008) (by rw [nm_X1_costOf_2]; exact qs25)) <|
  fG mo_ist (sim_ist dX1_costOf_109) <|
  fF
theorem fX1_costOf_111 {X : tp_X} {az : Array Value} (hG : tp_Good X az) (hSt : tp_Stat X) : tp_Fit X yX1_costOf cX1_costOf (some .int) 10 tp_nm tp_by tp_ml tp_rtt 111 [o_ild (.iload 8) 8, o_ild (.iload_n 3) 3, o_icmpgt 8 122, o_ild (.iload 8) 8, o_goto 4 123] :=
  fG mo_ild (sim_ild dX1_costOf_111) <|
  fG mo_ild (sim_ild_n dX1_costOf_113 rfl) <|
  fG mo_icmpgt (sim_icmpgt dX1_costOf_114 rfl) <|
  fG mo_ild (sim_ild dX1_costOf_117) <|
  fG mo_goto (sim_goto dX1_costOf_119 rfl) <|
  trivial
theorem fX1_costOf_122 {X : tp_X} {az : Array Value} (hG : tp_Good X az) (hSt : tp_Stat X) : tp_Fit X yX1_costOf cX1_costOf (some .int) 10 tp_nm tp_by tp_ml tp_rtt 122 [o_int (.iconst (-1)) (-1), o_fall 123] :=
  fG mo_int (sim_iconst dX1_costOf_122 (by decide)) <|
  fF
theorem fX1_costOf_123 {X : tp_X} {az : Array Value} (hG : tp_Good X az) (hSt : tp_Stat X) : tp_Fit X yX1_costOf cX1_costOf (some .int) 10 tp_nm tp_by tp_ml tp_rtt 123 [o_iret 0] :=
  fE ie_iret (sim_iret dX1_costOf_123 rfl (Or.inl ⟨rfl, rfl⟩))
theorem F_X1_costOf {X : tp_X} {az : Array Value} (hG : tp_Good X az) (hSt : tp_Stat X) (pc : Nat) : tp_Fit X yX1_costOf cX1_costOf (some .int) 10 tp_nm tp_by tp_ml tp_rtt pc (mX1_costOf pc) :=
  fI (fX1_costOf_0 hG hSt) <| fI (fX1_costOf_8 hG hSt) <| fI (fX1_costOf_18 hG hSt) <| fI (fX1_costOf_19 hG hSt) <| fI (fX1_costOf_29 hG hSt) <| fI (fX1_costOf_30 hG hSt) <| fI (fX1_costOf_35 hG hSt) <| fI (fX1_costOf_59 hG hSt) <| fI (fX1_costOf_95 hG hSt) <| fI (fX1_costOf_97 hG hSt) <| fI (fX1_costOf_111 hG hSt) <| fI (fX1_costOf_122 hG hSt) <| fI (fX1_costOf_123 hG hSt) <| trivial
theorem fX1_dx_0 {X : tp_X} {az : Array Value} (hG : tp_Good X az) (hSt : tp_Stat X) : tp_Fit X yX1_dx cX1_dx (some .int) 1 tp_nm tp_by tp_ml tp_rtt 0 [o_ild (.iload_n 0) 0, o_int (.iconst 1) 1, o_icmpne 7 9, o_int (.iconst 1) 1, o_goto 13 19] :=
  fG mo_ild (sim_ild_n dX1_dx_0 rfl) <|
  fG mo_int (sim_iconst dX1_dx_1 (by decide)) <|
  fG mo_icmpne (sim_icmpne dX1_dx_2 rfl) <|
  fG mo_int (sim_iconst dX1_dx_5 (by decide)) <|
  fG mo_goto (sim_goto dX1_dx_6 rfl) <|
  trivial
theorem fX1_dx_9 {X : tp_X} {az : Array Value} (hG : tp_Good X az) (hSt : tp_Stat X) : tp_Fit X yX1_dx cX1_dx (some .int) 1 tp_nm tp_by tp_ml tp_rtt 9 [o_ild (.iload_n 0) 0, o_int (.iconst 3) 3, o_icmpne 7 18, o_int (.iconst (-1)) (-1), o_goto 4 19] :=
  fG mo_ild (sim_ild_n dX1_dx_9 rfl) <|
  fG mo_int (sim_iconst dX1_dx_10 (by decide)) <|
  fG mo_icmpne (sim_icmpne dX1_dx_11 rfl) <|
  fG mo_int (sim_iconst dX1_dx_14 (by decide)) <|
  fG mo_goto (sim_goto dX1_dx_15 rfl) <|
  trivial
theorem fX1_dx_18 {X : tp_X} {az : Array Value} (hG : tp_Good X az) (hSt : tp_Stat X) : tp_Fit X yX1_dx cX1_dx (some .int) 1 tp_nm tp_by tp_ml tp_rtt 18 [o_int (.iconst 0) 0, o_fall 19] :=
  fG mo_int (sim_iconst dX1_dx_18 (by decide)) <|
  fF
theorem fX1_dx_19 {X : tp_X} {az : Array Value} (hG : tp_Good X az) (hSt : tp_Stat X) : tp_Fit X yX1_dx cX1_dx (some .int) 1 tp_nm tp_by tp_ml tp_rtt 19 [o_iret 0] :=
  fE ie_iret (sim_iret dX1_dx_19 rfl (Or.inl ⟨rfl, rfl⟩))
theorem F_X1_dx {X : tp_X} {az : Array Value} (hG : tp_Good X az) (hSt : tp_Stat X) (pc : Nat) : tp_Fit X yX1_dx cX1_dx (some .int) 1 tp_nm tp_by tp_ml tp_rtt pc (mX1_dx pc) :=
  fI (fX1_dx_0 hG hSt) <| fI (fX1_dx_9 hG hSt) <| fI (fX1_dx_18 hG hSt) <| fI (fX1_dx_19 hG hSt) <| trivial
theorem fX1_dy_0 {X : tp_X} {az : Array Value} (hG : tp_Good X az) (hSt : tp_Stat X) : tp_Fit X yX1_dy cX1_dy (some .int) 1 tp_nm tp_by tp_ml tp_rtt 0 [o_ild (.iload_n 0) 0, o_ifne 7 8, o_int (.iconst (-1)) (-1), o_goto 13 18] :=
  fG mo_ild (sim_ild_n dX1_dy_0 rfl) <|
  fG mo_ifne (sim_ifne dX1_dy_1 rfl) <|
  fG mo_int (sim_iconst dX1_dy_4 (by decide)) <|
  fG mo_goto (sim_goto dX1_dy_5 rfl) <|
  trivial
theorem fX1_dy_8 {X : tp_X} {az : Array Value} (hG : tp_Good X az) (hSt : tp_Stat X) : tp_Fit X yX1_dy cX1_dy (some .int) 1 tp_nm tp_by tp_ml tp_rtt 8 [o_ild (.iload_n 0) 0, o_int (.iconst 2) 2, o_icmpne 7 17, o_int (.iconst 1) 1, o_goto 4 18] :=
  fG mo_ild (sim_ild_n dX1_dy_8 rfl) <|
  fG mo_int (sim_iconst dX1_dy_9 (by decide)) <|
  fG mo_icmpne (sim_icmpne dX1_dy_10 rfl) <|
  fG mo_int (sim_iconst dX1_dy_13 (by decide)) <|
  fG mo_goto (sim_goto dX1_dy_14 rfl) <|
  trivial
theorem fX1_dy_17 {X : tp_X} {az : Array Value} (hG : tp_Good X az) (hSt : tp_Stat X) : tp_Fit X yX1_dy cX1_dy (some .int) 1 tp_nm tp_by tp_ml tp_rtt 17 [o_int (.iconst 0) 0, o_fall 18] :=
  fG mo_int (sim_iconst dX1_dy_17 (by decide)) <|
  fF
theorem fX1_dy_18 {X : tp_X} {az : Array Value} (hG : tp_Good X az) (hSt : tp_Stat X) : tp_Fit X yX1_dy cX1_dy (some .int) 1 tp_nm tp_by tp_ml tp_rtt 18 [o_iret 0] :=
  fE ie_iret (sim_iret dX1_dy_18 rfl (Or.inl ⟨rfl, rfl⟩))
theorem F_X1_dy {X : tp_X} {az : Array Value} (hG : tp_Good X az) (hSt : tp_Stat X) (pc : Nat) : tp_Fit X yX1_dy cX1_dy (some .int) 1 tp_nm tp_by tp_ml tp_rtt pc (mX1_dy pc) :=
  fI (fX1_dy_0 hG hSt) <| fI (fX1_dy_8 hG hSt) <| fI (fX1_dy_17 hG hSt) <| fI (fX1_dy_18 hG hSt) <| trivial
theorem fX1_beside_0 {X : tp_X} {az : Array Value} (hG : tp_Good X az) (hSt : tp_Stat X) : tp_Fit X yX1_beside cX1_beside (some .int) 6 tp_nm tp_by tp_ml tp_rtt 0 [o_ild (.iload_n 1) 1, o_ald (.aload_n 0) 0, o_getf (.getfield 81) 1 2, o_irem, o_ild (.iload_n 2) 2, o_iadd, o_ist (.istore 4) 4, o_ild (.iload_n 1) 1, o_ald (.aload_n 0) 0, o_getf (.getfield 81) 1 2, o_idiv, o_ild (.iload_n 3) 3, o_iadd, o_ist (.istore 5) 5, o_ild (.iload 4) 4, o_int (.iconst 0) 0, o_ald (.aload_n 0) 0, o_getf (.getfield 81) 1 2, o_int (.iconst 1) 1, o_isub, o_cs (.invokestatic 94) kX1_in 3 0, o_ifeq 31 63, o_ild (.iload 5) 5, o_int (.iconst 0) 0, o_ald (.aload_n 0) 0, o_getf (.getfield 84) 1 3, o_int (.iconst 1) 1, o_isub, o_cs (.invokestatic 94) kX1_in 3 0, o_ifeq 16 63, o_ild (.iload 4) 4, o_ald (.aload_n 0) 0, o_getf (.getfield 81) 1 2, o_ild (.iload 5) 5, o_imul, o_iadd, o_goto 4 64] :=
  fG mo_ild (sim_ild_n dX1_beside_0 rfl) <|
  fG mo_ald (sim_ald_n dX1_beside_1 rfl) <|
  fG mo_getf (sim_getfG hG dX1_beside_2 hc_1 (by decide) rfl in_X1 (fun _ _ _ h => h) (Or.inl q258)) <|
  fG mo_irem (sim_irem dX1_beside_5) <|
  fG mo_ild (sim_ild_n dX1_beside_6 rfl) <|
  fG mo_iadd (sim_iadd dX1_beside_7) <|
  fG mo_ist (sim_ist dX1_beside_8) <|
  fG mo_ild (sim_ild_n dX1_beside_10 rfl) <|
  fG mo_ald (sim_ald_n dX1_beside_11 rfl) <|
  fG mo_getf (sim_getfG hG dX1_beside_12 hc_1 (by decide) rfl in_X1 (fun _ _ _ h => h) (Or.inl q258)) <|
  fG mo_idiv (sim_idiv dX1_beside_15) <|
  fG mo_ild (sim_ild_n dX1_beside_16 rfl) <|
  fG mo_iadd (sim_iadd dX1_beside_17) <|
  fG mo_ist (sim_ist dX1_beside_18) <|
  fG mo_ild (sim_ild dX1_beside_20) <|
  fG mo_int (sim_iconst dX1_beside_22 (by decide)) <|
  fG mo_ald (sim_ald_n dX1_beside_23 rfl) <|
  fG mo_getf (sim_getfG hG dX1_beside_24 hc_1 (by decide) rfl in_X1 (fun _ _ _ h => h) (Or.inl q258)) <|
  fG mo_int (sim_iconst dX1_beside_27 (by decide)) <|
  fG mo_isub (sim_isub dX1_beside_28) <|
  fC (ic_cs (Or.inl rfl)) (sim_cs hG dX1_beside_29 M_X1_in (by rw [nm_X1_in]; rfl) (by rw [nm_X1_in]; exact q335) (by rw [nm_X1_in]; exact q336)) <|
  fG mo_ifeq (sim_ifeq dX1_beside_32 rfl) <|
  fG mo_ild (sim_ild dX1_beside_35) <|
  fG mo_int (sim_iconst dX1_beside_37 (by decide)) <|
  fG mo_ald (sim_ald_n dX1_beside_38 rfl) <|
  fG mo_getf (sim_getfG hG dX1_beside_39 hc_1 (by decide) rfl in_X1 (fun _ _ _ h => h) (Or.inl q259)) <|
  fG mo_int (sim_iconst dX1_beside_42 (by decide)) <|
  fG mo_isub (sim_isub dX1_beside_43) <|
  fC (ic_cs (Or.inl rfl)) (sim_cs hG dX1_beside_44 M_X1_in (by rw [nm_X1_in]; rfl) (by rw [nm_X1_in]; exact q335) (by rw [nm_X1_in]; exact q336)) <|
  fG mo_ifeq (sim_ifeq dX1_beside_47 rfl) <|
  fG mo_ild (sim_ild dX1_beside_50) <|
  fG mo_ald (sim_ald_n dX1_beside_52 rfl) <|
  fG mo_getf (sim_getfG hG dX1_beside_53 hc_1 (by decide) rfl in_X1 (fun _ _ _ h => h) (Or.inl q258)) <|
  fG mo_ild (sim_ild dX1_beside_56) <|
  fG mo_imul (sim_imul dX1_beside_58) <|
  fG mo_iadd (sim_iadd dX1_beside_59) <|
  fG mo_goto (sim_goto dX1_beside_60 rfl) <|
  trivial
theorem fX1_beside_63 {X : tp_X} {az : Array Value} (hG : tp_Good X az) (hSt : tp_Stat X) : tp_Fit X yX1_beside cX1_beside (some .int) 6 tp_nm tp_by tp_ml tp_rtt 63 [o_int (.iconst (-1)) (-1), o_fall 64] :=
  fG mo_int (sim_iconst dX1_beside_63 (by decide)) <|
  fF
theorem fX1_beside_64 {X : tp_X} {az : Array Value} (hG : tp_Good X az) (hSt : tp_Stat X) : tp_Fit X yX1_beside cX1_beside (some .int) 6 tp_nm tp_by tp_ml tp_rtt 64 [o_iret 0] :=
  fE ie_iret (sim_iret dX1_beside_64 rfl (Or.inl ⟨rfl, rfl⟩))
theorem F_X1_beside {X : tp_X} {az : Array Value} (hG : tp_Good X az) (hSt : tp_Stat X) (pc : Nat) : tp_Fit X yX1_beside cX1_beside (some .int) 6 tp_nm tp_by tp_ml tp_rtt pc (mX1_beside pc) :=
  fI (fX1_beside_0 hG hSt) <| fI (fX1_beside_63 hG hSt) <| fI (fX1_beside_64 hG hSt) <| trivial
theorem fX1_may_0 {X : tp_X} {az : Array Value} (hG : tp_Good X az) (hSt : tp_Stat X) : tp_Fit X yX1_may cX1_may (some .boolean) 6 tp_nm tp_by tp_ml tp_rtt 0 [o_ald (.aload_n 0) 0, o_cv (.invokevirtual 176) 1 kX1_rules 0 0, o_ast (.astore 5) 5, o_ald (.aload 5) 5, o_ifnull 14 22, o_ald (.aload 5) 5, o_getf (.getfield 179) 5 0, o_cv (.invokevirtual 185) 15 kJ4_isEmpty 0 0, o_ifeq 17 36, o_fall 22] :=
  fG mo_ald (sim_ald_n dX1_may_0 rfl) <|
  fC (ic_cv (Or.inl rfl)) (sim_cv hG dX1_may_1 (hG.2.1 1 _ hc_1).2.1 M_X1_rules (by rw [nm_X1_rules]; rfl) (by rw [nm_X1_rules]; exact q914) (by rw [nm_X1_rules]; exact q916) (by rw [nm_X1_rules]; exact qs23)) <|
  fG mo_ast (sim_ast dX1_may_4) <|
  fG mo_ald (sim_ald dX1_may_6) <|
  fG mo_ifnull (sim_ifnull dX1_may_8 rfl) <|
  fG mo_ald (sim_ald dX1_may_11) <|
  fG mo_getf (sim_getfG hG dX1_may_13 hc_5 (by decide) rfl in_X5 (fun _ _ _ h => h) (Or.inr ⟨_, q460⟩)) <|
  fC (ic_cv (Or.inl rfl)) (sim_cv hG dX1_may_16 (hG.2.1 15 _ hc_15).2.1 M_J4_isEmpty (by rw [nm_J4_isEmpty]; rfl) (by rw [nm_J4_isEmpty]; exact q918) (by rw [nm_J4_isEmpty]; exact q814) (by rw [nm_J4_isEmpty]; exact q815)) <|
  fG mo_ifeq (sim_ifeq dX1_may_19 rfl) <|
  fF
theorem fX1_may_22 {X : tp_X} {az : Array Value} (hG : tp_Good X az) (hSt : tp_Stat X) : tp_Fit X yX1_may cX1_may (some .boolean) 6 tp_nm tp_by tp_ml tp_rtt 22 [o_ald (.aload_n 1) 1, o_ild (.iload_n 2) 2, o_lda .iaload [0, 20], o_int (.bipush 30) 30, o_icmpgt 7 34, o_int (.iconst 1) 1, o_goto 4 35] :=
  fG mo_ald (sim_ald_n dX1_may_22 rfl) <|
  fG mo_ild (sim_ild_n dX1_may_23 rfl) <|
  fG mo_lda (sim_iald dX1_may_24) <|
  fG mo_int (sim_bipush dX1_may_25 (by decide)) <|
  fG mo_icmpgt (sim_icmpgt dX1_may_27 rfl) <|
  fG mo_int (sim_iconst dX1_may_30 (by decide)) <|
  fG mo_goto (sim_goto dX1_may_31 rfl) <|
  trivial
theorem fX1_may_34 {X : tp_X} {az : Array Value} (hG : tp_Good X az) (hSt : tp_Stat X) : tp_Fit X yX1_may cX1_may (some .boolean) 6 tp_nm tp_by tp_ml tp_rtt 34 [o_int (.iconst 0) 0, o_fall 35] :=
  fG mo_int (sim_iconst dX1_may_34 (by decide)) <|
  fF
theorem fX1_may_35 {X : tp_X} {az : Array Value} (hG : tp_Good X az) (hSt : tp_Stat X) : tp_Fit X yX1_may cX1_may (some .boolean) 6 tp_nm tp_by tp_ml tp_rtt 35 [o_iret 1] :=
  fE ie_iret (sim_iret dX1_may_35 rfl (Or.inr (Or.inl ⟨rfl, rfl⟩)))
theorem fX1_may_36 {X : tp_X} {az : Array Value} (hG : tp_Good X az) (hSt : tp_Stat X) : tp_Fit X yX1_may cX1_may (some .boolean) 6 tp_nm tp_by tp_ml tp_rtt 36 [o_ald (.aload_n 0) 0, o_ald (.aload_n 1) 1, o_ild (.iload_n 2) 2, o_ild (.iload_n 3) 3, o_ild (.iload 4) 4, o_cv (.invokevirtual 191) 1 kX1_names 4 0, o_ald (.aload 5) 5, o_getf (.getfield 179) 5 0, o_ald (.aload_n 0) 0, o_getf (.getfield 30) 1 9, o_cs (.invokestatic 194) kX5_some 2 0, o_iret 1] :=
  fG mo_ald (sim_ald_n dX1_may_36 rfl) <|
  fG mo_ald (sim_ald_n dX1_may_37 rfl) <|
  fG mo_ild (sim_ild_n dX1_may_38 rfl) <|
  fG mo_ild (sim_ild_n dX1_may_39 rfl) <|
  fG mo_ild (sim_ild dX1_may_40) <|
  fC (ic_cv (Or.inl rfl)) (sim_cv hG dX1_may_42 (hG.2.1 1 _ hc_1).2.1 M_X1_names (by rw [nm_X1_names]; rfl) (by rw [nm_X1_names]; exact q919) (by rw [nm_X1_names]; exact q921) (by rw [nm_X1_names]; exact qs24)) <|
  fG mo_ald (sim_ald dX1_may_45) <|
  fG mo_getf (sim_getfG hG dX1_may_47 hc_5 (by decide) rfl in_X5 (fun _ _ _ h => h) (Or.inr ⟨_, q460⟩)) <|
  fG mo_ald (sim_ald_n dX1_may_50 rfl) <|
  fG mo_getf (sim_getfG hG dX1_may_51 hc_1 (by decide) rfl in_X1 (fun _ _ _ h => h) (Or.inl q265)) <|
  fC (ic_cs (Or.inl rfl)) (sim_cs hG dX1_may_54 M_X5_some (by rw [nm_X5_some]; rfl) (by rw [nm_X5_some]; exact q923) (by rw [nm_X5_some]; exact q924)) <|
  fE ie_iret (sim_iret dX1_may_57 rfl (Or.inr (Or.inl ⟨rfl, rfl⟩)))
theorem F_X1_may {X : tp_X} {az : Array Value} (hG : tp_Good X az) (hSt : tp_Stat X) (pc : Nat) : tp_Fit X yX1_may cX1_may (some .boolean) 6 tp_nm tp_by tp_ml tp_rtt pc (mX1_may pc) :=
  fI (fX1_may_0 hG hSt) <| fI (fX1_may_22 hG hSt) <| fI (fX1_may_34 hG hSt) <| fI (fX1_may_35 hG hSt) <| fI (fX1_may_36 hG hSt) <| trivial
theorem fX1_rules_0 {X : tp_X} {az : Array Value} (hG : tp_Good X az) (hSt : tp_Stat X) : tp_Fit X yX1_rules cX1_rules (some (.object "ThroughPack$Text")) 1 tp_nm tp_by tp_ml tp_rtt 0 [o_ald (.aload_n 0) 0, o_getf (.getfield 12) 1 0, o_getf (.getfield 112) 2 0, o_int (.iconst 3) 3, o_lda .iaload [0, 20], o_int (.iconst (-1)) (-1), o_icmpne 7 17, o_null, o_goto 20 34] :=
  fG mo_ald (sim_ald_n dX1_rules_0 rfl) <|
  fG mo_getf (sim_getfG hG dX1_rules_1 hc_1 (by decide) rfl in_X1 (fun _ _ _ h => h) (Or.inl q256)) <|
  fG mo_getf (sim_getfG hG dX1_rules_4 hc_2 (by decide) rfl in_X2 (fun _ _ _ h => h) (Or.inr ⟨_, q179⟩)) <|
  fG mo_int (sim_iconst dX1_rules_7 (by decide)) <|
  fG mo_lda (sim_iald dX1_rules_8) <|
  fG mo_int (sim_iconst dX1_rules_9 (by decide)) <|
  fG mo_icmpne (sim_icmpne dX1_rules_10 rfl) <|
  fG mo_null (sim_null dX1_rules_13) <|
  fG mo_goto (sim_goto dX1_rules_14 rfl) <|
  trivial
theorem fX1_rules_17 {X : tp_X} {az : Array Value} (hG : tp_Good X az) (hSt : tp_Stat X) : tp_Fit X yX1_rules cX1_rules (some (.object "ThroughPack$Text")) 1 tp_nm tp_by tp_ml tp_rtt 17 [o_ald (.aload_n 0) 0, o_getf (.getfield 12) 1 0, o_getf (.getfield 143) 2 12, o_ald (.aload_n 0) 0, o_getf (.getfield 12) 1 0, o_getf (.getfield 112) 2 0, o_int (.iconst 3) 3, o_lda .iaload [0, 20], o_lda .aaload [4, 5, 6, 7, 28, 29], o_fall 34] :=
  fG mo_ald (sim_ald_n dX1_rules_17 rfl) <|
  fG mo_getf (sim_getfG hG dX1_rules_18 hc_1 (by decide) rfl in_X1 (fun _ _ _ h => h) (Or.inl q256)) <|
  fG mo_getf (sim_getfG hG dX1_rules_21 hc_2 (by decide) rfl in_X2 (fun _ _ _ h => h) (Or.inr ⟨_, q203⟩)) <|
  fG mo_ald (sim_ald_n dX1_rules_24 rfl) <|
  fG mo_getf (sim_getfG hG dX1_rules_25 hc_1 (by decide) rfl in_X1 (fun _ _ _ h => h) (Or.inl q256)) <|
  fG mo_getf (sim_getfG hG dX1_rules_28 hc_2 (by decide) rfl in_X2 (fun _ _ _ h => h) (Or.inr ⟨_, q179⟩)) <|
  fG mo_int (sim_iconst dX1_rules_31 (by decide)) <|
  fG mo_lda (sim_iald dX1_rules_32) <|
  fG mo_lda (sim_aald dX1_rules_33) <|
  fF
theorem fX1_rules_34 {X : tp_X} {az : Array Value} (hG : tp_Good X az) (hSt : tp_Stat X) : tp_Fit X yX1_rules cX1_rules (some (.object "ThroughPack$Text")) 1 tp_nm tp_by tp_ml tp_rtt 34 [o_aret] :=
  fE ie_aret (sim_aret dX1_rules_34 rfl (Or.inl ⟨_, rfl⟩))
theorem F_X1_rules {X : tp_X} {az : Array Value} (hG : tp_Good X az) (hSt : tp_Stat X) (pc : Nat) : tp_Fit X yX1_rules cX1_rules (some (.object "ThroughPack$Text")) 1 tp_nm tp_by tp_ml tp_rtt pc (mX1_rules pc) :=
  fI (fX1_rules_0 hG hSt) <| fI (fX1_rules_17 hG hSt) <| fI (fX1_rules_34 hG hSt) <| trivial
theorem fX1_names_0 {X : tp_X} {az : Array Value} (hG : tp_Good X az) (hSt : tp_Stat X) : tp_Fit X yX1_names cX1_names none 7 tp_nm tp_by tp_ml tp_rtt 0 [o_ald (.aload_n 0) 0, o_getf (.getfield 30) 1 9, o_int (.iconst 0) 0, o_ald (.aload_n 1) 1, o_ild (.iload_n 2) 2, o_lda .iaload [0, 20], o_sta .iastore [0], o_int (.iconst 0) 0, o_ist (.istore 5) 5, o_fall 12] :=
  fG mo_ald (sim_ald_n dX1_names_0 rfl) <|
  fG mo_getf (sim_getfG hG dX1_names_1 hc_1 (by decide) rfl in_X1 (fun _ _ _ h => h) (Or.inl q265)) <|
  fG mo_int (sim_iconst dX1_names_4 (by decide)) <|
  fG mo_ald (sim_ald_n dX1_names_5 rfl) <|
  fG mo_ild (sim_ild_n dX1_names_6 rfl) <|
  fG mo_lda (sim_iald dX1_names_7) <|
  fG mo_sta (sim_iast dX1_names_8) <|
  fG mo_int (sim_iconst dX1_names_9 (by decide)) <|
  fG mo_ist (sim_ist dX1_names_10) <|
  fF
theorem fX1_names_12 {X : tp_X} {az : Array Value} (hG : tp_Good X az) (hSt : tp_Stat X) : tp_Fit X yX1_names cX1_names none 7 tp_nm tp_by tp_ml tp_rtt 12 [o_ild (.iload 5) 5, o_int (.iconst 4) 4, o_icmpge 58 73, o_ald (.aload_n 0) 0, o_ild (.iload_n 2) 2, o_ild (.iload 5) 5, o_cs (.invokestatic 169) kX1_dx 1 0, o_ild (.iload 5) 5, o_cs (.invokestatic 173) kX1_dy 1 0, o_cv (.invokevirtual 165) 1 kX1_beside 3 0, o_ist (.istore 6) 6, o_ald (.aload_n 0) 0, o_getf (.getfield 30) 1 9, o_int (.iconst 1) 1, o_ild (.iload 5) 5, o_iadd, o_ild (.iload 6) 6, o_int (.iconst (-1)) (-1), o_icmpne 16 62, o_ald (.aload_n 0) 0, o_getf (.getfield 12) 1 0, o_getf (.getfield 112) 2 0, o_int (.bipush 8) 8, o_lda .iaload [0, 20], o_goto 7 66] :=
  fG mo_ild (sim_ild dX1_names_12) <|
  fG mo_int (sim_iconst dX1_names_14 (by decide)) <|
  fG mo_icmpge (sim_icmpge dX1_names_15 rfl) <|
  fG mo_ald (sim_ald_n dX1_names_18 rfl) <|
  fG mo_ild (sim_ild_n dX1_names_19 rfl) <|
  fG mo_ild (sim_ild dX1_names_20) <|
  fC (ic_cs (Or.inl rfl)) (sim_cs hG dX1_names_22 M_X1_dx (by rw [nm_X1_dx]; rfl) (by rw [nm_X1_dx]; exact q900) (by rw [nm_X1_dx]; exact q901)) <|
  fG mo_ild (sim_ild dX1_names_25) <|
  fC (ic_cs (Or.inl rfl)) (sim_cs hG dX1_names_27 M_X1_dy (by rw [nm_X1_dy]; rfl) (by rw [nm_X1_dy]; exact q903) (by rw [nm_X1_dy]; exact q904)) <|
  fC (ic_cv (Or.inl rfl)) (sim_cv hG dX1_names_30 (hG.2.1 1 _ hc_1).2.1 M_X1_beside (by rw [nm_X1_beside]; rfl) (by rw [nm_X1_beside]; exact q906) (by rw [nm_X1_beside]; exact q908) (by rw [nm_X1_beside]; exact qs21)) <|
  fG mo_ist (sim_ist dX1_names_33) <|
  fG mo_ald (sim_ald_n dX1_names_35 rfl) <|
  fG mo_getf (sim_getfG hG dX1_names_36 hc_1 (by decide) rfl in_X1 (fun _ _ _ h => h) (Or.inl q265)) <|
  fG mo_int (sim_iconst dX1_names_39 (by decide)) <|
  fG mo_ild (sim_ild dX1_names_40) <|
  fG mo_iadd (sim_iadd dX1_names_42) <|
  fG mo_ild (sim_ild dX1_names_43) <|
  fG mo_int (sim_iconst dX1_names_45 (by decide)) <|
  fG mo_icmpne (sim_icmpne dX1_names_46 rfl) <|
  fG mo_ald (sim_ald_n dX1_names_49 rfl) <|
  fG mo_getf (sim_getfG hG dX1_names_50 hc_1 (by decide) rfl in_X1 (fun _ _ _ h => h) (Or.inl q256)) <|
  fG mo_getf (sim_getfG hG dX1_names_53 hc_2 (by decide) rfl in_X2 (fun _ _ _ h => h) (Or.inr ⟨_, q179⟩)) <|
  fG mo_int (sim_bipush dX1_names_56 (by decide)) <|
  fG mo_lda (sim_iald dX1_names_58) <|
  fG mo_goto (sim_goto dX1_names_59 rfl) <|
  trivial
theorem fX1_names_62 {X : tp_X} {az : Array Value} (hG : tp_Good X az) (hSt : tp_Stat X) : tp_Fit X yX1_names cX1_names none 7 tp_nm tp_by tp_ml tp_rtt 62 [o_ald (.aload_n 1) 1, o_ild (.iload 6) 6, o_lda .iaload [0, 20], o_fall 66] :=
  fG mo_ald (sim_ald_n dX1_names_62 rfl) <|
  fG mo_ild (sim_ild dX1_names_63) <|
  fG mo_lda (sim_iald dX1_names_65) <|
  fF
theorem fX1_names_66 {X : tp_X} {az : Array Value} (hG : tp_Good X az) (hSt : tp_Stat X) : tp_Fit X yX1_names cX1_names none 7 tp_nm tp_by tp_ml tp_rtt 66 [o_sta .iastore [0], o_inc 5 1, o_goto (-58) 12] :=
  fG mo_sta (sim_iast dX1_names_66) <|
  fG mo_inc (sim_inc dX1_names_67 (by decide)) <|
  fG mo_goto (sim_goto dX1_names_70 rfl) <|
  trivial
theorem fX1_names_73 {X : tp_X} {az : Array Value} (hG : tp_Good X az) (hSt : tp_Stat X) : tp_Fit X yX1_names cX1_names none 7 tp_nm tp_by tp_ml tp_rtt 73 [o_ald (.aload_n 0) 0, o_getf (.getfield 30) 1 9, o_int (.iconst 5) 5, o_ild (.iload_n 2) 2, o_ald (.aload_n 0) 0, o_getf (.getfield 81) 1 2, o_irem, o_sta .iastore [0], o_ald (.aload_n 0) 0, o_getf (.getfield 30) 1 9, o_int (.bipush 6) 6, o_ild (.iload_n 2) 2, o_ald (.aload_n 0) 0, o_getf (.getfield 81) 1 2, o_idiv, o_sta .iastore [0], o_ald (.aload_n 0) 0, o_getf (.getfield 30) 1 9, o_int (.bipush 7) 7, o_ild (.iload_n 3) 3, o_sta .iastore [0], o_ald (.aload_n 0) 0, o_getf (.getfield 30) 1 9, o_int (.bipush 8) 8, o_ild (.iload 4) 4, o_sta .iastore [0], o_vret] :=
  fG mo_ald (sim_ald_n dX1_names_73 rfl) <|
  fG mo_getf (sim_getfG hG dX1_names_74 hc_1 (by decide) rfl in_X1 (fun _ _ _ h => h) (Or.inl q265)) <|
  fG mo_int (sim_iconst dX1_names_77 (by decide)) <|
  fG mo_ild (sim_ild_n dX1_names_78 rfl) <|
  fG mo_ald (sim_ald_n dX1_names_79 rfl) <|
  fG mo_getf (sim_getfG hG dX1_names_80 hc_1 (by decide) rfl in_X1 (fun _ _ _ h => h) (Or.inl q258)) <|
  fG mo_irem (sim_irem dX1_names_83) <|
  fG mo_sta (sim_iast dX1_names_84) <|
  fG mo_ald (sim_ald_n dX1_names_85 rfl) <|
  fG mo_getf (sim_getfG hG dX1_names_86 hc_1 (by decide) rfl in_X1 (fun _ _ _ h => h) (Or.inl q265)) <|
  fG mo_int (sim_bipush dX1_names_89 (by decide)) <|
  fG mo_ild (sim_ild_n dX1_names_91 rfl) <|
  fG mo_ald (sim_ald_n dX1_names_92 rfl) <|
  fG mo_getf (sim_getfG hG dX1_names_93 hc_1 (by decide) rfl in_X1 (fun _ _ _ h => h) (Or.inl q258)) <|
  fG mo_idiv (sim_idiv dX1_names_96) <|
  fG mo_sta (sim_iast dX1_names_97) <|
  fG mo_ald (sim_ald_n dX1_names_98 rfl) <|
  fG mo_getf (sim_getfG hG dX1_names_99 hc_1 (by decide) rfl in_X1 (fun _ _ _ h => h) (Or.inl q265)) <|
  fG mo_int (sim_bipush dX1_names_102 (by decide)) <|
  fG mo_ild (sim_ild_n dX1_names_104 rfl) <|
  fG mo_sta (sim_iast dX1_names_105) <|
  fG mo_ald (sim_ald_n dX1_names_106 rfl) <|
  fG mo_getf (sim_getfG hG dX1_names_107 hc_1 (by decide) rfl in_X1 (fun _ _ _ h => h) (Or.inl q265)) <|
  fG mo_int (sim_bipush dX1_names_110 (by decide)) <|
  fG mo_ild (sim_ild dX1_names_112) <|
  fG mo_sta (sim_iast dX1_names_114) <|
  fE ie_vret (sim_vret dX1_names_115 rfl)
theorem F_X1_names {X : tp_X} {az : Array Value} (hG : tp_Good X az) (hSt : tp_Stat X) (pc : Nat) : tp_Fit X yX1_names cX1_names none 7 tp_nm tp_by tp_ml tp_rtt pc (mX1_names pc) :=
  fI (fX1_names_0 hG hSt) <| fI (fX1_names_12 hG hSt) <| fI (fX1_names_62 hG hSt) <| fI (fX1_names_66 hG hSt) <| fI (fX1_names_73 hG hSt) <| trivial
theorem fX1_costOf_2_0 {X : tp_X} {az : Array Value} (hG : tp_Good X az) (hSt : tp_Stat X) : tp_Fit X yX1_costOf_2 cX1_costOf_2 (some .int) 6 tp_nm tp_by tp_ml tp_rtt 0 [o_ald (.aload_n 0) 0, o_cv (.invokevirtual 176) 1 kX1_rules 0 0, o_ast (.astore 5) 5, o_ald (.aload 5) 5, o_ifnull 11 19, o_ald (.aload 5) 5, o_getf (.getfield 198) 5 4, o_ifnon 12 28, o_fall 19] :=
  fG mo_ald (sim_ald_n dX1_costOf_2_0 rfl) <|
  fC (ic_cv (Or.inl rfl)) (sim_cv hG dX1_costOf_2_1 (hG.2.1 1 _ hc_1).2.1 M_X1_rules (by rw [nm_X1_rules]; rfl) (by rw [nm_X1_rules]; exact q914) (by rw [nm_X1_rules]; exact q916) (by rw [nm_X1_rules]; exact qs23)) <|
  fG mo_ast (sim_ast dX1_costOf_2_4) <|
  fG mo_ald (sim_ald dX1_costOf_2_6) <|
  fG mo_ifnull (sim_ifnull dX1_costOf_2_8 rfl) <|
  fG mo_ald (sim_ald dX1_costOf_2_11) <|
  fG mo_getf (sim_getfG hG dX1_costOf_2_13 hc_5 (by decide) rfl in_X5 (fun _ _ _ h => h) (Or.inr ⟨_, q471⟩)) <|
  fG mo_ifnon (sim_ifnon dX1_costOf_2_16 rfl) <|
  fF
theorem fX1_costOf_2_19 {X : tp_X} {az : Array Value} (hG : tp_Good X az) (hSt : tp_Stat X) : tp_Fit X yX1_costOf_2 cX1_costOf_2 (some .int) 6 tp_nm tp_by tp_ml tp_rtt 19 [o_int (.iconst 1) 1, o_ald (.aload_n 1) 1, o_ild (.iload_n 2) 2, o_lda .iaload [0, 20], o_int (.bipush 10) 10, o_idiv, o_iadd, o_iret 0] :=
  fG mo_int (sim_iconst dX1_costOf_2_19 (by decide)) <|
  fG mo_ald (sim_ald_n dX1_costOf_2_20 rfl) <|
  fG mo_ild (sim_ild_n dX1_costOf_2_21 rfl) <|
  fG mo_lda (sim_iald dX1_costOf_2_22) <|
  fG mo_int (sim_bipush dX1_costOf_2_23 (by decide)) <|
  fG mo_idiv (sim_idiv dX1_costOf_2_25) <|
  fG mo_iadd (sim_iadd dX1_costOf_2_26) <|
  fE ie_iret (sim_iret dX1_costOf_2_27 rfl (Or.inl ⟨rfl, rfl⟩))
theorem fX1_costOf_2_28 {X : tp_X} {az : Array Value} (hG : tp_Good X az) (hSt : tp_Stat X) : tp_Fit X yX1_costOf_2 cX1_costOf_2 (some .int) 6 tp_nm tp_by tp_ml tp_rtt 28 [o_ald (.aload_n 0) 0, o_ald (.aload_n 1) 1, o_ild (.iload_n 2) 2, o_ild (.iload_n 3) 3, o_ild (.iload 4) 4, o_cv (.invokevirtual 191) 1 kX1_names 4 0, o_lng (.lconst 0) 0, o_lng (.ldc2_w 201) 99, o_ald (.aload 5) 5, o_getf (.getfield 198) 5 4, o_ald (.aload_n 0) 0, o_getf (.getfield 30) 1 9, o_ci (.invokeinterface 203 2) [(8, kX8_of), (9, kX9_of), (10, kX10_of), (11, kX11_of)] 1 0, o_lmin (.invokestatic 209), o_lmax (.invokestatic 212), o_l2i, o_iret 0] :=
  fG mo_ald (sim_ald_n dX1_costOf_2_28 rfl) <|
  fG mo_ald (sim_ald_n dX1_costOf_2_29 rfl) <|
  fG mo_ild (sim_ild_n dX1_costOf_2_30 rfl) <|
  fG mo_ild (sim_ild_n dX1_costOf_2_31 rfl) <|
  fG mo_ild (sim_ild dX1_costOf_2_32) <|
  fC (ic_cv (Or.inl rfl)) (sim_cv hG dX1_costOf_2_34 (hG.2.1 1 _ hc_1).2.1 M_X1_names (by rw [nm_X1_names]; rfl) (by rw [nm_X1_names]; exact q919) (by rw [nm_X1_names]; exact q921) (by rw [nm_X1_names]; exact qs24)) <|
  fG mo_lng (sim_lconst0 dX1_costOf_2_37) <|
  fG mo_lng (sim_ldc2 hG dX1_costOf_2_38 q1010 rfl) <|
  fG mo_ald (sim_ald dX1_costOf_2_41) <|
  fG mo_getf (sim_getfG hG dX1_costOf_2_43 hc_5 (by decide) rfl in_X5 (fun _ _ _ h => h) (Or.inr ⟨_, q471⟩)) <|
  fG mo_ald (sim_ald_n dX1_costOf_2_46 rfl) <|
  fG mo_getf (sim_getfG hG dX1_costOf_2_47 hc_1 (by decide) rfl in_X1 (fun _ _ _ h => h) (Or.inl q265)) <|
  fC (ic_ci (Or.inl rfl)) (sim_ci hG dX1_costOf_2_50 q1012 q953 q952 (by decide +kernel) (fun q hq => by
    simp only [List.mem_cons, List.not_mem_nil, or_false] at hq
    rcases hq with rfl | rfl | rfl | rfl
    · exact ⟨_, _, _, hc_8, M_X8_of, by rw [nm_X8_of]; rfl, by rw [nm_X8_of]; exact q955, by rw [nm_X8_of]; exact q957, by rw [nm_X8_of]; exact q958, q956, q954, by rw [nm_X8_of]; rfl⟩
    · exact ⟨_, _, _, hc_9, M_X9_of, by rw [nm_X9_of]; rfl, by rw [nm_X9_of]; exact q977, by rw [nm_X9_of]; exact q979, by rw [nm_X9_of]; exact q980, q978, q976, by rw [nm_X9_of]; rfl⟩
    · exact ⟨_, _, _, hc_10, M_X10_of, by rw [nm_X10_of]; rfl, by rw [nm_X10_of]; exact q971, by rw [nm_X10_of]; exact q973, by rw [nm_X10_of]; exact q974, q972, q970, by rw [nm_X10_of]; rfl⟩
    · exact ⟨_, _, _, hc_11, M_X11_of, by rw [nm_X11_of]; rfl, by rw [nm_X11_of]; exact q963, by rw [nm_X11_of]; exact q965, by rw [nm_X11_of]; exact q966, q964, q962, by rw [nm_X11_of]; rfl⟩
    )) <|
  fG mo_lmin (sim_lmin hG dX1_costOf_2_55 q1013 q993 q128 q994) <|
  fG mo_lmax (sim_lmax hG dX1_costOf_2_58 q1014 q996 q128 q997) <|
  fG mo_l2i (sim_l2i dX1_costOf_2_61) <|
  fE ie_iret (sim_iret dX1_costOf_2_62 rfl (Or.inl ⟨rfl, rfl⟩))
theorem F_X1_costOf_2 {X : tp_X} {az : Array Value} (hG : tp_Good X az) (hSt : tp_Stat X) (pc : Nat) : tp_Fit X yX1_costOf_2 cX1_costOf_2 (some .int) 6 tp_nm tp_by tp_ml tp_rtt pc (mX1_costOf_2 pc) :=
  fI (fX1_costOf_2_0 hG hSt) <| fI (fX1_costOf_2_19 hG hSt) <| fI (fX1_costOf_2_28 hG hSt) <| trivial
theorem fX1_watch_0 {X : tp_X} {az : Array Value} (hG : tp_Good X az) (hSt : tp_Stat X) : tp_Fit X yX1_watch cX1_watch (some .int) 12 tp_nm tp_by tp_ml tp_rtt 0 [o_ild (.iload_n 1) 1, o_cs (.invokestatic 115) kX1_isWind 1 0, o_ifeq 37 41, o_ild (.iload_n 2) 2, o_int (.iconst (-1)) (-1), o_int (.bipush 7) 7, o_cs (.invokestatic 94) kX1_in 3 0, o_ifeq 27 41, o_ild (.iload_n 3) 3, o_int (.iconst (-1)) (-1), o_int (.bipush 7) 7, o_cs (.invokestatic 94) kX1_in 3 0, o_ifeq 17 41, o_ald (.aload_n 0) 0, o_getf (.getfield 12) 1 0, o_getf (.getfield 112) 2 0, o_int (.iconst 0) 0, o_lda .iaload [0, 20], o_int (.bipush 99) 99, o_icmpne 5 43, o_fall 41] :=
  fG mo_ild (sim_ild_n dX1_watch_0 rfl) <|
  fC (ic_cs (Or.inl rfl)) (sim_cs hG dX1_watch_1 M_X1_isWind (by rw [nm_X1_isWind]; rfl) (by rw [nm_X1_isWind]; exact q354) (by rw [nm_X1_isWind]; exact q355)) <|
  fG mo_ifeq (sim_ifeq dX1_watch_4 rfl) <|
  fG mo_ild (sim_ild_n dX1_watch_7 rfl) <|
  fG mo_int (sim_iconst dX1_watch_8 (by decide)) <|
  fG mo_int (sim_bipush dX1_watch_9 (by decide)) <|
  fC (ic_cs (Or.inl rfl)) (sim_cs hG dX1_watch_11 M_X1_in (by rw [nm_X1_in]; rfl) (by rw [nm_X1_in]; exact q335) (by rw [nm_X1_in]; exact q336)) <|
  fG mo_ifeq (sim_ifeq dX1_watch_14 rfl) <|
  fG mo_ild (sim_ild_n dX1_watch_17 rfl) <|
  fG mo_int (sim_iconst dX1_watch_18 (by decide)) <|
  fG mo_int (sim_bipush dX1_watch_19 (by decide)) <|
  fC (ic_cs (Or.inl rfl)) (sim_cs hG dX1_watch_21 M_X1_in (by rw [nm_X1_in]; rfl) (by rw [nm_X1_in]; exact q335) (by rw [nm_X1_in]; exact q336)) <|
  fG mo_ifeq (sim_ifeq dX1_watch_24 rfl) <|
  fG mo_ald (sim_ald_n dX1_watch_27 rfl) <|
  fG mo_getf (sim_getfG hG dX1_watch_28 hc_1 (by decide) rfl in_X1 (fun _ _ _ h => h) (Or.inl q256)) <|
  fG mo_getf (sim_getfG hG dX1_watch_31 hc_2 (by decide) rfl in_X2 (fun _ _ _ h => h) (Or.inr ⟨_, q179⟩)) <|
  fG mo_int (sim_iconst dX1_watch_34 (by decide)) <|
  fG mo_lda (sim_iald dX1_watch_35) <|
  fG mo_int (sim_bipush dX1_watch_36 (by decide)) <|
  fG mo_icmpne (sim_icmpne dX1_watch_38 rfl) <|
  fF
theorem fX1_watch_41 {X : tp_X} {az : Array Value} (hG : tp_Good X az) (hSt : tp_Stat X) : tp_Fit X yX1_watch cX1_watch (some .int) 12 tp_nm tp_by tp_ml tp_rtt 41 [o_int (.iconst (-1)) (-1), o_iret 0] :=
  fG mo_int (sim_iconst dX1_watch_41 (by decide)) <|
  fE ie_iret (sim_iret dX1_watch_42 rfl (Or.inl ⟨rfl, rfl⟩))
theorem fX1_watch_43 {X : tp_X} {az : Array Value} (hG : tp_Good X az) (hSt : tp_Stat X) : tp_Fit X yX1_watch cX1_watch (some .int) 12 tp_nm tp_by tp_ml tp_rtt 43 [o_ald (.aload_n 0) 0, o_getf (.getfield 12) 1 0, o_getf (.getfield 130) 2 10, o_int (.iconst 0) 0, o_lda .aaload [4, 5, 6, 7, 28, 29], o_int (.iconst 0) 0, o_lda .iaload [0, 20], o_ist (.istore 4) 4, o_ald (.aload_n 0) 0, o_int (.iconst 0) 0, o_ild (.iload_n 2) 2, o_cv (.invokevirtual 239) 1 kX1_does 2 0, o_ist (.istore 5) 5, o_ald (.aload_n 0) 0, o_getf (.getfield 12) 1 0, o_getf (.getfield 102) 2 1, o_ild (.iload 4) 4, o_lda .iaload [0, 20], o_ist (.istore 6) 6, o_ild (.iload 5) 5, o_ifeq 19 97, o_ild (.iload_n 2) 2, o_int (.iconst 4) 4, o_icmpge 14 97, o_ald (.aload_n 0) 0, o_getf (.getfield 12) 1 0, o_getf (.getfield 102) 2 1, o_ild (.iload 4) 4, o_int (.iconst 0) 0, o_sta .iastore [0], o_fall 97] :=
  fG mo_ald (sim_ald_n dX1_watch_43 rfl) <|
  fG mo_getf (sim_getfG hG dX1_watch_44 hc_1 (by decide) rfl in_X1 (fun _ _ _ h => h) (Or.inl q256)) <|
  fG mo_getf (sim_getfG hG dX1_watch_47 hc_2 (by decide) rfl in_X2 (fun _ _ _ h => h) (Or.inr ⟨_, q199⟩)) <|
  fG mo_int (sim_iconst dX1_watch_50 (by decide)) <|
  fG mo_lda (sim_aald dX1_watch_51) <|
  fG mo_int (sim_iconst dX1_watch_52 (by decide)) <|
  fG mo_lda (sim_iald dX1_watch_53) <|
  fG mo_ist (sim_ist dX1_watch_54) <|
  fG mo_ald (sim_ald_n dX1_watch_56 rfl) <|
  fG mo_int (sim_iconst dX1_watch_57 (by decide)) <|
  fG mo_ild (sim_ild_n dX1_watch_58 rfl) <|
  fC (ic_cv (Or.inl rfl)) (sim_cv hG dX1_watch_59 (hG.2.1 1 _ hc_1).2.1 M_X1_does (by rw [nm_X1_does]; rfl) (by rw [nm_X1_does]; exact q1019) (by rw [nm_X1_does]; exact q1021) (by rw [nm_X1_does]; exact qs26)) <|
  fG mo_ist (sim_ist dX1_watch_62) <|
  fG mo_ald (sim_ald_n dX1_watch_64 rfl) <|
  fG mo_getf (sim_getfG hG dX1_watch_65 hc_1 (by decide) rfl in_X1 (fun _ _ _ h => h) (Or.inl q256)) <|
  fG mo_getf (sim_getfG hG dX1_watch_68 hc_2 (by decide) rfl in_X2 (fun _ _ _ h => h) (Or.inr ⟨_, q181⟩)) <|
  fG mo_ild (sim_ild dX1_watch_71) <|
  fG mo_lda (sim_iald dX1_watch_73) <|
  fG mo_ist (sim_ist dX1_watch_74) <|
  fG mo_ild (sim_ild dX1_watch_76) <|
  fG mo_ifeq (sim_ifeq dX1_watch_78 rfl) <|
  fG mo_ild (sim_ild_n dX1_watch_81 rfl) <|
  fG mo_int (sim_iconst dX1_watch_82 (by decide)) <|
  fG mo_icmpge (sim_icmpge dX1_watch_83 rfl) <|
  fG mo_ald (sim_ald_n dX1_watch_86 rfl) <|
  fG mo_getf (sim_getfG hG dX1_watch_87 hc_1 (by decide) rfl in_X1 (fun _ _ _ h => h) (Or.inl q256)) <|
  fG mo_getf (sim_getfG hG dX1_watch_90 hc_2 (by decide) rfl in_X2 (fun _ _ _ h => h) (Or.inr ⟨_, q181⟩)) <|
  fG mo_ild (sim_ild dX1_watch_93) <|
  fG mo_int (sim_iconst dX1_watch_95 (by decide)) <|
  fG mo_sta (sim_iast dX1_watch_96) <|
  fF
theorem fX1_watch_97 {X : tp_X} {az : Array Value} (hG : tp_Good X az) (hSt : tp_Stat X) : tp_Fit X yX1_watch cX1_watch (some .int) 12 tp_nm tp_by tp_ml tp_rtt 97 [o_ald (.aload_n 0) 0, o_int (.iconst 1) 1, o_ild (.iload_n 3) 3, o_cv (.invokevirtual 239) 1 kX1_does 2 0, o_ist (.istore 7) 7, o_ald (.aload_n 0) 0, o_getf (.getfield 12) 1 0, o_getf (.getfield 102) 2 1, o_ild (.iload 4) 4, o_ild (.iload 6) 6, o_sta .iastore [0], o_ald (.aload_n 0) 0, o_ald (.aload_n 0) 0, o_getf (.getfield 12) 1 0, o_getf (.getfield 102) 2 1, o_ald (.aload_n 0) 0, o_getf (.getfield 54) 1 17, o_int (.iconst 0) 0, o_lda .aaload [4, 5, 6, 7, 28, 29], o_int (.iconst 0) 0, o_lda .aaload [4, 5, 6, 7, 28, 29], o_ild (.iload_n 1) 1, o_ald (.aload_n 0) 0, o_getf (.getfield 12) 1 0, o_getf (.getfield 112) 2 0, o_int (.iconst 0) 0, o_lda .iaload [0, 20], o_cv (.invokevirtual 242) 1 kX1_goes 4 0, o_ald (.aload_n 0) 0, o_getf (.getfield 54) 1 17, o_int (.iconst 0) 0, o_lda .aaload [4, 5, 6, 7, 28, 29], o_int (.iconst 0) 0, o_lda .aaload [4, 5, 6, 7, 28, 29], o_int (.iconst 0) 0, o_ald (.aload_n 0) 0, o_getf (.getfield 12) 1 0, o_getf (.getfield 102) 2 1, o_int (.iconst 0) 0, o_ald (.aload_n 0) 0, o_getf (.getfield 87) 1 4, o_acopy (.invokestatic 124), o_int (.iconst 0) 0, o_ist (.istore 8) 8, o_fall 173] :=
  fG mo_ald (sim_ald_n dX1_watch_97 rfl) <|
  fG mo_int (sim_iconst dX1_watch_98 (by decide)) <|
  fG mo_ild (sim_ild_n dX1_watch_99 rfl) <|
  fC (ic_cv (Or.inl rfl)) (sim_cv hG dX1_watch_100 (hG.2.1 1 _ hc_1).2.1 M_X1_does (by rw [nm_X1_does]; rfl) (by rw [nm_X1_does]; exact q1019) (by rw [nm_X1_does]; exact q1021) (by rw [nm_X1_does]; exact qs26)) <|
  fG mo_ist (sim_ist dX1_watch_103) <|
  fG mo_ald (sim_ald_n dX1_watch_105 rfl) <|
  fG mo_getf (sim_getfG hG dX1_watch_106 hc_1 (by decide) rfl in_X1 (fun _ _ _ h => h) (Or.inl q256)) <|
  fG mo_getf (sim_getfG hG dX1_watch_109 hc_2 (by decide) rfl in_X2 (fun _ _ _ h => h) (Or.inr ⟨_, q181⟩)) <|
  fG mo_ild (sim_ild dX1_watch_112) <|
  fG mo_ild (sim_ild dX1_watch_114) <|
  fG mo_sta (sim_iast dX1_watch_116) <|
  fG mo_ald (sim_ald_n dX1_watch_117 rfl) <|
  fG mo_ald (sim_ald_n dX1_watch_118 rfl) <|
  fG mo_getf (sim_getfG hG dX1_watch_119 hc_1 (by decide) rfl in_X1 (fun _ _ _ h => h) (Or.inl q256)) <|
  fG mo_getf (sim_getfG hG dX1_watch_122 hc_2 (by decide) rfl in_X2 (fun _ _ _ h => h) (Or.inr ⟨_, q181⟩)) <|
  fG mo_ald (sim_ald_n dX1_watch_125 rfl) <|
  fG mo_getf (sim_getfG hG dX1_watch_126 hc_1 (by decide) rfl in_X1 (fun _ _ _ h => h) (Or.inl q273)) <|
  fG mo_int (sim_iconst dX1_watch_129 (by decide)) <|
  fG mo_lda (sim_aald dX1_watch_130) <|
  fG mo_int (sim_iconst dX1_watch_131 (by decide)) <|
  fG mo_lda (sim_aald dX1_watch_132) <|
  fG mo_ild (sim_ild_n dX1_watch_133 rfl) <|
  fG mo_ald (sim_ald_n dX1_watch_134 rfl) <|
  fG mo_getf (sim_getfG hG dX1_watch_135 hc_1 (by decide) rfl in_X1 (fun _ _ _ h => h) (Or.inl q256)) <|
  fG mo_getf (sim_getfG hG dX1_watch_138 hc_2 (by decide) rfl in_X2 (fun _ _ _ h => h) (Or.inr ⟨_, q179⟩)) <|
  fG mo_int (sim_iconst dX1_watch_141 (by decide)) <|
  fG mo_lda (sim_iald dX1_watch_142) <|
  fC (ic_cv (Or.inl rfl)) (sim_cv hG dX1_watch_143 (hG.2.1 1 _ hc_1).2.1 M_X1_goes (by rw [nm_X1_goes]; rfl) (by rw [nm_X1_goes]; exact q1024) (by rw [nm_X1_goes]; exact q1026) (by rw [nm_X1_goes]; exact qs27)) <|
  fG mo_ald (sim_ald_n dX1_watch_146 rfl) <|
  fG mo_getf (sim_getfG hG dX1_watch_147 hc_1 (by decide) rfl in_X1 (fun _ _ _ h => h) (Or.inl q273)) <|
  fG mo_int (sim_iconst dX1_watch_150 (by decide)) <|
  fG mo_lda (sim_aald dX1_watch_151) <|
  fG mo_int (sim_iconst dX1_watch_152 (by decide)) <|
  fG mo_lda (sim_aald dX1_watch_153) <|
  fG mo_int (sim_iconst dX1_watch_154 (by decide)) <|
  fG mo_ald (sim_ald_n dX1_watch_155 rfl) <|
  fG mo_getf (sim_getfG hG dX1_watch_156 hc_1 (by decide) rfl in_X1 (fun _ _ _ h => h) (Or.inl q256)) <|
  fG mo_getf (sim_getfG hG dX1_watch_159 hc_2 (by decide) rfl in_X2 (fun _ _ _ h => h) (Or.inr ⟨_, q181⟩)) <|
  fG mo_int (sim_iconst dX1_watch_162 (by decide)) <|
  fG mo_ald (sim_ald_n dX1_watch_163 rfl) <|
  fG mo_getf (sim_getfG hG dX1_watch_164 hc_1 (by decide) rfl in_X1 (fun _ _ _ h => h) (Or.inl q260)) <|
  fG mo_acopy (sim_acopy hG dX1_watch_167 q361 q252 q251 q129) <|
  fG mo_int (sim_iconst dX1_watch_170 (by decide)) <|
  fG mo_ist (sim_ist dX1_watch_171) <|
  fF
theorem fX1_watch_173 {X : tp_X} {az : Array Value} (hG : tp_Good X az) (hSt : tp_Stat X) : tp_Fit X yX1_watch cX1_watch (some .int) 12 tp_nm tp_by tp_ml tp_rtt 173 [o_ild (.iload 8) 8, o_int (.iconst 2) 2, o_icmpge 139 315, o_ald (.aload_n 0) 0, o_getf (.getfield 12) 1 0, o_getf (.getfield 130) 2 10, o_ild (.iload 8) 8, o_lda .aaload [4, 5, 6, 7, 28, 29], o_ast (.astore 9) 9, o_ald (.aload 9) 9, o_int (.iconst 0) 0, o_lda .iaload [0, 20], o_int (.iconst (-1)) (-1), o_icmpeq 113 309, o_ald (.aload 9) 9, o_int (.iconst 3) 3, o_lda .iaload [0, 20], o_ifeq 6 209, o_goto 103 309] :=
  fG mo_ild (sim_ild dX1_watch_173) <|
  fG mo_int (sim_iconst dX1_watch_175 (by decide)) <|
  fG mo_icmpge (sim_icmpge dX1_watch_176 rfl) <|
  fG mo_ald (sim_ald_n dX1_watch_179 rfl) <|
  fG mo_getf (sim_getfG hG dX1_watch_180 hc_1 (by decide) rfl in_X1 (fun _ _ _ h => h) (Or.inl q256)) <|
  fG mo_getf (sim_getfG hG dX1_watch_183 hc_2 (by decide) rfl in_X2 (fun _ _ _ h => h) (Or.inr ⟨_, q199⟩)) <|
  fG mo_ild (sim_ild dX1_watch_186) <|
  fG mo_lda (sim_aald dX1_watch_188) <|
  fG mo_ast (sim_ast dX1_watch_189) <|
  fG mo_ald (sim_ald dX1_watch_191) <|
  fG mo_int (sim_iconst dX1_watch_193 (by decide)) <|
  fG mo_lda (sim_iald dX1_watch_194) <|
  fG mo_int (sim_iconst dX1_watch_195 (by decide)) <|
  fG mo_icmpeq (sim_icmpeq dX1_watch_196 rfl) <|
  fG mo_ald (sim_ald dX1_watch_199) <|
  fG mo_int (sim_iconst dX1_watch_201 (by decide)) <|
  fG mo_lda (sim_iald dX1_watch_202) <|
  fG mo_ifeq (sim_ifeq dX1_watch_203 rfl) <|
  fG mo_goto (sim_goto dX1_watch_206 rfl) <|
  trivial
theorem fX1_watch_209 {X : tp_X} {az : Array Value} (hG : tp_Good X az) (hSt : tp_Stat X) : tp_Fit X yX1_watch cX1_watch (some .int) 12 tp_nm tp_by tp_ml tp_rtt 209 [o_ild (.iload 8) 8, o_ifne 7 218, o_ild (.iload_n 2) 2, o_goto 4 219] :=
  fG mo_ild (sim_ild dX1_watch_209) <|
  fG mo_ifne (sim_ifne dX1_watch_211 rfl) <|
  fG mo_ild (sim_ild_n dX1_watch_214 rfl) <|
  fG mo_goto (sim_goto dX1_watch_215 rfl) <|
  trivial
theorem fX1_watch_218 {X : tp_X} {az : Array Value} (hG : tp_Good X az) (hSt : tp_Stat X) : tp_Fit X yX1_watch cX1_watch (some .int) 12 tp_nm tp_by tp_ml tp_rtt 218 [o_ild (.iload_n 3) 3, o_fall 219] :=
  fG mo_ild (sim_ild_n dX1_watch_218 rfl) <|
  fF
theorem fX1_watch_219 {X : tp_X} {az : Array Value} (hG : tp_Good X az) (hSt : tp_Stat X) : tp_Fit X yX1_watch cX1_watch (some .int) 12 tp_nm tp_by tp_ml tp_rtt 219 [o_ist (.istore 10) 10, o_ild (.iload 8) 8, o_ifne 11 234, o_ild (.iload 5) 5, o_ifeq 27 255, o_goto 8 239] :=
  fG mo_ist (sim_ist dX1_watch_219) <|
  fG mo_ild (sim_ild dX1_watch_221) <|
  fG mo_ifne (sim_ifne dX1_watch_223 rfl) <|
  fG mo_ild (sim_ild dX1_watch_226) <|
  fG mo_ifeq (sim_ifeq dX1_watch_228 rfl) <|
  fG mo_goto (sim_goto dX1_watch_231 rfl) <|
  trivial
theorem fX1_watch_234 {X : tp_X} {az : Array Value} (hG : tp_Good X az) (hSt : tp_Stat X) : tp_Fit X yX1_watch cX1_watch (some .int) 12 tp_nm tp_by tp_ml tp_rtt 234 [o_ild (.iload 7) 7, o_ifeq 19 255, o_fall 239] :=
  fG mo_ild (sim_ild dX1_watch_234) <|
  fG mo_ifeq (sim_ifeq dX1_watch_236 rfl) <|
  fF
theorem fX1_watch_239 {X : tp_X} {az : Array Value} (hG : tp_Good X az) (hSt : tp_Stat X) : tp_Fit X yX1_watch cX1_watch (some .int) 12 tp_nm tp_by tp_ml tp_rtt 239 [o_ild (.iload 10) 10, o_int (.iconst 4) 4, o_icmplt 9 251, o_ild (.iload 10) 10, o_int (.iconst 5) 5, o_icmpne 7 255, o_fall 251] :=
  fG mo_ild (sim_ild dX1_watch_239) <|
  fG mo_int (sim_iconst dX1_watch_241 (by decide)) <|
  fG mo_icmplt (sim_icmplt dX1_watch_242 rfl) <|
  fG mo_ild (sim_ild dX1_watch_245) <|
  fG mo_int (sim_iconst dX1_watch_247 (by decide)) <|
  fG mo_icmpne (sim_icmpne dX1_watch_248 rfl) <|
  fF
theorem fX1_watch_251 {X : tp_X} {az : Array Value} (hG : tp_Good X az) (hSt : tp_Stat X) : tp_Fit X yX1_watch cX1_watch (some .int) 12 tp_nm tp_by tp_ml tp_rtt 251 [o_int (.iconst 1) 1, o_goto 4 256] :=
  fG mo_int (sim_iconst dX1_watch_251 (by decide)) <|
  fG mo_goto (sim_goto dX1_watch_252 rfl) <|
  trivial
theorem fX1_watch_255 {X : tp_X} {az : Array Value} (hG : tp_Good X az) (hSt : tp_Stat X) : tp_Fit X yX1_watch cX1_watch (some .int) 12 tp_nm tp_by tp_ml tp_rtt 255 [o_int (.iconst 0) 0, o_fall 256] :=
  fG mo_int (sim_iconst dX1_watch_255 (by decide)) <|
  fF
theorem fX1_watch_256 {X : tp_X} {az : Array Value} (hG : tp_Good X az) (hSt : tp_Stat X) : tp_Fit X yX1_watch cX1_watch (some .int) 12 tp_nm tp_by tp_ml tp_rtt 256 [o_ist (.istore 11) 11, o_ild (.iload 11) 11, o_ifne 16 276, o_ald (.aload 9) 9, o_int (.iconst 0) 0, o_ald (.aload_n 0) 0, o_ald (.aload 9) 9, o_int (.iconst 0) 0, o_lda .iaload [0, 20], o_ild (.iload_n 1) 1, o_cv (.invokevirtual 246) 1 kX1_drifts 2 0, o_sta .iastore [0], o_fall 276] :=
  fG mo_ist (sim_ist dX1_watch_256) <|
  fG mo_ild (sim_ild dX1_watch_258) <|
  fG mo_ifne (sim_ifne dX1_watch_260 rfl) <|
  fG mo_ald (sim_ald dX1_watch_263) <|
  fG mo_int (sim_iconst dX1_watch_265 (by decide)) <|
  fG mo_ald (sim_ald_n dX1_watch_266 rfl) <|
  fG mo_ald (sim_ald dX1_watch_267) <|
  fG mo_int (sim_iconst dX1_watch_269 (by decide)) <|
  fG mo_lda (sim_iald dX1_watch_270) <|
  fG mo_ild (sim_ild_n dX1_watch_271 rfl) <|
  fC (ic_cv (Or.inl rfl)) (sim_cv hG dX1_watch_272 (hG.2.1 1 _ hc_1).2.1 M_X1_drifts (by rw [nm_X1_drifts]; rfl) (by rw [nm_X1_drifts]; exact q1028) (by rw [nm_X1_drifts]; exact q1030) (by rw [nm_X1_drifts]; exact qs28)) <|
  fG mo_sta (sim_iast dX1_watch_275) <|
  fF
theorem fX1_watch_276 {X : tp_X} {az : Array Value} (hG : tp_Good X az) (hSt : tp_Stat X) : tp_Fit X yX1_watch cX1_watch (some .int) 12 tp_nm tp_by tp_ml tp_rtt 276 [o_ald (.aload_n 0) 0, o_ald (.aload_n 0) 0, o_getf (.getfield 12) 1 0, o_getf (.getfield 102) 2 1, o_ald (.aload 9) 9, o_int (.iconst 0) 0, o_lda .iaload [0, 20], o_ild (.iload_n 1) 1, o_ald (.aload_n 0) 0, o_getf (.getfield 12) 1 0, o_getf (.getfield 112) 2 0, o_int (.iconst 0) 0, o_lda .iaload [0, 20], o_cv (.invokevirtual 249) 1 kX1_nips 4 0, o_ifeq 8 309, o_ald (.aload 9) 9, o_int (.iconst 3) 3, o_int (.iconst 2) 2, o_sta .iastore [0], o_fall 309] :=
  fG mo_ald (sim_ald_n dX1_watch_276 rfl) <|
  fG mo_ald (sim_ald_n dX1_watch_277 rfl) <|
  fG mo_getf (sim_getfG hG dX1_watch_278 hc_1 (by decide) rfl in_X1 (fun _ _ _ h => h) (Or.inl q256)) <|
  fG mo_getf (sim_getfG hG dX1_watch_281 hc_2 (by decide) rfl in_X2 (fun _ _ _ h => h) (Or.inr ⟨_, q181⟩)) <|
  fG mo_ald (sim_ald dX1_watch_284) <|
  fG mo_int (sim_iconst dX1_watch_286 (by decide)) <|
  fG mo_lda (sim_iald dX1_watch_287) <|
  fG mo_ild (sim_ild_n dX1_watch_288 rfl) <|
  fG mo_ald (sim_ald_n dX1_watch_289 rfl) <|
  fG mo_getf (sim_getfG hG dX1_watch_290 hc_1 (by decide) rfl in_X1 (fun _ _ _ h => h) (Or.inl q256)) <|
  fG mo_getf (sim_getfG hG dX1_watch_293 hc_2 (by decide) rfl in_X2 (fun _ _ _ h => h) (Or.inr ⟨_, q179⟩)) <|
  fG mo_int (sim_iconst dX1_watch_296 (by decide)) <|
  fG mo_lda (sim_iald dX1_watch_297) <|
  fC (ic_cv (Or.inl rfl)) (sim_cv hG dX1_watch_298 (hG.2.1 1 _ hc_1).2.1 M_X1_nips (by rw [nm_X1_nips]; rfl) (by rw [nm_X1_nips]; exact q1032) (by rw [nm_X1_nips]; exact q1034) (by rw [nm_X1_nips]; exact qs29)) <|
  fG mo_ifeq (sim_ifeq dX1_watch_301 rfl) <|
  fG mo_ald (sim_ald dX1_watch_304) <|
  fG mo_int (sim_iconst dX1_watch_306 (by decide)) <|
  fG mo_int (sim_iconst dX1_watch_307 (by decide)) <|
  fG mo_sta (sim_iast dX1_watch_308) <|
  fF
theorem fX1_watch_309 {X : tp_X} {az : Array Value} (hG : tp_Good X az) (hSt : tp_Stat X) : tp_Fit X yX1_watch cX1_watch (some .int) 12 tp_nm tp_by tp_ml tp_rtt 309 [o_inc 8 1, o_goto (-139) 173] :=
  fG mo_inc (sim_inc dX1_watch_309 (by decide)) <|
  fG mo_goto (sim_goto dX1_watch_312 rfl) <|
  trivial
theorem fX1_watch_315 {X : tp_X} {az : Array Value} (hG : tp_Good X az) (hSt : tp_Stat X) : tp_Fit X yX1_watch cX1_watch (some .int) 12 tp_nm tp_by tp_ml tp_rtt 315 [o_int (.iconst 0) 0, o_ist (.istore 8) 8, o_fall 318] :=
  fG mo_int (sim_iconst dX1_watch_315 (by decide)) <|
  fG mo_ist (sim_ist dX1_watch_316) <|
  fF
theorem fX1_watch_318 {X : tp_X} {az : Array Value} (hG : tp_Good X az) (hSt : tp_Stat X) : tp_Fit X yX1_watch cX1_watch (some .int) 12 tp_nm tp_by tp_ml tp_rtt 318 [o_ild (.iload 8) 8, o_ald (.aload_n 0) 0, o_getf (.getfield 12) 1 0, o_getf (.getfield 112) 2 0, o_int (.bipush 7) 7, o_lda .iaload [0, 20], o_icmpge 75 405, o_ald (.aload_n 0) 0, o_getf (.getfield 12) 1 0, o_getf (.getfield 251) 2 11, o_ild (.iload 8) 8, o_lda .aaload [4, 5, 6, 7, 28, 29], o_int (.iconst 0) 0, o_lda .iaload [0, 20], o_int (.iconst (-1)) (-1), o_icmpeq 53 399, o_ald (.aload_n 0) 0, o_getf (.getfield 12) 1 0, o_getf (.getfield 251) 2 11, o_ild (.iload 8) 8, o_lda .aaload [4, 5, 6, 7, 28, 29], o_int (.iconst 0) 0, o_ald (.aload_n 0) 0, o_ald (.aload_n 0) 0, o_getf (.getfield 12) 1 0, o_getf (.getfield 251) 2 11, o_ild (.iload 8) 8, o_lda .aaload [4, 5, 6, 7, 28, 29], o_int (.iconst 0) 0, o_lda .iaload [0, 20], o_ald (.aload_n 0) 0, o_getf (.getfield 12) 1 0, o_getf (.getfield 118) 2 8, o_ild (.iload_n 1) 1, o_lda .aaload [4, 5, 6, 7, 28, 29], o_int (.iconst 0) 0, o_lda .iaload [0, 20], o_ald (.aload_n 0) 0, o_getf (.getfield 12) 1 0, o_getf (.getfield 118) 2 8, o_ild (.iload_n 1) 1, o_lda .aaload [4, 5, 6, 7, 28, 29], o_int (.iconst 1) 1, o_lda .iaload [0, 20], o_cv (.invokevirtual 165) 1 kX1_beside 3 0, o_sta .iastore [0], o_fall 399] :=
  fG mo_ild (sim_ild dX1_watch_318) <|
  fG mo_ald (sim_ald_n dX1_watch_320 rfl) <|
  fG mo_getf (sim_getfG hG dX1_watch_321 hc_1 (by decide) rfl in_X1 (fun _ _ _ h => h) (Or.inl q256)) <|
  fG mo_getf (sim_getfG hG dX1_watch_324 hc_2 (by decide) rfl in_X2 (fun _ _ _ h => h) (Or.inr ⟨_, q179⟩)) <|
  fG mo_int (sim_bipush dX1_watch_327 (by decide)) <|
  fG mo_lda (sim_iald dX1_watch_329) <|
  fG mo_icmpge (sim_icmpge dX1_watch_330 rfl) <|
  fG mo_ald (sim_ald_n dX1_watch_333 rfl) <|
  fG mo_getf (sim_getfG hG dX1_watch_334 hc_1 (by decide) rfl in_X1 (fun _ _ _ h => h) (Or.inl q256)) <|
  fG mo_getf (sim_getfG hG dX1_watch_337 hc_2 (by decide) rfl in_X2 (fun _ _ _ h => h) (Or.inr ⟨_, q201⟩)) <|
  fG mo_ild (sim_ild dX1_watch_340) <|
  fG mo_lda (sim_aald dX1_watch_342) <|
  fG mo_int (sim_iconst dX1_watch_343 (by decide)) <|
  fG mo_lda (sim_iald dX1_watch_344) <|
  fG mo_int (sim_iconst dX1_watch_345 (by decide)) <|
  fG mo_icmpeq (sim_icmpeq dX1_watch_346 rfl) <|
  fG mo_ald (sim_ald_n dX1_watch_349 rfl) <|
  fG mo_getf (sim_getfG hG dX1_watch_350 hc_1 (by decide) rfl in_X1 (fun _ _ _ h => h) (Or.inl q256)) <|
  fG mo_getf (sim_getfG hG dX1_watch_353 hc_2 (by decide) rfl in_X2 (fun _ _ _ h => h) (Or.inr ⟨_, q201⟩)) <|
  fG mo_ild (sim_ild dX1_watch_356) <|
  fG mo_lda (sim_aald dX1_watch_358) <|
  fG mo_int (sim_iconst dX1_watch_359 (by decide)) <|
  fG mo_ald (sim_ald_n dX1_watch_360 rfl) <|
  fG mo_ald (sim_ald_n dX1_watch_361 rfl) <|
  fG mo_getf (sim_getfG hG dX1_watch_362 hc_1 (by decide) rfl in_X1 (fun _ _ _ h => h) (Or.inl q256)) <|
  fG mo_getf (sim_getfG hG dX1_watch_365 hc_2 (by decide) rfl in_X2 (fun _ _ _ h => h) (Or.inr ⟨_, q201⟩)) <|
  fG mo_ild (sim_ild dX1_watch_368) <|
  fG mo_lda (sim_aald dX1_watch_370) <|
  fG mo_int (sim_iconst dX1_watch_371 (by decide)) <|
  fG mo_lda (sim_iald dX1_watch_372) <|
  fG mo_ald (sim_ald_n dX1_watch_373 rfl) <|
  fG mo_getf (sim_getfG hG dX1_watch_374 hc_1 (by decide) rfl in_X1 (fun _ _ _ h => h) (Or.inl q256)) <|
  fG mo_getf (sim_getfG hG dX1_watch_377 hc_2 (by decide) rfl in_X2 (fun _ _ _ h => h) (Or.inr ⟨_, q195⟩)) <|
  fG mo_ild (sim_ild_n dX1_watch_380 rfl) <|
  fG mo_lda (sim_aald dX1_watch_381) <|
  fG mo_int (sim_iconst dX1_watch_382 (by decide)) <|
  fG mo_lda (sim_iald dX1_watch_383) <|
  fG mo_ald (sim_ald_n dX1_watch_384 rfl) <|
  fG mo_getf (sim_getfG hG dX1_watch_385 hc_1 (by decide) rfl in_X1 (fun _ _ _ h => h) (Or.inl q256)) <|
  fG mo_getf (sim_getfG hG dX1_watch_388 hc_2 (by decide) rfl in_X2 (fun _ _ _ h => h) (Or.inr ⟨_, q195⟩)) <|
  fG mo_ild (sim_ild_n dX1_watch_391 rfl) <|
  fG mo_lda (sim_aald dX1_watch_392) <|
  fG mo_int (sim_iconst dX1_watch_393 (by decide)) <|
  fG mo_lda (sim_iald dX1_watch_394) <|
  fC (ic_cv (Or.inl rfl)) (sim_cv hG dX1_watch_395 (hG.2.1 1 _ hc_1).2.1 M_X1_beside (by rw [nm_X1_beside]; rfl) (by rw [nm_X1_beside]; exact q906) (by rw [nm_X1_beside]; exact q908) (by rw [nm_X1_beside]; exact qs21)) <|
  fG mo_sta (sim_iast dX1_watch_398) <|
  fF
theorem fX1_watch_399 {X : tp_X} {az : Array Value} (hG : tp_Good X az) (hSt : tp_Stat X) : tp_Fit X yX1_watch cX1_watch (some .int) 12 tp_nm tp_by tp_ml tp_rtt 399 [o_inc 8 1, o_goto (-84) 318] :=
  fG mo_inc (sim_inc dX1_watch_399 (by decide)) <|
  fG mo_goto (sim_goto dX1_watch_402 rfl) <|
  trivial
theorem fX1_watch_405 {X : tp_X} {az : Array Value} (hG : tp_Good X az) (hSt : tp_Stat X) : tp_Fit X yX1_watch cX1_watch (some .int) 12 tp_nm tp_by tp_ml tp_rtt 405 [o_ald (.aload_n 0) 0, o_getf (.getfield 12) 1 0, o_getf (.getfield 112) 2 0, o_int (.iconst 1) 1, o_ild (.iload_n 1) 1, o_sta .iastore [0], o_ald (.aload_n 0) 0, o_getf (.getfield 12) 1 0, o_getf (.getfield 112) 2 0, o_int (.iconst 0) 0, o_dup2, o_lda .iaload [0, 20], o_int (.iconst 1) 1, o_iadd, o_sta .iastore [0], o_ild (.iload 5) 5, o_ifeq 7 437, o_int (.iconst 1) 1, o_goto 4 438] :=
  fG mo_ald (sim_ald_n dX1_watch_405 rfl) <|
  fG mo_getf (sim_getfG hG dX1_watch_406 hc_1 (by decide) rfl in_X1 (fun _ _ _ h => h) (Or.inl q256)) <|
  fG mo_getf (sim_getfG hG dX1_watch_409 hc_2 (by decide) rfl in_X2 (fun _ _ _ h => h) (Or.inr ⟨_, q179⟩)) <|
  fG mo_int (sim_iconst dX1_watch_412 (by decide)) <|
  fG mo_ild (sim_ild_n dX1_watch_413 rfl) <|
  fG mo_sta (sim_iast dX1_watch_414) <|
  fG mo_ald (sim_ald_n dX1_watch_415 rfl) <|
  fG mo_getf (sim_getfG hG dX1_watch_416 hc_1 (by decide) rfl in_X1 (fun _ _ _ h => h) (Or.inl q256)) <|
  fG mo_getf (sim_getfG hG dX1_watch_419 hc_2 (by decide) rfl in_X2 (fun _ _ _ h => h) (Or.inr ⟨_, q179⟩)) <|
  fG mo_int (sim_iconst dX1_watch_422 (by decide)) <|
  fG mo_dup2 (sim_dup2 dX1_watch_423) <|
  fG mo_lda (sim_iald dX1_watch_424) <|
  fG mo_int (sim_iconst dX1_watch_425 (by decide)) <|
  fG mo_iadd (sim_iadd dX1_watch_426) <|
  fG mo_sta (sim_iast dX1_watch_427) <|
  fG mo_ild (sim_ild dX1_watch_428) <|
  fG mo_ifeq (sim_ifeq dX1_watch_430 rfl) <|
  fG mo_int (sim_iconst dX1_watch_433 (by decide)) <|
  fG mo_goto (sim_goto dX1_watch_434 rfl) <|
  trivial
theorem fX1_watch_437 {X : tp_X} {az : Array Value} (hG : tp_Good X az) (hSt : tp_Stat X) : tp_Fit X yX1_watch cX1_watch (some .int) 12 tp_nm tp_by tp_ml tp_rtt 437 [o_int (.iconst 0) 0, o_fall 438] :=
  fG mo_int (sim_iconst dX1_watch_437 (by decide)) <|
  fF
theorem fX1_watch_438 {X : tp_X} {az : Array Value} (hG : tp_Good X az) (hSt : tp_Stat X) : tp_Fit X yX1_watch cX1_watch (some .int) 12 tp_nm tp_by tp_ml tp_rtt 438 [o_ild (.iload 7) 7, o_ifeq 7 447, o_int (.iconst 2) 2, o_goto 4 448] :=
  fG mo_ild (sim_ild dX1_watch_438) <|
  fG mo_ifeq (sim_ifeq dX1_watch_440 rfl) <|
  fG mo_int (sim_iconst dX1_watch_443 (by decide)) <|
  fG mo_goto (sim_goto dX1_watch_444 rfl) <|
  trivial
theorem fX1_watch_447 {X : tp_X} {az : Array Value} (hG : tp_Good X az) (hSt : tp_Stat X) : tp_Fit X yX1_watch cX1_watch (some .int) 12 tp_nm tp_by tp_ml tp_rtt 447 [o_int (.iconst 0) 0, o_fall 448] :=
  fG mo_int (sim_iconst dX1_watch_447 (by decide)) <|
  fF
theorem fX1_watch_448 {X : tp_X} {az : Array Value} (hG : tp_Good X az) (hSt : tp_Stat X) : tp_Fit X yX1_watch cX1_watch (some .int) 12 tp_nm tp_by tp_ml tp_rtt 448 [o_iadd, o_iret 0] :=
  fG mo_iadd (sim_iadd dX1_watch_448) <|
  fE ie_iret (sim_iret dX1_watch_449 rfl (Or.inl ⟨rfl, rfl⟩))
theorem F_X1_watch {X : tp_X} {az : Array Value} (hG : tp_Good X az) (hSt : tp_Stat X) (pc : Nat) : tp_Fit X yX1_watch cX1_watch (some .int) 12 tp_nm tp_by tp_ml tp_rtt pc (mX1_watch pc) :=
  fI (fX1_watch_0 hG hSt) <| fI (fX1_watch_41 hG hSt) <| fI (fX1_watch_43 hG hSt) <| fI (fX1_watch_97 hG hSt) <| fI (fX1_watch_173 hG hSt) <| fI (fX1_watch_209 hG hSt) <| fI (fX1_watch_218 hG hSt) <| fI (fX1_watch_219 hG hSt) <| fI (fX1_watch_234 hG hSt) <| fI (fX1_watch_239 hG hSt) <| fI (fX1_watch_251 hG hSt) <| fI (fX1_watch_255 hG hSt) <| fI (fX1_watch_256 hG hSt) <| fI (fX1_watch_276 hG hSt) <| fI (fX1_watch_309 hG hSt) <| fI (fX1_watch_315 hG hSt) <| fI (fX1_watch_318 hG hSt) <| fI (fX1_watch_399 hG hSt) <| fI (fX1_watch_405 hG hSt) <| fI (fX1_watch_437 hG hSt) <| fI (fX1_watch_438 hG hSt) <| fI (fX1_watch_447 hG hSt) <| fI (fX1_watch_448 hG hSt) <| trivial
