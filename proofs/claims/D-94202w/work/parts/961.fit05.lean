/-! FITS 5 -/
set_option maxRecDepth 100000
theorem fX2_be_0 {X : tp_X} {az : Array Value} (hG : tp_Good X az) (hSt : tp_Stat X) : tp_Fit X yX2_be cX2_be none 2 tp_nm tp_by tp_ml tp_rtt 0 [o_ald (.aload_n 1) 1, o_getf (.getfield 9) 2 0, o_ald (.aload_n 0) 0, o_getf (.getfield 9) 2 0, o_cs (.invokestatic 69) kX2_copy 2 0, o_ald (.aload_n 1) 1, o_getf (.getfield 15) 2 1, o_ald (.aload_n 0) 0, o_getf (.getfield 15) 2 1, o_cs (.invokestatic 69) kX2_copy 2 0, o_ald (.aload_n 1) 1, o_getf (.getfield 18) 2 2, o_ald (.aload_n 0) 0, o_getf (.getfield 18) 2 2, o_cs (.invokestatic 69) kX2_copy 2 0, o_ald (.aload_n 1) 1, o_getf (.getfield 21) 2 3, o_ald (.aload_n 0) 0, o_getf (.getfield 21) 2 3, o_cs (.invokestatic 69) kX2_copy 2 0, o_ald (.aload_n 1) 1, o_getf (.getfield 24) 2 4, o_ald (.aload_n 0) 0, o_getf (.getfield 24) 2 4, o_cs (.invokestatic 69) kX2_copy 2 0, o_ald (.aload_n 1) 1, o_getf (.getfield 27) 2 5, o_ald (.aload_n 0) 0, o_getf (.getfield 27) 2 5, o_cs (.invokestatic 69) kX2_copy 2 0, o_ald (.aload_n 1) 1, o_getf (.getfield 30) 2 6, o_int (.iconst 0) 0, o_ald (.aload_n 0) 0, o_getf (.getfield 30) 2 6, o_int (.iconst 0) 0, o_int (.bipush 36) 36, o_acopy (.invokestatic 63), o_ald (.aload_n 1) 1, o_getf (.getfield 34) 2 7, o_int (.iconst 0) 0, o_ald (.aload_n 0) 0, o_getf (.getfield 34) 2 7, o_int (.iconst 0) 0, o_int (.bipush 36) 36, o_acopy (.invokestatic 63), o_ald (.aload_n 1) 1, o_getf (.getfield 39) 2 8, o_ald (.aload_n 0) 0, o_getf (.getfield 39) 2 8, o_cs (.invokestatic 73) kX2_copy_2 2 0, o_ald (.aload_n 1) 1, o_getf (.getfield 42) 2 9, o_ald (.aload_n 0) 0, o_getf (.getfield 42) 2 9, o_cs (.invokestatic 73) kX2_copy_2 2 0, o_ald (.aload_n 1) 1, o_getf (.getfield 45) 2 10, o_ald (.aload_n 0) 0, o_getf (.getfield 45) 2 10, o_cs (.invokestatic 73) kX2_copy_2 2 0, o_ald (.aload_n 1) 1, o_getf (.getfield 48) 2 11, o_ald (.aload_n 0) 0, o_getf (.getfield 48) 2 11, o_cs (.invokestatic 73) kX2_copy_2 2 0, o_ald (.aload_n 1) 1, o_getf (.getfield 53) 2 12, o_int (.iconst 0) 0, o_ald (.aload_n 0) 0, o_getf (.getfield 53) 2 12, o_int (.iconst 0) 0, o_int (.iconst 4) 4, o_acopy (.invokestatic 63), o_vret] :=
  fG mo_ald (sim_ald_n dX2_be_0 rfl) <|
  fG mo_getf (sim_getfG hG dX2_be_1 hc_2 (by decide) rfl in_X2 (fun _ _ _ h => h) (Or.inl q178)) <|
  fG mo_ald (sim_ald_n dX2_be_4 rfl) <|
  fG mo_getf (sim_getfG hG dX2_be_5 hc_2 (by decide) rfl in_X2 (fun _ _ _ h => h) (Or.inl q178)) <|
  fC (ic_cs (Or.inl rfl)) (sim_cs hG dX2_be_8 M_X2_copy (by rw [nm_X2_copy]; rfl) (by rw [nm_X2_copy]; exact q247) (by rw [nm_X2_copy]; exact q248)) <|
  fG mo_ald (sim_ald_n dX2_be_11 rfl) <|
  fG mo_getf (sim_getfG hG dX2_be_12 hc_2 (by decide) rfl in_X2 (fun _ _ _ h => h) (Or.inl q180)) <|
  fG mo_ald (sim_ald_n dX2_be_15 rfl) <|
  fG mo_getf (sim_getfG hG dX2_be_16 hc_2 (by decide) rfl in_X2 (fun _ _ _ h => h) (Or.inl q180)) <|
  fC (ic_cs (Or.inl rfl)) (sim_cs hG dX2_be_19 M_X2_copy (by rw [nm_X2_copy]; rfl) (by rw [nm_X2_copy]; exact q247) (by rw [nm_X2_copy]; exact q248)) <|
  fG mo_ald (sim_ald_n dX2_be_22 rfl) <|
  fG mo_getf (sim_getfG hG dX2_be_23 hc_2 (by decide) rfl in_X2 (fun _ _ _ h => h) (Or.inl q182)) <|
  fG mo_ald (sim_ald_n dX2_be_26 rfl) <|
  fG mo_getf (sim_getfG hG dX2_be_27 hc_2 (by decide) rfl in_X2 (fun _ _ _ h => h) (Or.inl q182)) <|
  fC (ic_cs (Or.inl rfl)) (sim_cs hG dX2_be_30 M_X2_copy (by rw [nm_X2_copy]; rfl) (by rw [nm_X2_copy]; exact q247) (by rw [nm_X2_copy]; exact q248)) <|
  fG mo_ald (sim_ald_n dX2_be_33 rfl) <|
  fG mo_getf (sim_getfG hG dX2_be_34 hc_2 (by decide) rfl in_X2 (fun _ _ _ h => h) (Or.inl q184)) <|
  fG mo_ald (sim_ald_n dX2_be_37 rfl) <|
  fG mo_getf (sim_getfG hG dX2_be_38 hc_2 (by decide) rfl in_X2 (fun _ _ _ h => h) (Or.inl q184)) <|
  fC (ic_cs (Or.inl rfl)) (sim_cs hG dX2_be_41 M_X2_copy (by rw [nm_X2_copy]; rfl) (by rw [nm_X2_copy]; exact q247) (by rw [nm_X2_copy]; exact q248)) <|
  fG mo_ald (sim_ald_n dX2_be_44 rfl) <|
  fG mo_getf (sim_getfG hG dX2_be_45 hc_2 (by decide) rfl in_X2 (fun _ _ _ h => h) (Or.inl q186)) <|
  fG mo_ald (sim_ald_n dX2_be_48 rfl) <|
  fG mo_getf (sim_getfG hG dX2_be_49 hc_2 (by decide) rfl in_X2 (fun _ _ _ h => h) (Or.inl q186)) <|
  fC (ic_cs (Or.inl rfl)) (sim_cs hG dX2_be_52 M_X2_copy (by rw [nm_X2_copy]; rfl) (by rw [nm_X2_copy]; exact q247) (by rw [nm_X2_copy]; exact q248)) <|
  fG mo_ald (sim_ald_n dX2_be_55 rfl) <|
  fG mo_getf (sim_getfG hG dX2_be_56 hc_2 (by decide) rfl in_X2 (fun _ _ _ h => h) (Or.inl q188)) <|
  fG mo_ald (sim_ald_n dX2_be_59 rfl) <|
  fG mo_getf (sim_getfG hG dX2_be_60 hc_2 (by decide) rfl in_X2 (fun _ _ _ h => h) (Or.inl q188)) <|
  fC (ic_cs (Or.inl rfl)) (sim_cs hG dX2_be_63 M_X2_copy (by rw [nm_X2_copy]; rfl) (by rw [nm_X2_copy]; exact q247) (by rw [nm_X2_copy]; exact q248)) <|
  fG mo_ald (sim_ald_n dX2_be_66 rfl) <|
  fG mo_getf (sim_getfG hG dX2_be_67 hc_2 (by decide) rfl in_X2 (fun _ _ _ h => h) (Or.inl q190)) <|
  fG mo_int (sim_iconst dX2_be_70 (by decide)) <|
  fG mo_ald (sim_ald_n dX2_be_71 rfl) <|
  fG mo_getf (sim_getfG hG dX2_be_72 hc_2 (by decide) rfl in_X2 (fun _ _ _ h => h) (Or.inl q190)) <|
  fG mo_int (sim_iconst dX2_be_75 (by decide)) <|
  fG mo_int (sim_bipush dX2_be_76 (by decide)) <|
  fG mo_acopy (sim_acopy hG dX2_be_78 q250 q252 q251 q129) <|
  fG mo_ald (sim_ald_n dX2_be_81 rfl) <|
  fG mo_getf (sim_getfG hG dX2_be_82 hc_2 (by decide) rfl in_X2 (fun _ _ _ h => h) (Or.inl q192)) <|
  fG mo_int (sim_iconst dX2_be_85 (by decide)) <|
  fG mo_ald (sim_ald_n dX2_be_86 rfl) <|
  fG mo_getf (sim_getfG hG dX2_be_87 hc_2 (by decide) rfl in_X2 (fun _ _ _ h => h) (Or.inl q192)) <|
  fG mo_int (sim_iconst dX2_be_90 (by decide)) <|
  fG mo_int (sim_bipush dX2_be_91 (by decide)) <|
  fG mo_acopy (sim_acopy hG dX2_be_93 q250 q252 q251 q129) <|
  fG mo_ald (sim_ald_n dX2_be_96 rfl) <|
  fG mo_getf (sim_getfG hG dX2_be_97 hc_2 (by decide) rfl in_X2 (fun _ _ _ h => h) (Or.inl q194)) <|
  fG mo_ald (sim_ald_n dX2_be_100 rfl) <|
  fG mo_getf (sim_getfG hG dX2_be_101 hc_2 (by decide) rfl in_X2 (fun _ _ _ h => h) (Or.inl q194)) <|
  fC (ic_cs (Or.inl rfl)) (sim_cs hG dX2_be_104 M_X2_copy_2 (by rw [nm_X2_copy_2]; rfl) (by rw [nm_X2_copy_2]; exact q253) (by rw [nm_X2_copy_2]; exact q254)) <|
  fG mo_ald (sim_ald_n dX2_be_107 rfl) <|
  fG mo_getf (sim_getfG hG dX2_be_108 hc_2 (by decide) rfl in_X2 (fun _ _ _ h => h) (Or.inl q196)) <|
  fG mo_ald (sim_ald_n dX2_be_111 rfl) <|
  fG mo_getf (sim_getfG hG dX2_be_112 hc_2 (by decide) rfl in_X2 (fun _ _ _ h => h) (Or.inl q196)) <|
  fC (ic_cs (Or.inl rfl)) (sim_cs hG dX2_be_115 M_X2_copy_2 (by rw [nm_X2_copy_2]; rfl) (by rw [nm_X2_copy_2]; exact q253) (by rw [nm_X2_copy_2]; exact q254)) <|
  fG mo_ald (sim_ald_n dX2_be_118 rfl) <|
  fG mo_getf (sim_getfG hG dX2_be_119 hc_2 (by decide) rfl in_X2 (fun _ _ _ h => h) (Or.inl q198)) <|
  fG mo_ald (sim_ald_n dX2_be_122 rfl) <|
  fG mo_getf (sim_getfG hG dX2_be_123 hc_2 (by decide) rfl in_X2 (fun _ _ _ h => h) (Or.inl q198)) <|
  fC (ic_cs (Or.inl rfl)) (sim_cs hG dX2_be_126 M_X2_copy_2 (by rw [nm_X2_copy_2]; rfl) (by rw [nm_X2_copy_2]; exact q253) (by rw [nm_X2_copy_2]; exact q254)) <|
  fG mo_ald (sim_ald_n dX2_be_129 rfl) <|
  fG mo_getf (sim_getfG hG dX2_be_130 hc_2 (by decide) rfl in_X2 (fun _ _ _ h => h) (Or.inl q200)) <|
  fG mo_ald (sim_ald_n dX2_be_133 rfl) <|
  fG mo_getf (sim_getfG hG dX2_be_134 hc_2 (by decide) rfl in_X2 (fun _ _ _ h => h) (Or.inl q200)) <|
  fC (ic_cs (Or.inl rfl)) (sim_cs hG dX2_be_137 M_X2_copy_2 (by rw [nm_X2_copy_2]; rfl) (by rw [nm_X2_copy_2]; exact q253) (by rw [nm_X2_copy_2]; exact q254)) <|
  fG mo_ald (sim_ald_n dX2_be_140 rfl) <|
  fG mo_getf (sim_getfG hG dX2_be_141 hc_2 (by decide) rfl in_X2 (fun _ _ _ h => h) (Or.inl q202)) <|
  fG mo_int (sim_iconst dX2_be_144 (by decide)) <|
  fG mo_ald (sim_ald_n dX2_be_145 rfl) <|
  fG mo_getf (sim_getfG hG dX2_be_146 hc_2 (by decide) rfl in_X2 (fun _ _ _ h => h) (Or.inl q202)) <|
  fG mo_int (sim_iconst dX2_be_149 (by decide)) <|
  fG mo_int (sim_iconst dX2_be_150 (by decide)) <|
  fG mo_acopy (sim_acopy hG dX2_be_151 q250 q252 q251 q129) <|
  fE ie_vret (sim_vret dX2_be_154 rfl)
theorem F_X2_be {X : tp_X} {az : Array Value} (hG : tp_Good X az) (hSt : tp_Stat X) (pc : Nat) : tp_Fit X yX2_be cX2_be none 2 tp_nm tp_by tp_ml tp_rtt pc (mX2_be pc) :=
  fI (fX2_be_0 hG hSt) <| trivial
theorem fX2_copy_0 {X : tp_X} {az : Array Value} (hG : tp_Good X az) (hSt : tp_Stat X) : tp_Fit X yX2_copy cX2_copy none 2 tp_nm tp_by tp_ml tp_rtt 0 [o_ald (.aload_n 0) 0, o_int (.iconst 0) 0, o_ald (.aload_n 1) 1, o_int (.iconst 0) 0, o_ald (.aload_n 0) 0, o_alen, o_acopy (.invokestatic 63), o_vret] :=
  fG mo_ald (sim_ald_n dX2_copy_0 rfl) <|
  fG mo_int (sim_iconst dX2_copy_1 (by decide)) <|
  fG mo_ald (sim_ald_n dX2_copy_2 rfl) <|
  fG mo_int (sim_iconst dX2_copy_3 (by decide)) <|
  fG mo_ald (sim_ald_n dX2_copy_4 rfl) <|
  fG mo_alen (sim_alen dX2_copy_5) <|
  fG mo_acopy (sim_acopy hG dX2_copy_6 q250 q252 q251 q129) <|
  fE ie_vret (sim_vret dX2_copy_9 rfl)
theorem F_X2_copy {X : tp_X} {az : Array Value} (hG : tp_Good X az) (hSt : tp_Stat X) (pc : Nat) : tp_Fit X yX2_copy cX2_copy none 2 tp_nm tp_by tp_ml tp_rtt pc (mX2_copy pc) :=
  fI (fX2_copy_0 hG hSt) <| trivial
theorem fX2_copy_2_0 {X : tp_X} {az : Array Value} (hG : tp_Good X az) (hSt : tp_Stat X) : tp_Fit X yX2_copy_2 cX2_copy_2 none 3 tp_nm tp_by tp_ml tp_rtt 0 [o_int (.iconst 0) 0, o_ist (.istore_n 2) 2, o_fall 2] :=
  fG mo_int (sim_iconst dX2_copy_2_0 (by decide)) <|
  fG mo_ist (sim_ist_n dX2_copy_2_1 rfl) <|
  fF
theorem fX2_copy_2_2 {X : tp_X} {az : Array Value} (hG : tp_Good X az) (hSt : tp_Stat X) : tp_Fit X yX2_copy_2 cX2_copy_2 none 3 tp_nm tp_by tp_ml tp_rtt 2 [o_ild (.iload_n 2) 2, o_ald (.aload_n 0) 0, o_alen, o_icmpge 18 23, o_ald (.aload_n 0) 0, o_ild (.iload_n 2) 2, o_lda .aaload [4, 5, 6, 7, 28, 29], o_ald (.aload_n 1) 1, o_ild (.iload_n 2) 2, o_lda .aaload [4, 5, 6, 7, 28, 29], o_cs (.invokestatic 69) kX2_copy 2 0, o_inc 2 1, o_goto (-18) 2] :=
  fG mo_ild (sim_ild_n dX2_copy_2_2 rfl) <|
  fG mo_ald (sim_ald_n dX2_copy_2_3 rfl) <|
  fG mo_alen (sim_alen dX2_copy_2_4) <|
  fG mo_icmpge (sim_icmpge dX2_copy_2_5 rfl) <|
  fG mo_ald (sim_ald_n dX2_copy_2_8 rfl) <|
  fG mo_ild (sim_ild_n dX2_copy_2_9 rfl) <|
  fG mo_lda (sim_aald dX2_copy_2_10) <|
  fG mo_ald (sim_ald_n dX2_copy_2_11 rfl) <|
  fG mo_ild (sim_ild_n dX2_copy_2_12 rfl) <|
  fG mo_lda (sim_aald dX2_copy_2_13) <|
  fC (ic_cs (Or.inl rfl)) (sim_cs hG dX2_copy_2_14 M_X2_copy (by rw [nm_X2_copy]; rfl) (by rw [nm_X2_copy]; exact q247) (by rw [nm_X2_copy]; exact q248)) <|
  fG mo_inc (sim_inc dX2_copy_2_17 (by decide)) <|
  fG mo_goto (sim_goto dX2_copy_2_20 rfl) <|
  trivial
theorem fX2_copy_2_23 {X : tp_X} {az : Array Value} (hG : tp_Good X az) (hSt : tp_Stat X) : tp_Fit X yX2_copy_2 cX2_copy_2 none 3 tp_nm tp_by tp_ml tp_rtt 23 [o_vret] :=
  fE ie_vret (sim_vret dX2_copy_2_23 rfl)
theorem F_X2_copy_2 {X : tp_X} {az : Array Value} (hG : tp_Good X az) (hSt : tp_Stat X) (pc : Nat) : tp_Fit X yX2_copy_2 cX2_copy_2 none 3 tp_nm tp_by tp_ml tp_rtt pc (mX2_copy_2 pc) :=
  fI (fX2_copy_2_0 hG hSt) <| fI (fX2_copy_2_2 hG hSt) <| fI (fX2_copy_2_23 hG hSt) <| trivial
theorem fX3_init_0 {X : tp_X} {az : Array Value} (hG : tp_Good X az) (hSt : tp_Stat X) : tp_Fit X yX3_init cX3_init none 4 tp_nm tp_by tp_ml tp_rtt 0 [o_ald (.aload_n 0) 0, o_objinit (.invokespecial 1), o_ald (.aload_n 0) 0, o_int (.sipush 280) 280, o_newa (.newarray .int) 0, o_putf (.putfield 7) 3 3 4, o_ald (.aload_n 0) 0, o_int (.sipush 280) 280, o_newa (.newarray .int) 0, o_putf (.putfield 13) 3 4 4, o_ald (.aload_n 0) 0, o_int (.sipush 3200) 3200, o_newa (.newarray .int) 0, o_putf (.putfield 16) 3 5 4, o_ald (.aload_n 0) 0, o_int (.sipush 300) 300, o_newa (.newarray .int) 0, o_putf (.putfield 19) 3 6 4, o_ald (.aload_n 0) 0, o_int (.iconst (-1)) (-1), o_putf (.putfield 22) 3 8 0, o_ald (.aload_n 0) 0, o_int (.iconst (-1)) (-1), o_putf (.putfield 26) 3 9 0, o_ald (.aload_n 0) 0, o_int (.sipush 160) 160, o_newa (.newarray .int) 0, o_putf (.putfield 29) 3 19 4, o_ald (.aload_n 0) 0, o_int (.bipush 11) 11, o_newa (.newarray .int) 0, o_putf (.putfield 32) 3 25 4, o_ald (.aload_n 0) 0, o_int (.sipush 330) 330, o_newa (.newarray .long) 3, o_putf (.putfield 35) 3 26 4, o_ald (.aload_n 0) 0, o_int (.sipush 330) 330, o_newa (.newarray .boolean) 1, o_putf (.putfield 39) 3 27 4, o_ald (.aload_n 0) 0, o_int (.sipush 720) 720, o_newa (.newarray .int) 0, o_putf (.putfield 43) 3 28 4, o_ald (.aload_n 0) 0, o_int (.sipush 468) 468, o_newa (.newarray .int) 0, o_putf (.putfield 46) 3 29 4, o_ald (.aload_n 0) 0, o_int (.sipush 468) 468, o_newa (.newarray .boolean) 1, o_putf (.putfield 49) 3 30 4, o_ald (.aload_n 0) 0, o_int (.ldc 52) 93600, o_newa (.newarray .int) 0, o_putf (.putfield 53) 3 31 4, o_ald (.aload_n 0) 0, o_int (.bipush 13) 13, o_newa (.newarray .int) 0, o_putf (.putfield 56) 3 33 4, o_ald (.aload_n 0) 0, o_int (.bipush 13) 13, o_newa (.newarray .int) 0, o_putf (.putfield 59) 3 34 4, o_ald (.aload_n 0) 0, o_int (.bipush 13) 13, o_newa (.newarray .int) 0, o_putf (.putfield 62) 3 35 4, o_ald (.aload_n 0) 0, o_int (.ldc 52) 93600, o_newa (.newarray .boolean) 1, o_putf (.putfield 65) 3 36 4, o_ald (.aload_n 0) 0, o_int (.bipush 36) 36, o_newa (.newarray .boolean) 1, o_putf (.putfield 68) 3 37 4, o_ald (.aload_n 0) 0, o_int (.bipush 36) 36, o_newa (.newarray .boolean) 1, o_putf (.putfield 71) 3 38 4, o_ald (.aload_n 0) 0, o_int (.bipush 13) 13, o_newa (.newarray .int) 0, o_putf (.putfield 74) 3 40 4, o_ald (.aload_n 0) 0, o_ild (.iload_n 1) 1, o_int (.iconst 3) 3, o_icmpge 7 186, o_int (.iconst 3) 3, o_goto 15 198] :=
  fG mo_ald (sim_ald_n dX3_init_0 rfl) <|
  fG mo_objinit (sim_objinit hG dX3_init_1 q1247 q163 q164) <|
  fG mo_ald (sim_ald_n dX3_init_4 rfl) <|
  fG mo_int (sim_sipush dX3_init_5 (by decide)) <|
  fG mo_newa (sim_newa hG dX3_init_8 q231 ⟨rfl, by decide⟩) <|
  fG mo_putf (sim_putfF hG dX3_init_10 hc_3 (by decide) rfl (by decide) in_X3 tyX3_ok nmX3 (Or.inr (Or.inr (Or.inr (Or.inr ⟨Or.inr ⟨_, rfl⟩, by decide⟩)))) (fun _ _ _ h => h) rfl rfl rfl q1255) <|
  fG mo_ald (sim_ald_n dX3_init_13 rfl) <|
  fG mo_int (sim_sipush dX3_init_14 (by decide)) <|
  fG mo_newa (sim_newa hG dX3_init_17 q231 ⟨rfl, by decide⟩) <|
  fG mo_putf (sim_putfF hG dX3_init_19 hc_3 (by decide) rfl (by decide) in_X3 tyX3_ok nmX3 (Or.inr (Or.inr (Or.inr (Or.inr ⟨Or.inr ⟨_, rfl⟩, by decide⟩)))) (fun _ _ _ h => h) rfl rfl rfl q1256) <|
  fG mo_ald (sim_ald_n dX3_init_22 rfl) <|
  fG mo_int (sim_sipush dX3_init_23 (by decide)) <|
  fG mo_newa (sim_newa hG dX3_init_26 q231 ⟨rfl, by decide⟩) <|
  fG mo_putf (sim_putfF hG dX3_init_28 hc_3 (by decide) rfl (by decide) in_X3 tyX3_ok nmX3 (Or.inr (Or.inr (Or.inr (Or.inr ⟨Or.inr ⟨_, rfl⟩, by decide⟩)))) (fun _ _ _ h => h) rfl rfl rfl q1257) <|
  fG mo_ald (sim_ald_n dX3_init_31 rfl) <|
  fG mo_int (sim_sipush dX3_init_32 (by decide)) <|
  fG mo_newa (sim_newa hG dX3_init_35 q231 ⟨rfl, by decide⟩) <|
  fG mo_putf (sim_putfF hG dX3_init_37 hc_3 (by decide) rfl (by decide) in_X3 tyX3_ok nmX3 (Or.inr (Or.inr (Or.inr (Or.inr ⟨Or.inr ⟨_, rfl⟩, by decide⟩)))) (fun _ _ _ h => h) rfl rfl rfl q1258) <|
  fG mo_ald (sim_ald_n dX3_init_40 rfl) <|
  fG mo_int (sim_iconst dX3_init_41 (by decide)) <|
  fG mo_putf (sim_putf hG dX3_init_42 hc_3 (by decide) rfl (by decide) in_X3 tyX3_ok nmX3 (Or.inl ⟨rfl, rfl⟩) (fun _ _ _ h => h) rfl q1260) <|
  fG mo_ald (sim_ald_n dX3_init_45 rfl) <|
  fG mo_int (sim_iconst dX3_init_46 (by decide)) <|
  fG mo_putf (sim_putf hG dX3_init_47 hc_3 (by decide) rfl (by decide) in_X3 tyX3_ok nmX3 (Or.inl ⟨rfl, rfl⟩) (fun _ _ _ h => h) rfl q1261) <|
  fG mo_ald (sim_ald_n dX3_init_50 rfl) <|
  fG mo_int (sim_sipush dX3_init_51 (by decide)) <|
  fG mo_newa (sim_newa hG dX3_init_54 q231 ⟨rfl, by decide⟩) <|
  fG mo_putf (sim_putfF hG dX3_init_56 hc_3 (by decide) rfl (by decide) in_X3 tyX3_ok nmX3 (Or.inr (Or.inr (Or.inr (Or.inr ⟨Or.inr ⟨_, rfl⟩, by decide⟩)))) (fun _ _ _ h => h) rfl rfl rfl q1269) <|
  fG mo_ald (sim_ald_n dX3_init_59 rfl) <|
  fG mo_int (sim_bipush dX3_init_60 (by decide)) <|
  fG mo_newa (sim_newa hG dX3_init_62 q231 ⟨rfl, by decide⟩) <|
  fG mo_putf (sim_putfF hG dX3_init_64 hc_3 (by decide) rfl (by decide) in_X3 tyX3_ok nmX3 (Or.inr (Or.inr (Or.inr (Or.inr ⟨Or.inr ⟨_, rfl⟩, by decide⟩)))) (fun _ _ _ h => h) rfl rfl rfl q1275) <|
  fG mo_ald (sim_ald_n dX3_init_67 rfl) <|
  fG mo_int (sim_sipush dX3_init_68 (by decide)) <|
  fG mo_newa (sim_newa hG dX3_init_71 q1193 ⟨rfl, by decide⟩) <|
  fG mo_putf (sim_putfF hG dX3_init_73 hc_3 (by decide) rfl (by decide) in_X3 tyX3_ok nmX3 (Or.inr (Or.inr (Or.inr (Or.inr ⟨Or.inr ⟨_, rfl⟩, by decide⟩)))) (fun _ _ _ h => h) rfl rfl rfl q1276) <|
  fG mo_ald (sim_ald_n dX3_init_76 rfl) <|
  fG mo_int (sim_sipush dX3_init_77 (by decide)) <|
  fG mo_newa (sim_newa hG dX3_init_80 q232 ⟨rfl, by decide⟩) <|
  fG mo_putf (sim_putfF hG dX3_init_82 hc_3 (by decide) rfl (by decide) in_X3 tyX3_ok nmX3 (Or.inr (Or.inr (Or.inr (Or.inr ⟨Or.inr ⟨_, rfl⟩, by decide⟩)))) (fun _ _ _ h => h) rfl rfl rfl q1277) <|
  fG mo_ald (sim_ald_n dX3_init_85 rfl) <|
  fG mo_int (sim_sipush dX3_init_86 (by decide)) <|
  fG mo_newa (sim_newa hG dX3_init_89 q231 ⟨rfl, by decide⟩) <|
  fG mo_putf (sim_putfF hG dX3_init_91 hc_3 (by decide) rfl (by decide) in_X3 tyX3_ok nmX3 (Or.inr (Or.inr (Or.inr (Or.inr ⟨Or.inr ⟨_, rfl⟩, by decide⟩)))) (fun _ _ _ h => h) rfl rfl rfl q1278) <|
  fG mo_ald (sim_ald_n dX3_init_94 rfl) <|
  fG mo_int (sim_sipush dX3_init_95 (by decide)) <|
  fG mo_newa (sim_newa hG dX3_init_98 q231 ⟨rfl, by decide⟩) <|
  fG mo_putf (sim_putfF hG dX3_init_100 hc_3 (by decide) rfl (by decide) in_X3 tyX3_ok nmX3 (Or.inr (Or.inr (Or.inr (Or.inr ⟨Or.inr ⟨_, rfl⟩, by decide⟩)))) (fun _ _ _ h => h) rfl rfl rfl q1279) <|
  fG mo_ald (sim_ald_n dX3_init_103 rfl) <|
  fG mo_int (sim_sipush dX3_init_104 (by decide)) <|
  fG mo_newa (sim_newa hG dX3_init_107 q232 ⟨rfl, by decide⟩) <|
  fG mo_putf (sim_putfF hG dX3_init_109 hc_3 (by decide) rfl (by decide) in_X3 tyX3_ok nmX3 (Or.inr (Or.inr (Or.inr (Or.inr ⟨Or.inr ⟨_, rfl⟩, by decide⟩)))) (fun _ _ _ h => h) rfl rfl rfl q1280) <|
  fG mo_ald (sim_ald_n dX3_init_112 rfl) <|
  fG mo_int (sim_ldc hG dX3_init_113 q1248 rfl) <|
  fG mo_newa (sim_newa hG dX3_init_115 q231 ⟨rfl, by decide⟩) <|
  fG mo_putf (sim_putfF hG dX3_init_117 hc_3 (by decide) rfl (by decide) in_X3 tyX3_ok nmX3 (Or.inr (Or.inr (Or.inr (Or.inr ⟨Or.inr ⟨_, rfl⟩, by decide⟩)))) (fun _ _ _ h => h) rfl rfl rfl q1281) <|
  fG mo_ald (sim_ald_n dX3_init_120 rfl) <|
  fG mo_int (sim_bipush dX3_init_121 (by decide)) <|
  fG mo_newa (sim_newa hG dX3_init_123 q231 ⟨rfl, by decide⟩) <|
  fG mo_putf (sim_putfF hG dX3_init_125 hc_3 (by decide) rfl (by decide) in_X3 tyX3_ok nmX3 (Or.inr (Or.inr (Or.inr (Or.inr ⟨Or.inr ⟨_, rfl⟩, by decide⟩)))) (fun _ _ _ h => h) rfl rfl rfl q1283) <|
  fG mo_ald (sim_ald_n dX3_init_128 rfl) <|
  fG mo_int (sim_bipush dX3_init_129 (by decide)) <|
  fG mo_newa (sim_newa hG dX3_init_131 q231 ⟨rfl, by decide⟩) <|
  fG mo_putf (sim_putfF hG dX3_init_133 hc_3 (by decide) rfl (by decide) in_X3 tyX3_ok nmX3 (Or.inr (Or.inr (Or.inr (Or.inr ⟨Or.inr ⟨_, rfl⟩, by decide⟩)))) (fun _ _ _ h => h) rfl rfl rfl q1284) <|
  fG mo_ald (sim_ald_n dX3_init_136 rfl) <|
  fG mo_int (sim_bipush dX3_init_137 (by decide)) <|
  fG mo_newa (sim_newa hG dX3_init_139 q231 ⟨rfl, by decide⟩) <|
  fG mo_putf (sim_putfF hG dX3_init_141 hc_3 (by decide) rfl (by decide) in_X3 tyX3_ok nmX3 (Or.inr (Or.inr (Or.inr (Or.inr ⟨Or.inr ⟨_, rfl⟩, by decide⟩)))) (fun _ _ _ h => h) rfl rfl rfl q1285) <|
  fG mo_ald (sim_ald_n dX3_init_144 rfl) <|
  fG mo_int (sim_ldc hG dX3_init_145 q1248 rfl) <|
  fG mo_newa (sim_newa hG dX3_init_147 q232 ⟨rfl, by decide⟩) <|
  fG mo_putf (sim_putfF hG dX3_init_149 hc_3 (by decide) rfl (by decide) in_X3 tyX3_ok nmX3 (Or.inr (Or.inr (Or.inr (Or.inr ⟨Or.inr ⟨_, rfl⟩, by decide⟩)))) (fun _ _ _ h => h) rfl rfl rfl q1286) <|
  fG mo_ald (sim_ald_n dX3_init_152 rfl) <|
  fG mo_int (sim_bipush dX3_init_153 (by decide)) <|
  fG mo_newa (sim_newa hG dX3_init_155 q232 ⟨rfl, by decide⟩) <|
  fG mo_putf (sim_putfF hG dX3_init_157 hc_3 (by decide) rfl (by decide) in_X3 tyX3_ok nmX3 (Or.inr (Or.inr (Or.inr (Or.inr ⟨Or.inr ⟨_, rfl⟩, by decide⟩)))) (fun _ _ _ h => h) rfl rfl rfl q1287) <|
  fG mo_ald (sim_ald_n dX3_init_160 rfl) <|
  fG mo_int (sim_bipush dX3_init_161 (by decide)) <|
  fG mo_newa (sim_newa hG dX3_init_163 q232 ⟨rfl, by decide⟩) <|
  fG mo_putf (sim_putfF hG dX3_init_165 hc_3 (by decide) rfl (by decide) in_X3 tyX3_ok nmX3 (Or.inr (Or.inr (Or.inr (Or.inr ⟨Or.inr ⟨_, rfl⟩, by decide⟩)))) (fun _ _ _ h => h) rfl rfl rfl q1288) <|
  fG mo_ald (sim_ald_n dX3_init_168 rfl) <|
  fG mo_int (sim_bipush dX3_init_169 (by decide)) <|
  fG mo_newa (sim_newa hG dX3_init_171 q231 ⟨rfl, by decide⟩) <|
  fG mo_putf (sim_putfF hG dX3_init_173 hc_3 (by decide) rfl (by decide) in_X3 tyX3_ok nmX3 (Or.inr (Or.inr (Or.inr (Or.inr ⟨Or.inr ⟨_, rfl⟩, by decide⟩)))) (fun _ _ _ h => h) rfl rfl rfl q1290) <|
  fG mo_ald (sim_ald_n dX3_init_176 rfl) <|
  fG mo_ild (sim_ild_n dX3_init_177 rfl) <|
  fG mo_int (sim_iconst dX3_init_178 (by decide)) <|
  fG mo_icmpge (sim_icmpge dX3_init_179 rfl) <|
  fG mo_int (sim_iconst dX3_init_182 (by decide)) <|
  fG mo_goto (sim_goto dX3_init_183 rfl) <|
  trivial
theorem fX3_init_186 {X : tp_X} {az : Array Value} (hG : tp_Good X az) (hSt : tp_Stat X) : tp_Fit X yX3_init cX3_init none 4 tp_nm tp_by tp_ml tp_rtt 186 [o_ild (.iload_n 1) 1, o_int (.bipush 6) 6, o_icmple 8 197, o_int (.bipush 6) 6, o_goto 4 198] :=
  fG mo_ild (sim_ild_n dX3_init_186 rfl) <|
  fG mo_int (sim_bipush dX3_init_187 (by decide)) <|
  fG mo_icmple (sim_icmple dX3_init_189 rfl) <|
  fG mo_int (sim_bipush dX3_init_192 (by decide)) <|
  fG mo_goto (sim_goto dX3_init_194 rfl) <|
  trivial
theorem fX3_init_197 {X : tp_X} {az : Array Value} (hG : tp_Good X az) (hSt : tp_Stat X) : tp_Fit X yX3_init cX3_init none 4 tp_nm tp_by tp_ml tp_rtt 197 [o_ild (.iload_n 1) 1, o_fall 198] :=
  fG mo_ild (sim_ild_n dX3_init_197 rfl) <|
  fF
theorem fX3_init_198 {X : tp_X} {az : Array Value} (hG : tp_Good X az) (hSt : tp_Stat X) : tp_Fit X yX3_init cX3_init none 4 tp_nm tp_by tp_ml tp_rtt 198 [o_putf (.putfield 77) 3 0 0, o_ald (.aload_n 0) 0, o_ild (.iload_n 2) 2, o_int (.iconst 3) 3, o_icmpge 7 211, o_int (.iconst 3) 3, o_goto 15 223] :=
  fG mo_putf (sim_putfF hG dX3_init_198 hc_3 (by decide) rfl (by decide) in_X3 tyX3_ok nmX3 (Or.inl ⟨rfl, rfl⟩) (fun _ _ _ h => h) rfl rfl rfl q1252) <|
  fG mo_ald (sim_ald_n dX3_init_201 rfl) <|
  fG mo_ild (sim_ild_n dX3_init_202 rfl) <|
  fG mo_int (sim_iconst dX3_init_203 (by decide)) <|
  fG mo_icmpge (sim_icmpge dX3_init_204 rfl) <|
  fG mo_int (sim_iconst dX3_init_207 (by decide)) <|
  fG mo_goto (sim_goto dX3_init_208 rfl) <|
  trivial
theorem fX3_init_211 {X : tp_X} {az : Array Value} (hG : tp_Good X az) (hSt : tp_Stat X) : tp_Fit X yX3_init cX3_init none 4 tp_nm tp_by tp_ml tp_rtt 211 [o_ild (.iload_n 2) 2, o_int (.bipush 6) 6, o_icmple 8 222, o_int (.bipush 6) 6, o_goto 4 223] :=
  fG mo_ild (sim_ild_n dX3_init_211 rfl) <|
  fG mo_int (sim_bipush dX3_init_212 (by decide)) <|
  fG mo_icmple (sim_icmple dX3_init_214 rfl) <|
  fG mo_int (sim_bipush dX3_init_217 (by decide)) <|
  fG mo_goto (sim_goto dX3_init_219 rfl) <|
  trivial
theorem fX3_init_222 {X : tp_X} {az : Array Value} (hG : tp_Good X az) (hSt : tp_Stat X) : tp_Fit X yX3_init cX3_init none 4 tp_nm tp_by tp_ml tp_rtt 222 [o_ild (.iload_n 2) 2, o_fall 223] :=
  fG mo_ild (sim_ild_n dX3_init_222 rfl) <|
  fF
theorem fX3_init_223 {X : tp_X} {az : Array Value} (hG : tp_Good X az) (hSt : tp_Stat X) : tp_Fit X yX3_init cX3_init none 4 tp_nm tp_by tp_ml tp_rtt 223 [o_putf (.putfield 80) 3 1 0, o_ald (.aload_n 0) 0, o_ald (.aload_n 0) 0, o_getf (.getfield 77) 3 0, o_ald (.aload_n 0) 0, o_getf (.getfield 80) 3 1, o_imul, o_putf (.putfield 83) 3 2 0, o_ald (.aload_n 0) 0, o_getf (.getfield 7) 3 3, o_int (.iconst 3) 3, o_int (.iconst (-1)) (-1), o_sta .iastore [0], o_ald (.aload_n 0) 0, o_getf (.getfield 7) 3 3, o_int (.bipush 9) 9, o_int (.iconst 1) 1, o_sta .iastore [0], o_ald (.aload_n 0) 0, o_getf (.getfield 7) 3 3, o_int (.bipush 10) 10, o_int (.iconst 2) 2, o_sta .iastore [0], o_ald (.aload_n 0) 0, o_getf (.getfield 7) 3 3, o_int (.bipush 11) 11, o_int (.iconst 3) 3, o_sta .iastore [0], o_ald (.aload_n 0) 0, o_getf (.getfield 7) 3 3, o_int (.bipush 21) 21, o_int (.bipush 20) 20, o_sta .iastore [0], o_ald (.aload_n 0) 0, o_getf (.getfield 7) 3 3, o_int (.bipush 24) 24, o_int (.iconst 1) 1, o_sta .iastore [0], o_ald (.aload_n 0) 0, o_getf (.getfield 7) 3 3, o_int (.bipush 26) 26, o_int (.bipush 20) 20, o_sta .iastore [0], o_int (.iconst 0) 0, o_ist (.istore_n 3) 3, o_fall 298] :=
  fG mo_putf (sim_putfF hG dX3_init_223 hc_3 (by decide) rfl (by decide) in_X3 tyX3_ok nmX3 (Or.inl ⟨rfl, rfl⟩) (fun _ _ _ h => h) rfl rfl rfl q1253) <|
  fG mo_ald (sim_ald_n dX3_init_226 rfl) <|
  fG mo_ald (sim_ald_n dX3_init_227 rfl) <|
  fG mo_getf (sim_getfG hG dX3_init_228 hc_3 (by decide) rfl in_X3 (fun _ _ _ h => h) (Or.inl q1252)) <|
  fG mo_ald (sim_ald_n dX3_init_231 rfl) <|
  fG mo_getf (sim_getfG hG dX3_init_232 hc_3 (by decide) rfl in_X3 (fun _ _ _ h => h) (Or.inl q1253)) <|
  fG mo_imul (sim_imul dX3_init_235) <|
  fG mo_putf (sim_putfF hG dX3_init_236 hc_3 (by decide) rfl (by decide) in_X3 tyX3_ok nmX3 (Or.inl ⟨rfl, rfl⟩) (fun _ _ _ h => h) rfl rfl rfl q1254) <|
  fG mo_ald (sim_ald_n dX3_init_239 rfl) <|
  fG mo_getf (sim_getfG hG dX3_init_240 hc_3 (by decide) rfl in_X3 (fun _ _ _ h => h) (Or.inl q1255)) <|
  fG mo_int (sim_iconst dX3_init_243 (by decide)) <|
  fG mo_int (sim_iconst dX3_init_244 (by decide)) <|
  fG mo_sta (sim_iast dX3_init_245) <|
  fG mo_ald (sim_ald_n dX3_init_246 rfl) <|
  fG mo_getf (sim_getfG hG dX3_init_247 hc_3 (by decide) rfl in_X3 (fun _ _ _ h => h) (Or.inl q1255)) <|
  fG mo_int (sim_bipush dX3_init_250 (by decide)) <|
  fG mo_int (sim_iconst dX3_init_252 (by decide)) <|
  fG mo_sta (sim_iast dX3_init_253) <|
  fG mo_ald (sim_ald_n dX3_init_254 rfl) <|
  fG mo_getf (sim_getfG hG dX3_init_255 hc_3 (by decide) rfl in_X3 (fun _ _ _ h => h) (Or.inl q1255)) <|
  fG mo_int (sim_bipush dX3_init_258 (by decide)) <|
  fG mo_int (sim_iconst dX3_init_260 (by decide)) <|
  fG mo_sta (sim_iast dX3_init_261) <|
  fG mo_ald (sim_ald_n dX3_init_262 rfl) <|
  fG mo_getf (sim_getfG hG dX3_init_263 hc_3 (by decide) rfl in_X3 (fun _ _ _ h => h) (Or.inl q1255)) <|
  fG mo_int (sim_bipush dX3_init_266 (by decide)) <|
  fG mo_int (sim_iconst dX3_init_268 (by decide)) <|
  fG mo_sta (sim_iast dX3_init_269) <|
  fG mo_ald (sim_ald_n dX3_init_270 rfl) <|
  fG mo_getf (sim_getfG hG dX3_init_271 hc_3 (by decide) rfl in_X3 (fun _ _ _ h => h) (Or.inl q1255)) <|
  fG mo_int (sim_bipush dX3_init_274 (by decide)) <|
  fG mo_int (sim_bipush dX3_init_276 (by decide)) <|
  fG mo_sta (sim_iast dX3_init_278) <|
  fG mo_ald (sim_ald_n dX3_init_279 rfl) <|
  fG mo_getf (sim_getfG hG dX3_init_280 hc_3 (by decide) rfl in_X3 (fun _ _ _ h => h) (Or.inl q1255)) <|
  fG mo_int (sim_bipush dX3_init_283 (by decide)) <|
  fG mo_int (sim_iconst dX3_init_285 (by decide)) <|
  fG mo_sta (sim_iast dX3_init_286) <|
  fG mo_ald (sim_ald_n dX3_init_287 rfl) <|
  fG mo_getf (sim_getfG hG dX3_init_288 hc_3 (by decide) rfl in_X3 (fun _ _ _ h => h) (Or.inl q1255)) <|
  fG mo_int (sim_bipush dX3_init_291 (by decide)) <|
  fG mo_int (sim_bipush dX3_init_293 (by decide)) <|
  fG mo_sta (sim_iast dX3_init_295) <|
  fG mo_int (sim_iconst dX3_init_296 (by decide)) <|
  fG mo_ist (sim_ist_n dX3_init_297 rfl) <|
  fF
theorem fX3_init_298 {X : tp_X} {az : Array Value} (hG : tp_Good X az) (hSt : tp_Stat X) : tp_Fit X yX3_init cX3_init none 4 tp_nm tp_by tp_ml tp_rtt 298 [o_ild (.iload_n 3) 3, o_int (.iconst 4) 4, o_icmpge 23 323, o_ald (.aload_n 0) 0, o_getf (.getfield 7) 3 3, o_int (.sipush 160) 160, o_int (.iconst 5) 5, o_ild (.iload_n 3) 3, o_imul, o_iadd, o_int (.bipush 10) 10, o_sta .iastore [0], o_inc 3 1, o_goto (-22) 298] :=
  fG mo_ild (sim_ild_n dX3_init_298 rfl) <|
  fG mo_int (sim_iconst dX3_init_299 (by decide)) <|
  fG mo_icmpge (sim_icmpge dX3_init_300 rfl) <|
  fG mo_ald (sim_ald_n dX3_init_303 rfl) <|
  fG mo_getf (sim_getfG hG dX3_init_304 hc_3 (by decide) rfl in_X3 (fun _ _ _ h => h) (Or.inl q1255)) <|
  fG mo_int (sim_sipush dX3_init_307 (by decide)) <|
  fG mo_int (sim_iconst dX3_init_310 (by decide)) <|
  fG mo_ild (sim_ild_n dX3_init_311 rfl) <|
  fG mo_imul (sim_imul dX3_init_312) <|
  fG mo_iadd (sim_iadd dX3_init_313) <|
  fG mo_int (sim_bipush dX3_init_314 (by decide)) <|
  fG mo_sta (sim_iast dX3_init_316) <|
  fG mo_inc (sim_inc dX3_init_317 (by decide)) <|
  fG mo_goto (sim_goto dX3_init_320 rfl) <|
  trivial
theorem fX3_init_323 {X : tp_X} {az : Array Value} (hG : tp_Good X az) (hSt : tp_Stat X) : tp_Fit X yX3_init cX3_init none 4 tp_nm tp_by tp_ml tp_rtt 323 [o_int (.iconst 0) 0, o_ist (.istore_n 3) 3, o_fall 325] :=
  fG mo_int (sim_iconst dX3_init_323 (by decide)) <|
  fG mo_ist (sim_ist_n dX3_init_324 rfl) <|
  fF
theorem fX3_init_325 {X : tp_X} {az : Array Value} (hG : tp_Good X az) (hSt : tp_Stat X) : tp_Fit X yX3_init cX3_init none 4 tp_nm tp_by tp_ml tp_rtt 325 [o_ild (.iload_n 3) 3, o_int (.bipush 12) 12, o_icmpge 20 348, o_ald (.aload_n 0) 0, o_getf (.getfield 7) 3 3, o_int (.sipush 195) 195, o_ild (.iload_n 3) 3, o_iadd, o_int (.iconst 4) 4, o_sta .iastore [0], o_inc 3 1, o_goto (-20) 325] :=
  fG mo_ild (sim_ild_n dX3_init_325 rfl) <|
  fG mo_int (sim_bipush dX3_init_326 (by decide)) <|
  fG mo_icmpge (sim_icmpge dX3_init_328 rfl) <|
  fG mo_ald (sim_ald_n dX3_init_331 rfl) <|
  fG mo_getf (sim_getfG hG dX3_init_332 hc_3 (by decide) rfl in_X3 (fun _ _ _ h => h) (Or.inl q1255)) <|
  fG mo_int (sim_sipush dX3_init_335 (by decide)) <|
  fG mo_ild (sim_ild_n dX3_init_338 rfl) <|
  fG mo_iadd (sim_iadd dX3_init_339) <|
  fG mo_int (sim_iconst dX3_init_340 (by decide)) <|
  fG mo_sta (sim_iast dX3_init_341) <|
  fG mo_inc (sim_inc dX3_init_342 (by decide)) <|
  fG mo_goto (sim_goto dX3_init_345 rfl) <|
  trivial
theorem fX3_init_348 {X : tp_X} {az : Array Value} (hG : tp_Good X az) (hSt : tp_Stat X) : tp_Fit X yX3_init cX3_init none 4 tp_nm tp_by tp_ml tp_rtt 348 [o_int (.iconst 0) 0, o_ist (.istore_n 3) 3, o_fall 350] :=
  fG mo_int (sim_iconst dX3_init_348 (by decide)) <|
  fG mo_ist (sim_ist_n dX3_init_349 rfl) <|
  fF
theorem fX3_init_350 {X : tp_X} {az : Array Value} (hG : tp_Good X az) (hSt : tp_Stat X) : tp_Fit X yX3_init cX3_init none 4 tp_nm tp_by tp_ml tp_rtt 350 [o_ild (.iload_n 3) 3, o_int (.bipush 6) 6, o_icmpge 20 373, o_ald (.aload_n 0) 0, o_getf (.getfield 7) 3 3, o_int (.sipush 210) 210, o_ild (.iload_n 3) 3, o_iadd, o_int (.iconst 1) 1, o_sta .iastore [0], o_inc 3 1, o_goto (-20) 350] :=
  fG mo_ild (sim_ild_n dX3_init_350 rfl) <|
  fG mo_int (sim_bipush dX3_init_351 (by decide)) <|
  fG mo_icmpge (sim_icmpge dX3_init_353 rfl) <|
  fG mo_ald (sim_ald_n dX3_init_356 rfl) <|
  fG mo_getf (sim_getfG hG dX3_init_357 hc_3 (by decide) rfl in_X3 (fun _ _ _ h => h) (Or.inl q1255)) <|
  fG mo_int (sim_sipush dX3_init_360 (by decide)) <|
  fG mo_ild (sim_ild_n dX3_init_363 rfl) <|
  fG mo_iadd (sim_iadd dX3_init_364) <|
  fG mo_int (sim_iconst dX3_init_365 (by decide)) <|
  fG mo_sta (sim_iast dX3_init_366) <|
  fG mo_inc (sim_inc dX3_init_367 (by decide)) <|
  fG mo_goto (sim_goto dX3_init_370 rfl) <|
  trivial
theorem fX3_init_373 {X : tp_X} {az : Array Value} (hG : tp_Good X az) (hSt : tp_Stat X) : tp_Fit X yX3_init cX3_init none 4 tp_nm tp_by tp_ml tp_rtt 373 [o_ald (.aload_n 0) 0, o_getf (.getfield 7) 3 3, o_ald (.aload_n 0) 0, o_getf (.getfield 13) 3 4, o_cs (.invokestatic 86) kX3_copyRow 2 0, o_vret] :=
  fG mo_ald (sim_ald_n dX3_init_373 rfl) <|
  fG mo_getf (sim_getfG hG dX3_init_374 hc_3 (by decide) rfl in_X3 (fun _ _ _ h => h) (Or.inl q1255)) <|
  fG mo_ald (sim_ald_n dX3_init_377 rfl) <|
  fG mo_getf (sim_getfG hG dX3_init_378 hc_3 (by decide) rfl in_X3 (fun _ _ _ h => h) (Or.inl q1256)) <|
  fC (ic_cs (Or.inl rfl)) (sim_cs hG dX3_init_381 M_X3_copyRow (by rw [nm_X3_copyRow]; rfl) (by rw [nm_X3_copyRow]; exact q1249) (by rw [nm_X3_copyRow]; exact q1250)) <|
  fE ie_vret (sim_vret dX3_init_384 rfl)
theorem F_X3_init {X : tp_X} {az : Array Value} (hG : tp_Good X az) (hSt : tp_Stat X) (pc : Nat) : tp_Fit X yX3_init cX3_init none 4 tp_nm tp_by tp_ml tp_rtt pc (mX3_init pc) :=
  fI (fX3_init_0 hG hSt) <| fI (fX3_init_186 hG hSt) <| fI (fX3_init_197 hG hSt) <| fI (fX3_init_198 hG hSt) <| fI (fX3_init_211 hG hSt) <| fI (fX3_init_222 hG hSt) <| fI (fX3_init_223 hG hSt) <| fI (fX3_init_298 hG hSt) <| fI (fX3_init_323 hG hSt) <| fI (fX3_init_325 hG hSt) <| fI (fX3_init_348 hG hSt) <| fI (fX3_init_350 hG hSt) <| fI (fX3_init_373 hG hSt) <| trivial
theorem fX3_copyRow_0 {X : tp_X} {az : Array Value} (hG : tp_Good X az) (hSt : tp_Stat X) : tp_Fit X yX3_copyRow cX3_copyRow none 3 tp_nm tp_by tp_ml tp_rtt 0 [o_int (.iconst 0) 0, o_ist (.istore_n 2) 2, o_fall 2] :=
  fG mo_int (sim_iconst dX3_copyRow_0 (by decide)) <|
  fG mo_ist (sim_ist_n dX3_copyRow_1 rfl) <|
  fF
theorem fX3_copyRow_2 {X : tp_X} {az : Array Value} (hG : tp_Good X az) (hSt : tp_Stat X) : tp_Fit X yX3_copyRow cX3_copyRow none 3 tp_nm tp_by tp_ml tp_rtt 2 [o_ild (.iload_n 2) 2, o_int (.sipush 280) 280, o_icmpge 15 21, o_ald (.aload_n 1) 1, o_ild (.iload_n 2) 2, o_ald (.aload_n 0) 0, o_ild (.iload_n 2) 2, o_lda .iaload [0, 20], o_sta .iastore [0], o_inc 2 1, o_goto (-16) 2] :=
  fG mo_ild (sim_ild_n dX3_copyRow_2 rfl) <|
  fG mo_int (sim_sipush dX3_copyRow_3 (by decide)) <|
  fG mo_icmpge (sim_icmpge dX3_copyRow_6 rfl) <|
  fG mo_ald (sim_ald_n dX3_copyRow_9 rfl) <|
  fG mo_ild (sim_ild_n dX3_copyRow_10 rfl) <|
  fG mo_ald (sim_ald_n dX3_copyRow_11 rfl) <|
  fG mo_ild (sim_ild_n dX3_copyRow_12 rfl) <|
  fG mo_lda (sim_iald dX3_copyRow_13) <|
  fG mo_sta (sim_iast dX3_copyRow_14) <|
  fG mo_inc (sim_inc dX3_copyRow_15 (by decide)) <|
  fG mo_goto (sim_goto dX3_copyRow_18 rfl) <|
  trivial
theorem fX3_copyRow_21 {X : tp_X} {az : Array Value} (hG : tp_Good X az) (hSt : tp_Stat X) : tp_Fit X yX3_copyRow cX3_copyRow none 3 tp_nm tp_by tp_ml tp_rtt 21 [o_vret] :=
  fE ie_vret (sim_vret dX3_copyRow_21 rfl)
theorem F_X3_copyRow {X : tp_X} {az : Array Value} (hG : tp_Good X az) (hSt : tp_Stat X) (pc : Nat) : tp_Fit X yX3_copyRow cX3_copyRow none 3 tp_nm tp_by tp_ml tp_rtt pc (mX3_copyRow pc) :=
  fI (fX3_copyRow_0 hG hSt) <| fI (fX3_copyRow_2 hG hSt) <| fI (fX3_copyRow_21 hG hSt) <| trivial
theorem fX3_ice_0 {X : tp_X} {az : Array Value} (hG : tp_Good X az) (hSt : tp_Stat X) : tp_Fit X yX3_ice cX3_ice (some .boolean) 3 tp_nm tp_by tp_ml tp_rtt 0 [o_ald (.aload_n 0) 0, o_ild (.iload_n 1) 1, o_cv (.invokevirtual 98) 3 kX3_isCell 1 0, o_ifeq 13 18, o_ild (.iload_n 2) 2, o_int (.iconst 0) 0, o_int (.bipush 99) 99, o_cs (.invokestatic 90) kX3_isIn 3 0, o_ifne 5 20, o_fall 18] :=
  fG mo_ald (sim_ald_n dX3_ice_0 rfl) <|
  fG mo_ild (sim_ild_n dX3_ice_1 rfl) <|
  fC (ic_cv (Or.inl rfl)) (sim_cv hG dX3_ice_2 (hG.2.1 3 _ hc_3).2.1 M_X3_isCell (by rw [nm_X3_isCell]; rfl) (by rw [nm_X3_isCell]; exact q1396) (by rw [nm_X3_isCell]; exact q1398) (by rw [nm_X3_isCell]; exact qs50)) <|
  fG mo_ifeq (sim_ifeq dX3_ice_5 rfl) <|
  fG mo_ild (sim_ild_n dX3_ice_8 rfl) <|
  fG mo_int (sim_iconst dX3_ice_9 (by decide)) <|
  fG mo_int (sim_bipush dX3_ice_10 (by decide)) <|
  fC (ic_cs (Or.inl rfl)) (sim_cs hG dX3_ice_12 M_X3_isIn (by rw [nm_X3_isIn]; rfl) (by rw [nm_X3_isIn]; exact q1400) (by rw [nm_X3_isIn]; exact q1401)) <|
  fG mo_ifne (sim_ifne dX3_ice_15 rfl) <|
  fF
theorem fX3_ice_18 {X : tp_X} {az : Array Value} (hG : tp_Good X az) (hSt : tp_Stat X) : tp_Fit X yX3_ice cX3_ice (some .boolean) 3 tp_nm tp_by tp_ml tp_rtt 18 [o_int (.iconst 0) 0, o_iret 1] :=
  fG mo_int (sim_iconst dX3_ice_18 (by decide)) <|
  fE ie_iret (sim_iret dX3_ice_19 rfl (Or.inr (Or.inl ⟨rfl, rfl⟩)))
theorem fX3_ice_20 {X : tp_X} {az : Array Value} (hG : tp_Good X az) (hSt : tp_Stat X) : tp_Fit X yX3_ice cX3_ice (some .boolean) 3 tp_nm tp_by tp_ml tp_rtt 20 [o_ald (.aload_n 0) 0, o_getf (.getfield 7) 3 3, o_int (.bipush 30) 30, o_ild (.iload_n 1) 1, o_iadd, o_ild (.iload_n 2) 2, o_sta .iastore [0], o_int (.iconst 1) 1, o_iret 1] :=
  fG mo_ald (sim_ald_n dX3_ice_20 rfl) <|
  fG mo_getf (sim_getfG hG dX3_ice_21 hc_3 (by decide) rfl in_X3 (fun _ _ _ h => h) (Or.inl q1255)) <|
  fG mo_int (sim_bipush dX3_ice_24 (by decide)) <|
  fG mo_ild (sim_ild_n dX3_ice_26 rfl) <|
  fG mo_iadd (sim_iadd dX3_ice_27) <|
  fG mo_ild (sim_ild_n dX3_ice_28 rfl) <|
  fG mo_sta (sim_iast dX3_ice_29) <|
  fG mo_int (sim_iconst dX3_ice_30 (by decide)) <|
  fE ie_iret (sim_iret dX3_ice_31 rfl (Or.inr (Or.inl ⟨rfl, rfl⟩)))
theorem F_X3_ice {X : tp_X} {az : Array Value} (hG : tp_Good X az) (hSt : tp_Stat X) (pc : Nat) : tp_Fit X yX3_ice cX3_ice (some .boolean) 3 tp_nm tp_by tp_ml tp_rtt pc (mX3_ice pc) :=
  fI (fX3_ice_0 hG hSt) <| fI (fX3_ice_18 hG hSt) <| fI (fX3_ice_20 hG hSt) <| trivial
theorem fX3_isCell_0 {X : tp_X} {az : Array Value} (hG : tp_Good X az) (hSt : tp_Stat X) : tp_Fit X yX3_isCell cX3_isCell (some .boolean) 2 tp_nm tp_by tp_ml tp_rtt 0 [o_ild (.iload_n 1) 1, o_int (.iconst 0) 0, o_ald (.aload_n 0) 0, o_getf (.getfield 83) 3 2, o_int (.iconst 1) 1, o_isub, o_cs (.invokestatic 90) kX3_isIn 3 0, o_iret 1] :=
  fG mo_ild (sim_ild_n dX3_isCell_0 rfl) <|
  fG mo_int (sim_iconst dX3_isCell_1 (by decide)) <|
  fG mo_ald (sim_ald_n dX3_isCell_2 rfl) <|
  fG mo_getf (sim_getfG hG dX3_isCell_3 hc_3 (by decide) rfl in_X3 (fun _ _ _ h => h) (Or.inl q1254)) <|
  fG mo_int (sim_iconst dX3_isCell_6 (by decide)) <|
  fG mo_isub (sim_isub dX3_isCell_7) <|
  fC (ic_cs (Or.inl rfl)) (sim_cs hG dX3_isCell_8 M_X3_isIn (by rw [nm_X3_isIn]; rfl) (by rw [nm_X3_isIn]; exact q1400) (by rw [nm_X3_isIn]; exact q1401)) <|
  fE ie_iret (sim_iret dX3_isCell_11 rfl (Or.inr (Or.inl ⟨rfl, rfl⟩)))
theorem F_X3_isCell {X : tp_X} {az : Array Value} (hG : tp_Good X az) (hSt : tp_Stat X) (pc : Nat) : tp_Fit X yX3_isCell cX3_isCell (some .boolean) 2 tp_nm tp_by tp_ml tp_rtt pc (mX3_isCell pc) :=
  fI (fX3_isCell_0 hG hSt) <| trivial
theorem fX3_isIn_0 {X : tp_X} {az : Array Value} (hG : tp_Good X az) (hSt : tp_Stat X) : tp_Fit X yX3_isIn cX3_isIn (some .boolean) 3 tp_nm tp_by tp_ml tp_rtt 0 [o_ild (.iload_n 0) 0, o_ild (.iload_n 1) 1, o_icmplt 12 14, o_ild (.iload_n 0) 0, o_ild (.iload_n 2) 2, o_icmpgt 7 14, o_int (.iconst 1) 1, o_goto 4 15] :=
  fG mo_ild (sim_ild_n dX3_isIn_0 rfl) <|
  fG mo_ild (sim_ild_n dX3_isIn_1 rfl) <|
  fG mo_icmplt (sim_icmplt dX3_isIn_2 rfl) <|
  fG mo_ild (sim_ild_n dX3_isIn_5 rfl) <|
  fG mo_ild (sim_ild_n dX3_isIn_6 rfl) <|
  fG mo_icmpgt (sim_icmpgt dX3_isIn_7 rfl) <|
  fG mo_int (sim_iconst dX3_isIn_10 (by decide)) <|
  fG mo_goto (sim_goto dX3_isIn_11 rfl) <|
  trivial
theorem fX3_isIn_14 {X : tp_X} {az : Array Value} (hG : tp_Good X az) (hSt : tp_Stat X) : tp_Fit X yX3_isIn cX3_isIn (some .boolean) 3 tp_nm tp_by tp_ml tp_rtt 14 [o_int (.iconst 0) 0, o_fall 15] :=
  fG mo_int (sim_iconst dX3_isIn_14 (by decide)) <|
  fF
theorem fX3_isIn_15 {X : tp_X} {az : Array Value} (hG : tp_Good X az) (hSt : tp_Stat X) : tp_Fit X yX3_isIn cX3_isIn (some .boolean) 3 tp_nm tp_by tp_ml tp_rtt 15 [o_iret 1] :=
  fE ie_iret (sim_iret dX3_isIn_15 rfl (Or.inr (Or.inl ⟨rfl, rfl⟩)))
theorem F_X3_isIn {X : tp_X} {az : Array Value} (hG : tp_Good X az) (hSt : tp_Stat X) (pc : Nat) : tp_Fit X yX3_isIn cX3_isIn (some .boolean) 3 tp_nm tp_by tp_ml tp_rtt pc (mX3_isIn pc) :=
  fI (fX3_isIn_0 hG hSt) <| fI (fX3_isIn_14 hG hSt) <| fI (fX3_isIn_15 hG hSt) <| trivial
theorem fX3_iceAt_0 {X : tp_X} {az : Array Value} (hG : tp_Good X az) (hSt : tp_Stat X) : tp_Fit X yX3_iceAt cX3_iceAt (some .int) 2 tp_nm tp_by tp_ml tp_rtt 0 [o_ald (.aload_n 0) 0, o_ild (.iload_n 1) 1, o_cv (.invokevirtual 98) 3 kX3_isCell 1 0, o_ifeq 15 20, o_ald (.aload_n 0) 0, o_getf (.getfield 7) 3 3, o_int (.bipush 30) 30, o_ild (.iload_n 1) 1, o_iadd, o_lda .iaload [0, 20], o_goto 4 21] :=
  fG mo_ald (sim_ald_n dX3_iceAt_0 rfl) <|
  fG mo_ild (sim_ild_n dX3_iceAt_1 rfl) <|
  fC (ic_cv (Or.inl rfl)) (sim_cv hG dX3_iceAt_2 (hG.2.1 3 _ hc_3).2.1 M_X3_isCell (by rw [nm_X3_isCell]; rfl) (by rw [nm_X3_isCell]; exact q1396) (by rw [nm_X3_isCell]; exact q1398) (by rw [nm_X3_isCell]; exact qs50)) <|
  fG mo_ifeq (sim_ifeq dX3_iceAt_5 rfl) <|
  fG mo_ald (sim_ald_n dX3_iceAt_8 rfl) <|
  fG mo_getf (sim_getfG hG dX3_iceAt_9 hc_3 (by decide) rfl in_X3 (fun _ _ _ h => h) (Or.inl q1255)) <|
  fG mo_int (sim_bipush dX3_iceAt_12 (by decide)) <|
  fG mo_ild (sim_ild_n dX3_iceAt_14 rfl) <|
  fG mo_iadd (sim_iadd dX3_iceAt_15) <|
  fG mo_lda (sim_iald dX3_iceAt_16) <|
  fG mo_goto (sim_goto dX3_iceAt_17 rfl) <|
  trivial
theorem fX3_iceAt_20 {X : tp_X} {az : Array Value} (hG : tp_Good X az) (hSt : tp_Stat X) : tp_Fit X yX3_iceAt cX3_iceAt (some .int) 2 tp_nm tp_by tp_ml tp_rtt 20 [o_int (.iconst (-1)) (-1), o_fall 21] :=
  fG mo_int (sim_iconst dX3_iceAt_20 (by decide)) <|
  fF
theorem fX3_iceAt_21 {X : tp_X} {az : Array Value} (hG : tp_Good X az) (hSt : tp_Stat X) : tp_Fit X yX3_iceAt cX3_iceAt (some .int) 2 tp_nm tp_by tp_ml tp_rtt 21 [o_iret 0] :=
  fE ie_iret (sim_iret dX3_iceAt_21 rfl (Or.inl ⟨rfl, rfl⟩))
theorem F_X3_iceAt {X : tp_X} {az : Array Value} (hG : tp_Good X az) (hSt : tp_Stat X) (pc : Nat) : tp_Fit X yX3_iceAt cX3_iceAt (some .int) 2 tp_nm tp_by tp_ml tp_rtt pc (mX3_iceAt pc) :=
  fI (fX3_iceAt_0 hG hSt) <| fI (fX3_iceAt_20 hG hSt) <| fI (fX3_iceAt_21 hG hSt) <| trivial
theorem fX3_mark_0 {X : tp_X} {az : Array Value} (hG : tp_Good X az) (hSt : tp_Stat X) : tp_Fit X yX3_mark cX3_mark (some .boolean) 4 tp_nm tp_by tp_ml tp_rtt 0 [o_ald (.aload_n 0) 0, o_ild (.iload_n 1) 1, o_cv (.invokevirtual 98) 3 kX3_isCell 1 0, o_ifne 5 10, o_int (.iconst 0) 0, o_iret 1] :=
  fG mo_ald (sim_ald_n dX3_mark_0 rfl) <|
  fG mo_ild (sim_ild_n dX3_mark_1 rfl) <|
  fC (ic_cv (Or.inl rfl)) (sim_cv hG dX3_mark_2 (hG.2.1 3 _ hc_3).2.1 M_X3_isCell (by rw [nm_X3_isCell]; rfl) (by rw [nm_X3_isCell]; exact q1396) (by rw [nm_X3_isCell]; exact q1398) (by rw [nm_X3_isCell]; exact qs50)) <|
  fG mo_ifne (sim_ifne dX3_mark_5 rfl) <|
  fG mo_int (sim_iconst dX3_mark_8 (by decide)) <|
  fE ie_iret (sim_iret dX3_mark_9 rfl (Or.inr (Or.inl ⟨rfl, rfl⟩)))
theorem fX3_mark_10 {X : tp_X} {az : Array Value} (hG : tp_Good X az) (hSt : tp_Stat X) : tp_Fit X yX3_mark cX3_mark (some .boolean) 4 tp_nm tp_by tp_ml tp_rtt 10 [o_ald (.aload_n 0) 0, o_getf (.getfield 7) 3 3, o_ild (.iload_n 2) 2, o_ifeq 8 23, o_int (.bipush 110) 110, o_goto 5 25] :=
  fG mo_ald (sim_ald_n dX3_mark_10 rfl) <|
  fG mo_getf (sim_getfG hG dX3_mark_11 hc_3 (by decide) rfl in_X3 (fun _ _ _ h => h) (Or.inl q1255)) <|
  fG mo_ild (sim_ild_n dX3_mark_14 rfl) <|
  fG mo_ifeq (sim_ifeq dX3_mark_15 rfl) <|
  fG mo_int (sim_bipush dX3_mark_18 (by decide)) <|
  fG mo_goto (sim_goto dX3_mark_20 rfl) <|
  trivial
theorem fX3_mark_23 {X : tp_X} {az : Array Value} (hG : tp_Good X az) (hSt : tp_Stat X) : tp_Fit X yX3_mark cX3_mark (some .boolean) 4 tp_nm tp_by tp_ml tp_rtt 23 [o_int (.bipush 70) 70, o_fall 25] :=
  fG mo_int (sim_bipush dX3_mark_23 (by decide)) <|
  fF
theorem fX3_mark_25 {X : tp_X} {az : Array Value} (hG : tp_Good X az) (hSt : tp_Stat X) : tp_Fit X yX3_mark cX3_mark (some .boolean) 4 tp_nm tp_by tp_ml tp_rtt 25 [o_ild (.iload_n 1) 1, o_iadd, o_ild (.iload_n 3) 3, o_ifeq 7 35, o_int (.iconst 1) 1, o_goto 4 36] :=
  fG mo_ild (sim_ild_n dX3_mark_25 rfl) <|
  fG mo_iadd (sim_iadd dX3_mark_26) <|
  fG mo_ild (sim_ild_n dX3_mark_27 rfl) <|
  fG mo_ifeq (sim_ifeq dX3_mark_28 rfl) <|
  fG mo_int (sim_iconst dX3_mark_31 (by decide)) <|
  fG mo_goto (sim_goto dX3_mark_32 rfl) <|
  trivial
theorem fX3_mark_35 {X : tp_X} {az : Array Value} (hG : tp_Good X az) (hSt : tp_Stat X) : tp_Fit X yX3_mark cX3_mark (some .boolean) 4 tp_nm tp_by tp_ml tp_rtt 35 [o_int (.iconst 0) 0, o_fall 36] :=
  fG mo_int (sim_iconst dX3_mark_35 (by decide)) <|
  fF
theorem fX3_mark_36 {X : tp_X} {az : Array Value} (hG : tp_Good X az) (hSt : tp_Stat X) : tp_Fit X yX3_mark cX3_mark (some .boolean) 4 tp_nm tp_by tp_ml tp_rtt 36 [o_sta .iastore [0], o_int (.iconst 1) 1, o_iret 1] :=
  fG mo_sta (sim_iast dX3_mark_36) <|
  fG mo_int (sim_iconst dX3_mark_37 (by decide)) <|
  fE ie_iret (sim_iret dX3_mark_38 rfl (Or.inr (Or.inl ⟨rfl, rfl⟩)))
theorem F_X3_mark {X : tp_X} {az : Array Value} (hG : tp_Good X az) (hSt : tp_Stat X) (pc : Nat) : tp_Fit X yX3_mark cX3_mark (some .boolean) 4 tp_nm tp_by tp_ml tp_rtt pc (mX3_mark pc) :=
  fI (fX3_mark_0 hG hSt) <| fI (fX3_mark_10 hG hSt) <| fI (fX3_mark_23 hG hSt) <| fI (fX3_mark_25 hG hSt) <| fI (fX3_mark_35 hG hSt) <| fI (fX3_mark_36 hG hSt) <| trivial
theorem fX3_edge_0 {X : tp_X} {az : Array Value} (hG : tp_Good X az) (hSt : tp_Stat X) : tp_Fit X yX3_edge cX3_edge (some .boolean) 2 tp_nm tp_by tp_ml tp_rtt 0 [o_ild (.iload_n 1) 1, o_int (.iconst 0) 0, o_int (.bipush 99) 99, o_cs (.invokestatic 90) kX3_isIn 3 0, o_ifne 5 12, o_int (.iconst 0) 0, o_iret 1] :=
  fG mo_ild (sim_ild_n dX3_edge_0 rfl) <|
  fG mo_int (sim_iconst dX3_edge_1 (by decide)) <|
  fG mo_int (sim_bipush dX3_edge_2 (by decide)) <|
  fC (ic_cs (Or.inl rfl)) (sim_cs hG dX3_edge_4 M_X3_isIn (by rw [nm_X3_isIn]; rfl) (by rw [nm_X3_isIn]; exact q1400) (by rw [nm_X3_isIn]; exact q1401)) <|
  fG mo_ifne (sim_ifne dX3_edge_7 rfl) <|
  fG mo_int (sim_iconst dX3_edge_10 (by decide)) <|
  fE ie_iret (sim_iret dX3_edge_11 rfl (Or.inr (Or.inl ⟨rfl, rfl⟩)))
theorem fX3_edge_12 {X : tp_X} {az : Array Value} (hG : tp_Good X az) (hSt : tp_Stat X) : tp_Fit X yX3_edge cX3_edge (some .boolean) 2 tp_nm tp_by tp_ml tp_rtt 12 [o_ald (.aload_n 0) 0, o_getf (.getfield 7) 3 3, o_int (.bipush 8) 8, o_ild (.iload_n 1) 1, o_sta .iastore [0], o_int (.iconst 1) 1, o_iret 1] :=
  fG mo_ald (sim_ald_n dX3_edge_12 rfl) <|
  fG mo_getf (sim_getfG hG dX3_edge_13 hc_3 (by decide) rfl in_X3 (fun _ _ _ h => h) (Or.inl q1255)) <|
  fG mo_int (sim_bipush dX3_edge_16 (by decide)) <|
  fG mo_ild (sim_ild_n dX3_edge_18 rfl) <|
  fG mo_sta (sim_iast dX3_edge_19) <|
  fG mo_int (sim_iconst dX3_edge_20 (by decide)) <|
  fE ie_iret (sim_iret dX3_edge_21 rfl (Or.inr (Or.inl ⟨rfl, rfl⟩)))
theorem F_X3_edge {X : tp_X} {az : Array Value} (hG : tp_Good X az) (hSt : tp_Stat X) (pc : Nat) : tp_Fit X yX3_edge cX3_edge (some .boolean) 2 tp_nm tp_by tp_ml tp_rtt pc (mX3_edge pc) :=
  fI (fX3_edge_0 hG hSt) <| fI (fX3_edge_12 hG hSt) <| trivial
theorem fX3_drift_0 {X : tp_X} {az : Array Value} (hG : tp_Good X az) (hSt : tp_Stat X) : tp_Fit X yX3_drift cX3_drift (some .boolean) 4 tp_nm tp_by tp_ml tp_rtt 0 [o_ild (.iload_n 1) 1, o_cs (.invokestatic 102) kX3_isWind 1 0, o_ifeq 21 25, o_ild (.iload_n 2) 2, o_int (.iconst (-1)) (-1), o_int (.iconst 1) 1, o_cs (.invokestatic 90) kX3_isIn 3 0, o_ifeq 12 25, o_ild (.iload_n 3) 3, o_int (.iconst (-1)) (-1), o_int (.iconst 1) 1, o_cs (.invokestatic 90) kX3_isIn 3 0, o_ifne 5 27, o_fall 25] :=
  fG mo_ild (sim_ild_n dX3_drift_0 rfl) <|
  fC (ic_cs (Or.inl rfl)) (sim_cs hG dX3_drift_1 M_X3_isWind (by rw [nm_X3_isWind]; rfl) (by rw [nm_X3_isWind]; exact q1419) (by rw [nm_X3_isWind]; exact q1420)) <|
  fG mo_ifeq (sim_ifeq dX3_drift_4 rfl) <|
  fG mo_ild (sim_ild_n dX3_drift_7 rfl) <|
  fG mo_int (sim_iconst dX3_drift_8 (by decide)) <|
  fG mo_int (sim_iconst dX3_drift_9 (by decide)) <|
  fC (ic_cs (Or.inl rfl)) (sim_cs hG dX3_drift_10 M_X3_isIn (by rw [nm_X3_isIn]; rfl) (by rw [nm_X3_isIn]; exact q1400) (by rw [nm_X3_isIn]; exact q1401)) <|
  fG mo_ifeq (sim_ifeq dX3_drift_13 rfl) <|
  fG mo_ild (sim_ild_n dX3_drift_16 rfl) <|
  fG mo_int (sim_iconst dX3_drift_17 (by decide)) <|
  fG mo_int (sim_iconst dX3_drift_18 (by decide)) <|
  fC (ic_cs (Or.inl rfl)) (sim_cs hG dX3_drift_19 M_X3_isIn (by rw [nm_X3_isIn]; rfl) (by rw [nm_X3_isIn]; exact q1400) (by rw [nm_X3_isIn]; exact q1401)) <|
  fG mo_ifne (sim_ifne dX3_drift_22 rfl) <|
  fF
theorem fX3_drift_25 {X : tp_X} {az : Array Value} (hG : tp_Good X az) (hSt : tp_Stat X) : tp_Fit X yX3_drift cX3_drift (some .boolean) 4 tp_nm tp_by tp_ml tp_rtt 25 [o_int (.iconst 0) 0, o_iret 1] :=
  fG mo_int (sim_iconst dX3_drift_25 (by decide)) <|
  fE ie_iret (sim_iret dX3_drift_26 rfl (Or.inr (Or.inl ⟨rfl, rfl⟩)))
theorem fX3_drift_27 {X : tp_X} {az : Array Value} (hG : tp_Good X az) (hSt : tp_Stat X) : tp_Fit X yX3_drift cX3_drift (some .boolean) 4 tp_nm tp_by tp_ml tp_rtt 27 [o_ald (.aload_n 0) 0, o_getf (.getfield 7) 3 3, o_int (.sipush 150) 150, o_int (.iconst 2) 2, o_ild (.iload_n 1) 1, o_imul, o_iadd, o_ild (.iload_n 2) 2, o_sta .iastore [0], o_ald (.aload_n 0) 0, o_getf (.getfield 7) 3 3, o_int (.sipush 150) 150, o_int (.iconst 2) 2, o_ild (.iload_n 1) 1, o_imul, o_iadd, o_int (.iconst 1) 1, o_iadd, o_ild (.iload_n 3) 3, o_sta .iastore [0], o_int (.iconst 1) 1, o_iret 1] :=
  fG mo_ald (sim_ald_n dX3_drift_27 rfl) <|
  fG mo_getf (sim_getfG hG dX3_drift_28 hc_3 (by decide) rfl in_X3 (fun _ _ _ h => h) (Or.inl q1255)) <|
  fG mo_int (sim_sipush dX3_drift_31 (by decide)) <|
  fG mo_int (sim_iconst dX3_drift_34 (by decide)) <|
  fG mo_ild (sim_ild_n dX3_drift_35 rfl) <|
  fG mo_imul (sim_imul dX3_drift_36) <|
  fG mo_iadd (sim_iadd dX3_drift_37) <|
  fG mo_ild (sim_ild_n dX3_drift_38 rfl) <|
  fG mo_sta (sim_iast dX3_drift_39) <|
  fG mo_ald (sim_ald_n dX3_drift_40 rfl) <|
  fG mo_getf (sim_getfG hG dX3_drift_41 hc_3 (by decide) rfl in_X3 (fun _ _ _ h => h) (Or.inl q1255)) <|
  fG mo_int (sim_sipush dX3_drift_44 (by decide)) <|
  fG mo_int (sim_iconst dX3_drift_47 (by decide)) <|
  fG mo_ild (sim_ild_n dX3_drift_48 rfl) <|
  fG mo_imul (sim_imul dX3_drift_49) <|
  fG mo_iadd (sim_iadd dX3_drift_50) <|
  fG mo_int (sim_iconst dX3_drift_51 (by decide)) <|
  fG mo_iadd (sim_iadd dX3_drift_52) <|
  fG mo_ild (sim_ild_n dX3_drift_53 rfl) <|
  fG mo_sta (sim_iast dX3_drift_54) <|
  fG mo_int (sim_iconst dX3_drift_55 (by decide)) <|
  fE ie_iret (sim_iret dX3_drift_56 rfl (Or.inr (Or.inl ⟨rfl, rfl⟩)))
theorem F_X3_drift {X : tp_X} {az : Array Value} (hG : tp_Good X az) (hSt : tp_Stat X) (pc : Nat) : tp_Fit X yX3_drift cX3_drift (some .boolean) 4 tp_nm tp_by tp_ml tp_rtt pc (mX3_drift pc) :=
  fI (fX3_drift_0 hG hSt) <| fI (fX3_drift_25 hG hSt) <| fI (fX3_drift_27 hG hSt) <| trivial
theorem fX3_isWind_0 {X : tp_X} {az : Array Value} (hG : tp_Good X az) (hSt : tp_Stat X) : tp_Fit X yX3_isWind cX3_isWind (some .boolean) 1 tp_nm tp_by tp_ml tp_rtt 0 [o_ild (.iload_n 0) 0, o_int (.iconst 0) 0, o_int (.iconst 3) 3, o_cs (.invokestatic 90) kX3_isIn 3 0, o_iret 1] :=
  fG mo_ild (sim_ild_n dX3_isWind_0 rfl) <|
  fG mo_int (sim_iconst dX3_isWind_1 (by decide)) <|
  fG mo_int (sim_iconst dX3_isWind_2 (by decide)) <|
  fC (ic_cs (Or.inl rfl)) (sim_cs hG dX3_isWind_3 M_X3_isIn (by rw [nm_X3_isIn]; rfl) (by rw [nm_X3_isIn]; exact q1400) (by rw [nm_X3_isIn]; exact q1401)) <|
  fE ie_iret (sim_iret dX3_isWind_6 rfl (Or.inr (Or.inl ⟨rfl, rfl⟩)))
theorem F_X3_isWind {X : tp_X} {az : Array Value} (hG : tp_Good X az) (hSt : tp_Stat X) (pc : Nat) : tp_Fit X yX3_isWind cX3_isWind (some .boolean) 1 tp_nm tp_by tp_ml tp_rtt pc (mX3_isWind pc) :=
  fI (fX3_isWind_0 hG hSt) <| trivial
theorem fX3_chances_0 {X : tp_X} {az : Array Value} (hG : tp_Good X az) (hSt : tp_Stat X) : tp_Fit X yX3_chances cX3_chances (some .boolean) 6 tp_nm tp_by tp_ml tp_rtt 0 [o_ild (.iload_n 1) 1, o_cs (.invokestatic 102) kX3_isWind 1 0, o_ifeq 59 63, o_ild (.iload_n 2) 2, o_int (.iconst 0) 0, o_int (.bipush 10) 10, o_cs (.invokestatic 90) kX3_isIn 3 0, o_ifeq 49 63, o_ild (.iload_n 3) 3, o_int (.iconst 0) 0, o_int (.bipush 10) 10, o_cs (.invokestatic 90) kX3_isIn 3 0, o_ifeq 39 63, o_ild (.iload 4) 4, o_int (.iconst 0) 0, o_int (.bipush 10) 10, o_cs (.invokestatic 90) kX3_isIn 3 0, o_ifeq 28 63, o_ild (.iload 5) 5, o_int (.iconst 0) 0, o_int (.bipush 10) 10, o_cs (.invokestatic 90) kX3_isIn 3 0, o_ifeq 17 63, o_ild (.iload_n 2) 2, o_ild (.iload_n 3) 3, o_iadd, o_ild (.iload 4) 4, o_iadd, o_ild (.iload 5) 5, o_iadd, o_int (.bipush 10) 10, o_icmpeq 5 65, o_fall 63] :=
  fG mo_ild (sim_ild_n dX3_chances_0 rfl) <|
  fC (ic_cs (Or.inl rfl)) (sim_cs hG dX3_chances_1 M_X3_isWind (by rw [nm_X3_isWind]; rfl) (by rw [nm_X3_isWind]; exact q1419) (by rw [nm_X3_isWind]; exact q1420)) <|
  fG mo_ifeq (sim_ifeq dX3_chances_4 rfl) <|
  fG mo_ild (sim_ild_n dX3_chances_7 rfl) <|
  fG mo_int (sim_iconst dX3_chances_8 (by decide)) <|
  fG mo_int (sim_bipush dX3_chances_9 (by decide)) <|
  fC (ic_cs (Or.inl rfl)) (sim_cs hG dX3_chances_11 M_X3_isIn (by rw [nm_X3_isIn]; rfl) (by rw [nm_X3_isIn]; exact q1400) (by rw [nm_X3_isIn]; exact q1401)) <|
  fG mo_ifeq (sim_ifeq dX3_chances_14 rfl) <|
  fG mo_ild (sim_ild_n dX3_chances_17 rfl) <|
  fG mo_int (sim_iconst dX3_chances_18 (by decide)) <|
  fG mo_int (sim_bipush dX3_chances_19 (by decide)) <|
  fC (ic_cs (Or.inl rfl)) (sim_cs hG dX3_chances_21 M_X3_isIn (by rw [nm_X3_isIn]; rfl) (by rw [nm_X3_isIn]; exact q1400) (by rw [nm_X3_isIn]; exact q1401)) <|
  fG mo_ifeq (sim_ifeq dX3_chances_24 rfl) <|
  fG mo_ild (sim_ild dX3_chances_27) <|
  fG mo_int (sim_iconst dX3_chances_29 (by decide)) <|
  fG mo_int (sim_bipush dX3_chances_30 (by decide)) <|
  fC (ic_cs (Or.inl rfl)) (sim_cs hG dX3_chances_32 M_X3_isIn (by rw [nm_X3_isIn]; rfl) (by rw [nm_X3_isIn]; exact q1400) (by rw [nm_X3_isIn]; exact q1401)) <|
  fG mo_ifeq (sim_ifeq dX3_chances_35 rfl) <|
  fG mo_ild (sim_ild dX3_chances_38) <|
  fG mo_int (sim_iconst dX3_chances_40 (by decide)) <|
  fG mo_int (sim_bipush dX3_chances_41 (by decide)) <|
  fC (ic_cs (Or.inl rfl)) (sim_cs hG dX3_chances_43 M_X3_isIn (by rw [nm_X3_isIn]; rfl) (by rw [nm_X3_isIn]; exact q1400) (by rw [nm_X3_isIn]; exact q1401)) <|
  fG mo_ifeq (sim_ifeq dX3_chances_46 rfl) <|
  fG mo_ild (sim_ild_n dX3_chances_49 rfl) <|
  fG mo_ild (sim_ild_n dX3_chances_50 rfl) <|
  fG mo_iadd (sim_iadd dX3_chances_51) <|
  fG mo_ild (sim_ild dX3_chances_52) <|
  fG mo_iadd (sim_iadd dX3_chances_54) <|
  fG mo_ild (sim_ild dX3_chances_55) <|
  fG mo_iadd (sim_iadd dX3_chances_57) <|
  fG mo_int (sim_bipush dX3_chances_58 (by decide)) <|
  fG mo_icmpeq (sim_icmpeq dX3_chances_60 rfl) <|
  fF
theorem fX3_chances_63 {X : tp_X} {az : Array Value} (hG : tp_Good X az) (hSt : tp_Stat X) : tp_Fit X yX3_chances cX3_chances (some .boolean) 6 tp_nm tp_by tp_ml tp_rtt 63 [o_int (.iconst 0) 0, o_iret 1] :=
  fG mo_int (sim_iconst dX3_chances_63 (by decide)) <|
  fE ie_iret (sim_iret dX3_chances_64 rfl (Or.inr (Or.inl ⟨rfl, rfl⟩)))
theorem fX3_chances_65 {X : tp_X} {az : Array Value} (hG : tp_Good X az) (hSt : tp_Stat X) : tp_Fit X yX3_chances cX3_chances (some .boolean) 6 tp_nm tp_by tp_ml tp_rtt 65 [o_ald (.aload_n 0) 0, o_getf (.getfield 7) 3 3, o_int (.sipush 160) 160, o_int (.iconst 4) 4, o_ild (.iload_n 1) 1, o_imul, o_iadd, o_ild (.iload_n 2) 2, o_sta .iastore [0], o_ald (.aload_n 0) 0, o_getf (.getfield 7) 3 3, o_int (.sipush 160) 160, o_int (.iconst 4) 4, o_ild (.iload_n 1) 1, o_imul, o_iadd, o_int (.iconst 1) 1, o_iadd, o_ild (.iload_n 3) 3, o_sta .iastore [0], o_ald (.aload_n 0) 0, o_getf (.getfield 7) 3 3, o_int (.sipush 160) 160, o_int (.iconst 4) 4, o_ild (.iload_n 1) 1, o_imul, o_iadd, o_int (.iconst 2) 2, o_iadd, o_ild (.iload 4) 4, o_sta .iastore [0], o_ald (.aload_n 0) 0, o_getf (.getfield 7) 3 3, o_int (.sipush 160) 160, o_int (.iconst 4) 4, o_ild (.iload_n 1) 1, o_imul, o_iadd, o_int (.iconst 3) 3, o_iadd, o_ild (.iload 5) 5, o_sta .iastore [0], o_int (.iconst 1) 1, o_iret 1] :=
  fG mo_ald (sim_ald_n dX3_chances_65 rfl) <|
  fG mo_getf (sim_getfG hG dX3_chances_66 hc_3 (by decide) rfl in_X3 (fun _ _ _ h => h) (Or.inl q1255)) <|
  fG mo_int (sim_sipush dX3_chances_69 (by decide)) <|
  fG mo_int (sim_iconst dX3_chances_72 (by decide)) <|
  fG mo_ild (sim_ild_n dX3_chances_73 rfl) <|
  fG mo_imul (sim_imul dX3_chances_74) <|
  fG mo_iadd (sim_iadd dX3_chances_75) <|
  fG mo_ild (sim_ild_n dX3_chances_76 rfl) <|
  fG mo_sta (sim_iast dX3_chances_77) <|
  fG mo_ald (sim_ald_n dX3_chances_78 rfl) <|
  fG mo_getf (sim_getfG hG dX3_chances_79 hc_3 (by decide) rfl in_X3 (fun _ _ _ h => h) (Or.inl q1255)) <|
  fG mo_int (sim_sipush dX3_chances_82 (by decide)) <|
  fG mo_int (sim_iconst dX3_chances_85 (by decide)) <|
  fG mo_ild (sim_ild_n dX3_chances_86 rfl) <|
  fG mo_imul (sim_imul dX3_chances_87) <|
  fG mo_iadd (sim_iadd dX3_chances_88) <|
  fG mo_int (sim_iconst dX3_chances_89 (by decide)) <|
  fG mo_iadd (sim_iadd dX3_chances_90) <|
  fG mo_ild (sim_ild_n dX3_chances_91 rfl) <|
  fG mo_sta (sim_iast dX3_chances_92) <|
  fG mo_ald (sim_ald_n dX3_chances_93 rfl) <|
  fG mo_getf (sim_getfG hG dX3_chances_94 hc_3 (by decide) rfl in_X3 (fun _ _ _ h => h) (Or.inl q1255)) <|
  fG mo_int (sim_sipush dX3_chances_97 (by decide)) <|
  fG mo_int (sim_iconst dX3_chances_100 (by decide)) <|
  fG mo_ild (sim_ild_n dX3_chances_101 rfl) <|
  fG mo_imul (sim_imul dX3_chances_102) <|
  fG mo_iadd (sim_iadd dX3_chances_103) <|
  fG mo_int (sim_iconst dX3_chances_104 (by decide)) <|
  fG mo_iadd (sim_iadd dX3_chances_105) <|
  fG mo_ild (sim_ild dX3_chances_106) <|
  fG mo_sta (sim_iast dX3_chances_108) <|
  fG mo_ald (sim_ald_n dX3_chances_109 rfl) <|
  fG mo_getf (sim_getfG hG dX3_chances_110 hc_3 (by decide) rfl in_X3 (fun _ _ _ h => h) (Or.inl q1255)) <|
  fG mo_int (sim_sipush dX3_chances_113 (by decide)) <|
  fG mo_int (sim_iconst dX3_chances_116 (by decide)) <|
  fG mo_ild (sim_ild_n dX3_chances_117 rfl) <|
  fG mo_imul (sim_imul dX3_chances_118) <|
  fG mo_iadd (sim_iadd dX3_chances_119) <|
  fG mo_int (sim_iconst dX3_chances_120 (by decide)) <|
  fG mo_iadd (sim_iadd dX3_chances_121) <|
  fG mo_ild (sim_ild dX3_chances_122) <|
  fG mo_sta (sim_iast dX3_chances_124) <|
  fG mo_int (sim_iconst dX3_chances_125 (by decide)) <|
  fE ie_iret (sim_iret dX3_chances_126 rfl (Or.inr (Or.inl ⟨rfl, rfl⟩)))
theorem F_X3_chances {X : tp_X} {az : Array Value} (hG : tp_Good X az) (hSt : tp_Stat X) (pc : Nat) : tp_Fit X yX3_chances cX3_chances (some .boolean) 6 tp_nm tp_by tp_ml tp_rtt pc (mX3_chances pc) :=
  fI (fX3_chances_0 hG hSt) <| fI (fX3_chances_63 hG hSt) <| fI (fX3_chances_65 hG hSt) <| trivial
theorem fX3_ship_0 {X : tp_X} {az : Array Value} (hG : tp_Good X az) (hSt : tp_Stat X) : tp_Fit X yX3_ship cX3_ship (some .boolean) 4 tp_nm tp_by tp_ml tp_rtt 0 [o_ild (.iload_n 1) 1, o_cs (.invokestatic 105) kX3_isShip 1 0, o_ifeq 13 17, o_ild (.iload_n 3) 3, o_int (.iconst 0) 0, o_int (.bipush 99) 99, o_cs (.invokestatic 90) kX3_isIn 3 0, o_ifne 5 19, o_fall 17] :=
  fG mo_ild (sim_ild_n dX3_ship_0 rfl) <|
  fC (ic_cs (Or.inl rfl)) (sim_cs hG dX3_ship_1 M_X3_isShip (by rw [nm_X3_isShip]; rfl) (by rw [nm_X3_isShip]; exact q1430) (by rw [nm_X3_isShip]; exact q1431)) <|
  fG mo_ifeq (sim_ifeq dX3_ship_4 rfl) <|
  fG mo_ild (sim_ild_n dX3_ship_7 rfl) <|
  fG mo_int (sim_iconst dX3_ship_8 (by decide)) <|
  fG mo_int (sim_bipush dX3_ship_9 (by decide)) <|
  fC (ic_cs (Or.inl rfl)) (sim_cs hG dX3_ship_11 M_X3_isIn (by rw [nm_X3_isIn]; rfl) (by rw [nm_X3_isIn]; exact q1400) (by rw [nm_X3_isIn]; exact q1401)) <|
  fG mo_ifne (sim_ifne dX3_ship_14 rfl) <|
  fF
theorem fX3_ship_17 {X : tp_X} {az : Array Value} (hG : tp_Good X az) (hSt : tp_Stat X) : tp_Fit X yX3_ship cX3_ship (some .boolean) 4 tp_nm tp_by tp_ml tp_rtt 17 [o_int (.iconst 0) 0, o_iret 1] :=
  fG mo_int (sim_iconst dX3_ship_17 (by decide)) <|
  fE ie_iret (sim_iret dX3_ship_18 rfl (Or.inr (Or.inl ⟨rfl, rfl⟩)))
theorem fX3_ship_19 {X : tp_X} {az : Array Value} (hG : tp_Good X az) (hSt : tp_Stat X) : tp_Fit X yX3_ship cX3_ship (some .boolean) 4 tp_nm tp_by tp_ml tp_rtt 19 [o_ild (.iload_n 2) 2, o_int (.iconst (-1)) (-1), o_icmpne 21 42, o_ild (.iload_n 1) 1, o_int (.iconst 1) 1, o_icmpne 16 42, o_ald (.aload_n 0) 0, o_getf (.getfield 7) 3 3, o_int (.iconst 1) 1, o_int (.iconst 4) 4, o_cs (.invokestatic 108) kX3_ofShip 2 0, o_int (.iconst 0) 0, o_sta .iastore [0], o_int (.iconst 1) 1, o_iret 1] :=
  fG mo_ild (sim_ild_n dX3_ship_19 rfl) <|
  fG mo_int (sim_iconst dX3_ship_20 (by decide)) <|
  fG mo_icmpne (sim_icmpne dX3_ship_21 rfl) <|
  fG mo_ild (sim_ild_n dX3_ship_24 rfl) <|
  fG mo_int (sim_iconst dX3_ship_25 (by decide)) <|
  fG mo_icmpne (sim_icmpne dX3_ship_26 rfl) <|
  fG mo_ald (sim_ald_n dX3_ship_29 rfl) <|
  fG mo_getf (sim_getfG hG dX3_ship_30 hc_3 (by decide) rfl in_X3 (fun _ _ _ h => h) (Or.inl q1255)) <|
  fG mo_int (sim_iconst dX3_ship_33 (by decide)) <|
  fG mo_int (sim_iconst dX3_ship_34 (by decide)) <|
  fC (ic_cs (Or.inl rfl)) (sim_cs hG dX3_ship_35 M_X3_ofShip (by rw [nm_X3_ofShip]; rfl) (by rw [nm_X3_ofShip]; exact q1433) (by rw [nm_X3_ofShip]; exact q1434)) <|
  fG mo_int (sim_iconst dX3_ship_38 (by decide)) <|
  fG mo_sta (sim_iast dX3_ship_39) <|
  fG mo_int (sim_iconst dX3_ship_40 (by decide)) <|
  fE ie_iret (sim_iret dX3_ship_41 rfl (Or.inr (Or.inl ⟨rfl, rfl⟩)))
theorem fX3_ship_42 {X : tp_X} {az : Array Value} (hG : tp_Good X az) (hSt : tp_Stat X) : tp_Fit X yX3_ship cX3_ship (some .boolean) 4 tp_nm tp_by tp_ml tp_rtt 42 [o_ald (.aload_n 0) 0, o_ild (.iload_n 2) 2, o_cv (.invokevirtual 98) 3 kX3_isCell 1 0, o_ifne 5 52, o_int (.iconst 0) 0, o_iret 1] :=
  fG mo_ald (sim_ald_n dX3_ship_42 rfl) <|
  fG mo_ild (sim_ild_n dX3_ship_43 rfl) <|
  fC (ic_cv (Or.inl rfl)) (sim_cv hG dX3_ship_44 (hG.2.1 3 _ hc_3).2.1 M_X3_isCell (by rw [nm_X3_isCell]; rfl) (by rw [nm_X3_isCell]; exact q1396) (by rw [nm_X3_isCell]; exact q1398) (by rw [nm_X3_isCell]; exact qs50)) <|
  fG mo_ifne (sim_ifne dX3_ship_47 rfl) <|
  fG mo_int (sim_iconst dX3_ship_50 (by decide)) <|
  fE ie_iret (sim_iret dX3_ship_51 rfl (Or.inr (Or.inl ⟨rfl, rfl⟩)))
theorem fX3_ship_52 {X : tp_X} {az : Array Value} (hG : tp_Good X az) (hSt : tp_Stat X) : tp_Fit X yX3_ship cX3_ship (some .boolean) 4 tp_nm tp_by tp_ml tp_rtt 52 [o_ald (.aload_n 0) 0, o_getf (.getfield 7) 3 3, o_ild (.iload_n 1) 1, o_int (.iconst 0) 0, o_cs (.invokestatic 108) kX3_ofShip 2 0, o_ild (.iload_n 2) 2, o_sta .iastore [0], o_ald (.aload_n 0) 0, o_getf (.getfield 7) 3 3, o_ild (.iload_n 1) 1, o_int (.iconst 1) 1, o_cs (.invokestatic 108) kX3_ofShip 2 0, o_ild (.iload_n 3) 3, o_sta .iastore [0], o_ald (.aload_n 0) 0, o_getf (.getfield 7) 3 3, o_ild (.iload_n 1) 1, o_int (.iconst 2) 2, o_cs (.invokestatic 108) kX3_ofShip 2 0, o_int (.iconst 0) 0, o_sta .iastore [0], o_ald (.aload_n 0) 0, o_getf (.getfield 7) 3 3, o_ild (.iload_n 1) 1, o_int (.iconst 3) 3, o_cs (.invokestatic 108) kX3_ofShip 2 0, o_int (.iconst 0) 0, o_sta .iastore [0], o_ald (.aload_n 0) 0, o_getf (.getfield 7) 3 3, o_ild (.iload_n 1) 1, o_int (.iconst 4) 4, o_cs (.invokestatic 108) kX3_ofShip 2 0, o_int (.iconst 1) 1, o_sta .iastore [0], o_int (.iconst 1) 1, o_iret 1] :=
  fG mo_ald (sim_ald_n dX3_ship_52 rfl) <|
  fG mo_getf (sim_getfG hG dX3_ship_53 hc_3 (by decide) rfl in_X3 (fun _ _ _ h => h) (Or.inl q1255)) <|
  fG mo_ild (sim_ild_n dX3_ship_56 rfl) <|
  fG mo_int (sim_iconst dX3_ship_57 (by decide)) <|
  fC (ic_cs (Or.inl rfl)) (sim_cs hG dX3_ship_58 M_X3_ofShip (by rw [nm_X3_ofShip]; rfl) (by rw [nm_X3_ofShip]; exact q1433) (by rw [nm_X3_ofShip]; exact q1434)) <|
  fG mo_ild (sim_ild_n dX3_ship_61 rfl) <|
  fG mo_sta (sim_iast dX3_ship_62) <|
  fG mo_ald (sim_ald_n dX3_ship_63 rfl) <|
  fG mo_getf (sim_getfG hG dX3_ship_64 hc_3 (by decide) rfl in_X3 (fun _ _ _ h => h) (Or.inl q1255)) <|
  fG mo_ild (sim_ild_n dX3_ship_67 rfl) <|
  fG mo_int (sim_iconst dX3_ship_68 (by decide)) <|
  fC (ic_cs (Or.inl rfl)) (sim_cs hG dX3_ship_69 M_X3_ofShip (by rw [nm_X3_ofShip]; rfl) (by rw [nm_X3_ofShip]; exact q1433) (by rw [nm_X3_ofShip]; exact q1434)) <|
  fG mo_ild (sim_ild_n dX3_ship_72 rfl) <|
  fG mo_sta (sim_iast dX3_ship_73) <|
  fG mo_ald (sim_ald_n dX3_ship_74 rfl) <|
  fG mo_getf (sim_getfG hG dX3_ship_75 hc_3 (by decide) rfl in_X3 (fun _ _ _ h => h) (Or.inl q1255)) <|
  fG mo_ild (sim_ild_n dX3_ship_78 rfl) <|
  fG mo_int (sim_iconst dX3_ship_79 (by decide)) <|
  fC (ic_cs (Or.inl rfl)) (sim_cs hG dX3_ship_80 M_X3_ofShip (by rw [nm_X3_ofShip]; rfl) (by rw [nm_X3_ofShip]; exact q1433) (by rw [nm_X3_ofShip]; exact q1434)) <|
  fG mo_int (sim_iconst dX3_ship_83 (by decide)) <|
  fG mo_sta (sim_iast dX3_ship_84) <|
  fG mo_ald (sim_ald_n dX3_ship_85 rfl) <|
  fG mo_getf (sim_getfG hG dX3_ship_86 hc_3 (by decide) rfl in_X3 (fun _ _ _ h => h) (Or.inl q1255)) <|
  fG mo_ild (sim_ild_n dX3_ship_89 rfl) <|
  fG mo_int (sim_iconst dX3_ship_90 (by decide)) <|
  fC (ic_cs (Or.inl rfl)) (sim_cs hG dX3_ship_91 M_X3_ofShip (by rw [nm_X3_ofShip]; rfl) (by rw [nm_X3_ofShip]; exact q1433) (by rw [nm_X3_ofShip]; exact q1434)) <|
  fG mo_int (sim_iconst dX3_ship_94 (by decide)) <|
  fG mo_sta (sim_iast dX3_ship_95) <|
  fG mo_ald (sim_ald_n dX3_ship_96 rfl) <|
  fG mo_getf (sim_getfG hG dX3_ship_97 hc_3 (by decide) rfl in_X3 (fun _ _ _ h => h) (Or.inl q1255)) <|
  fG mo_ild (sim_ild_n dX3_ship_100 rfl) <|
  fG mo_int (sim_iconst dX3_ship_101 (by decide)) <|
  fC (ic_cs (Or.inl rfl)) (sim_cs hG dX3_ship_102 M_X3_ofShip (by rw [nm_X3_ofShip]; rfl) (by rw [nm_X3_ofShip]; exact q1433) (by rw [nm_X3_ofShip]; exact q1434)) <|
  fG mo_int (sim_iconst dX3_ship_105 (by decide)) <|
  fG mo_sta (sim_iast dX3_ship_106) <|
  fG mo_int (sim_iconst dX3_ship_107 (by decide)) <|
  fE ie_iret (sim_iret dX3_ship_108 rfl (Or.inr (Or.inl ⟨rfl, rfl⟩)))
theorem F_X3_ship {X : tp_X} {az : Array Value} (hG : tp_Good X az) (hSt : tp_Stat X) (pc : Nat) : tp_Fit X yX3_ship cX3_ship (some .boolean) 4 tp_nm tp_by tp_ml tp_rtt pc (mX3_ship pc) :=
  fI (fX3_ship_0 hG hSt) <| fI (fX3_ship_17 hG hSt) <| fI (fX3_ship_19 hG hSt) <| fI (fX3_ship_42 hG hSt) <| fI (fX3_ship_52 hG hSt) <| trivial
theorem fX3_isShip_0 {X : tp_X} {az : Array Value} (hG : tp_Good X az) (hSt : tp_Stat X) : tp_Fit X yX3_isShip cX3_isShip (some .boolean) 1 tp_nm tp_by tp_ml tp_rtt 0 [o_ild (.iload_n 0) 0, o_int (.iconst 0) 0, o_int (.iconst 1) 1, o_cs (.invokestatic 90) kX3_isIn 3 0, o_iret 1] :=
  fG mo_ild (sim_ild_n dX3_isShip_0 rfl) <|
  fG mo_int (sim_iconst dX3_isShip_1 (by decide)) <|
  fG mo_int (sim_iconst dX3_isShip_2 (by decide)) <|
  fC (ic_cs (Or.inl rfl)) (sim_cs hG dX3_isShip_3 M_X3_isIn (by rw [nm_X3_isIn]; rfl) (by rw [nm_X3_isIn]; exact q1400) (by rw [nm_X3_isIn]; exact q1401)) <|
  fE ie_iret (sim_iret dX3_isShip_6 rfl (Or.inr (Or.inl ⟨rfl, rfl⟩)))
theorem F_X3_isShip {X : tp_X} {az : Array Value} (hG : tp_Good X az) (hSt : tp_Stat X) (pc : Nat) : tp_Fit X yX3_isShip cX3_isShip (some .boolean) 1 tp_nm tp_by tp_ml tp_rtt pc (mX3_isShip pc) :=
  fI (fX3_isShip_0 hG hSt) <| trivial
theorem fX3_ofShip_0 {X : tp_X} {az : Array Value} (hG : tp_Good X az) (hSt : tp_Stat X) : tp_Fit X yX3_ofShip cX3_ofShip (some .int) 2 tp_nm tp_by tp_ml tp_rtt 0 [o_int (.bipush 20) 20, o_int (.iconst 5) 5, o_ild (.iload_n 0) 0, o_imul, o_iadd, o_ild (.iload_n 1) 1, o_iadd, o_iret 0] :=
  fG mo_int (sim_bipush dX3_ofShip_0 (by decide)) <|
  fG mo_int (sim_iconst dX3_ofShip_2 (by decide)) <|
  fG mo_ild (sim_ild_n dX3_ofShip_3 rfl) <|
  fG mo_imul (sim_imul dX3_ofShip_4) <|
  fG mo_iadd (sim_iadd dX3_ofShip_5) <|
  fG mo_ild (sim_ild_n dX3_ofShip_6 rfl) <|
  fG mo_iadd (sim_iadd dX3_ofShip_7) <|
  fE ie_iret (sim_iret dX3_ofShip_8 rfl (Or.inl ⟨rfl, rfl⟩))
theorem F_X3_ofShip {X : tp_X} {az : Array Value} (hG : tp_Good X az) (hSt : tp_Stat X) (pc : Nat) : tp_Fit X yX3_ofShip cX3_ofShip (some .int) 2 tp_nm tp_by tp_ml tp_rtt pc (mX3_ofShip pc) :=
  fI (fX3_ofShip_0 hG hSt) <| trivial
theorem fX3_costs_0 {X : tp_X} {az : Array Value} (hG : tp_Good X az) (hSt : tp_Stat X) : tp_Fit X yX3_costs cX3_costs (some .boolean) 4 tp_nm tp_by tp_ml tp_rtt 0 [o_ild (.iload_n 1) 1, o_int (.iconst 0) 0, o_int (.bipush 99) 99, o_cs (.invokestatic 90) kX3_isIn 3 0, o_ifeq 23 30, o_ild (.iload_n 2) 2, o_int (.iconst 0) 0, o_int (.bipush 99) 99, o_cs (.invokestatic 90) kX3_isIn 3 0, o_ifeq 13 30, o_ild (.iload_n 3) 3, o_int (.iconst 0) 0, o_int (.bipush 99) 99, o_cs (.invokestatic 90) kX3_isIn 3 0, o_ifne 5 32, o_fall 30] :=
  fG mo_ild (sim_ild_n dX3_costs_0 rfl) <|
  fG mo_int (sim_iconst dX3_costs_1 (by decide)) <|
  fG mo_int (sim_bipush dX3_costs_2 (by decide)) <|
  fC (ic_cs (Or.inl rfl)) (sim_cs hG dX3_costs_4 M_X3_isIn (by rw [nm_X3_isIn]; rfl) (by rw [nm_X3_isIn]; exact q1400) (by rw [nm_X3_isIn]; exact q1401)) <|
  fG mo_ifeq (sim_ifeq dX3_costs_7 rfl) <|
  fG mo_ild (sim_ild_n dX3_costs_10 rfl) <|
  fG mo_int (sim_iconst dX3_costs_11 (by decide)) <|
  fG mo_int (sim_bipush dX3_costs_12 (by decide)) <|
  fC (ic_cs (Or.inl rfl)) (sim_cs hG dX3_costs_14 M_X3_isIn (by rw [nm_X3_isIn]; rfl) (by rw [nm_X3_isIn]; exact q1400) (by rw [nm_X3_isIn]; exact q1401)) <|
  fG mo_ifeq (sim_ifeq dX3_costs_17 rfl) <|
  fG mo_ild (sim_ild_n dX3_costs_20 rfl) <|
  fG mo_int (sim_iconst dX3_costs_21 (by decide)) <|
  fG mo_int (sim_bipush dX3_costs_22 (by decide)) <|
  fC (ic_cs (Or.inl rfl)) (sim_cs hG dX3_costs_24 M_X3_isIn (by rw [nm_X3_isIn]; rfl) (by rw [nm_X3_isIn]; exact q1400) (by rw [nm_X3_isIn]; exact q1401)) <|
  fG mo_ifne (sim_ifne dX3_costs_27 rfl) <|
  fF
theorem fX3_costs_30 {X : tp_X} {az : Array Value} (hG : tp_Good X az) (hSt : tp_Stat X) : tp_Fit X yX3_costs cX3_costs (some .boolean) 4 tp_nm tp_by tp_ml tp_rtt 30 [o_int (.iconst 0) 0, o_iret 1] :=
  fG mo_int (sim_iconst dX3_costs_30 (by decide)) <|
  fE ie_iret (sim_iret dX3_costs_31 rfl (Or.inr (Or.inl ⟨rfl, rfl⟩)))
theorem fX3_costs_32 {X : tp_X} {az : Array Value} (hG : tp_Good X az) (hSt : tp_Stat X) : tp_Fit X yX3_costs cX3_costs (some .boolean) 4 tp_nm tp_by tp_ml tp_rtt 32 [o_ald (.aload_n 0) 0, o_getf (.getfield 7) 3 3, o_int (.bipush 9) 9, o_ild (.iload_n 1) 1, o_sta .iastore [0], o_ald (.aload_n 0) 0, o_getf (.getfield 7) 3 3, o_int (.bipush 10) 10, o_ild (.iload_n 2) 2, o_sta .iastore [0], o_ald (.aload_n 0) 0, o_getf (.getfield 7) 3 3, o_int (.bipush 11) 11, o_ild (.iload_n 3) 3, o_sta .iastore [0], o_int (.iconst 1) 1, o_iret 1] :=
  fG mo_ald (sim_ald_n dX3_costs_32 rfl) <|
  fG mo_getf (sim_getfG hG dX3_costs_33 hc_3 (by decide) rfl in_X3 (fun _ _ _ h => h) (Or.inl q1255)) <|
  fG mo_int (sim_bipush dX3_costs_36 (by decide)) <|
  fG mo_ild (sim_ild_n dX3_costs_38 rfl) <|
  fG mo_sta (sim_iast dX3_costs_39) <|
  fG mo_ald (sim_ald_n dX3_costs_40 rfl) <|
  fG mo_getf (sim_getfG hG dX3_costs_41 hc_3 (by decide) rfl in_X3 (fun _ _ _ h => h) (Or.inl q1255)) <|
  fG mo_int (sim_bipush dX3_costs_44 (by decide)) <|
  fG mo_ild (sim_ild_n dX3_costs_46 rfl) <|
  fG mo_sta (sim_iast dX3_costs_47) <|
  fG mo_ald (sim_ald_n dX3_costs_48 rfl) <|
  fG mo_getf (sim_getfG hG dX3_costs_49 hc_3 (by decide) rfl in_X3 (fun _ _ _ h => h) (Or.inl q1255)) <|
  fG mo_int (sim_bipush dX3_costs_52 (by decide)) <|
  fG mo_ild (sim_ild_n dX3_costs_54 rfl) <|
  fG mo_sta (sim_iast dX3_costs_55) <|
  fG mo_int (sim_iconst dX3_costs_56 (by decide)) <|
  fE ie_iret (sim_iret dX3_costs_57 rfl (Or.inr (Or.inl ⟨rfl, rfl⟩)))
theorem F_X3_costs {X : tp_X} {az : Array Value} (hG : tp_Good X az) (hSt : tp_Stat X) (pc : Nat) : tp_Fit X yX3_costs cX3_costs (some .boolean) 4 tp_nm tp_by tp_ml tp_rtt pc (mX3_costs pc) :=
  fI (fX3_costs_0 hG hSt) <| fI (fX3_costs_30 hG hSt) <| fI (fX3_costs_32 hG hSt) <| trivial
theorem fX3_wind_0 {X : tp_X} {az : Array Value} (hG : tp_Good X az) (hSt : tp_Stat X) : tp_Fit X yX3_wind cX3_wind (some .boolean) 2 tp_nm tp_by tp_ml tp_rtt 0 [o_ild (.iload_n 1) 1, o_cs (.invokestatic 102) kX3_isWind 1 0, o_ifne 5 9, o_int (.iconst 0) 0, o_iret 1] :=
  fG mo_ild (sim_ild_n dX3_wind_0 rfl) <|
  fC (ic_cs (Or.inl rfl)) (sim_cs hG dX3_wind_1 M_X3_isWind (by rw [nm_X3_isWind]; rfl) (by rw [nm_X3_isWind]; exact q1419) (by rw [nm_X3_isWind]; exact q1420)) <|
  fG mo_ifne (sim_ifne dX3_wind_4 rfl) <|
  fG mo_int (sim_iconst dX3_wind_7 (by decide)) <|
  fE ie_iret (sim_iret dX3_wind_8 rfl (Or.inr (Or.inl ⟨rfl, rfl⟩)))
theorem fX3_wind_9 {X : tp_X} {az : Array Value} (hG : tp_Good X az) (hSt : tp_Stat X) : tp_Fit X yX3_wind cX3_wind (some .boolean) 2 tp_nm tp_by tp_ml tp_rtt 9 [o_ald (.aload_n 0) 0, o_getf (.getfield 7) 3 3, o_int (.iconst 1) 1, o_ild (.iload_n 1) 1, o_sta .iastore [0], o_int (.iconst 1) 1, o_iret 1] :=
  fG mo_ald (sim_ald_n dX3_wind_9 rfl) <|
  fG mo_getf (sim_getfG hG dX3_wind_10 hc_3 (by decide) rfl in_X3 (fun _ _ _ h => h) (Or.inl q1255)) <|
  fG mo_int (sim_iconst dX3_wind_13 (by decide)) <|
  fG mo_ild (sim_ild_n dX3_wind_14 rfl) <|
  fG mo_sta (sim_iast dX3_wind_15) <|
  fG mo_int (sim_iconst dX3_wind_16 (by decide)) <|
  fE ie_iret (sim_iret dX3_wind_17 rfl (Or.inr (Or.inl ⟨rfl, rfl⟩)))
theorem F_X3_wind {X : tp_X} {az : Array Value} (hG : tp_Good X az) (hSt : tp_Stat X) (pc : Nat) : tp_Fit X yX3_wind cX3_wind (some .boolean) 2 tp_nm tp_by tp_ml tp_rtt pc (mX3_wind pc) :=
  fI (fX3_wind_0 hG hSt) <| fI (fX3_wind_9 hG hSt) <| trivial
theorem fX3_feed_0 {X : tp_X} {az : Array Value} (hG : tp_Good X az) (hSt : tp_Stat X) : tp_Fit X yX3_feed cX3_feed (some .int) 6 tp_nm tp_by tp_ml tp_rtt 0 [o_ald (.aload_n 0) 0, o_getf (.getfield 112) 3 7, o_int (.bipush 20) 20, o_iadd, o_int (.sipush 300) 300, o_icmple 5 15, o_int (.iconst (-1)) (-1), o_iret 0] :=
  fG mo_ald (sim_ald_n dX3_feed_0 rfl) <|
  fG mo_getf (sim_getfG hG dX3_feed_1 hc_3 (by decide) rfl in_X3 (fun _ _ _ h => h) (Or.inl q1259)) <|
  fG mo_int (sim_bipush dX3_feed_4 (by decide)) <|
  fG mo_iadd (sim_iadd dX3_feed_6) <|
  fG mo_int (sim_sipush dX3_feed_7 (by decide)) <|
  fG mo_icmple (sim_icmple dX3_feed_10 rfl) <|
  fG mo_int (sim_iconst dX3_feed_13 (by decide)) <|
  fE ie_iret (sim_iret dX3_feed_14 rfl (Or.inl ⟨rfl, rfl⟩))
theorem fX3_feed_15 {X : tp_X} {az : Array Value} (hG : tp_Good X az) (hSt : tp_Stat X) : tp_Fit X yX3_feed cX3_feed (some .int) 6 tp_nm tp_by tp_ml tp_rtt 15 [o_ald (.aload_n 0) 0, o_ild (.iload_n 1) 1, o_cv (.invokevirtual 115) 3 kX3_four 1 0, o_ald (.aload_n 0) 0, o_ild (.iload_n 2) 2, o_cv (.invokevirtual 115) 3 kX3_four 1 0, o_ald (.aload_n 0) 0, o_ild (.iload_n 3) 3, o_cv (.invokevirtual 115) 3 kX3_four 1 0, o_ald (.aload_n 0) 0, o_ild (.iload 4) 4, o_cv (.invokevirtual 115) 3 kX3_four 1 0, o_ald (.aload_n 0) 0, o_ild (.iload 5) 5, o_cv (.invokevirtual 115) 3 kX3_four 1 0, o_ald (.aload_n 0) 0, o_getf (.getfield 112) 3 7, o_iret 0] :=
  fG mo_ald (sim_ald_n dX3_feed_15 rfl) <|
  fG mo_ild (sim_ild_n dX3_feed_16 rfl) <|
  fC (ic_cv (Or.inl rfl)) (sim_cv hG dX3_feed_17 (hG.2.1 3 _ hc_3).2.1 M_X3_four (by rw [nm_X3_four]; rfl) (by rw [nm_X3_four]; exact q1448) (by rw [nm_X3_four]; exact q1450) (by rw [nm_X3_four]; exact qs51)) <|
  fG mo_ald (sim_ald_n dX3_feed_20 rfl) <|
  fG mo_ild (sim_ild_n dX3_feed_21 rfl) <|
  fC (ic_cv (Or.inl rfl)) (sim_cv hG dX3_feed_22 (hG.2.1 3 _ hc_3).2.1 M_X3_four (by rw [nm_X3_four]; rfl) (by rw [nm_X3_four]; exact q1448) (by rw [nm_X3_four]; exact q1450) (by rw [nm_X3_four]; exact qs51)) <|
  fG mo_ald (sim_ald_n dX3_feed_25 rfl) <|
  fG mo_ild (sim_ild_n dX3_feed_26 rfl) <|
  fC (ic_cv (Or.inl rfl)) (sim_cv hG dX3_feed_27 (hG.2.1 3 _ hc_3).2.1 M_X3_four (by rw [nm_X3_four]; rfl) (by rw [nm_X3_four]; exact q1448) (by rw [nm_X3_four]; exact q1450) (by rw [nm_X3_four]; exact qs51)) <|
  fG mo_ald (sim_ald_n dX3_feed_30 rfl) <|
  fG mo_ild (sim_ild dX3_feed_31) <|
  fC (ic_cv (Or.inl rfl)) (sim_cv hG dX3_feed_33 (hG.2.1 3 _ hc_3).2.1 M_X3_four (by rw [nm_X3_four]; rfl) (by rw [nm_X3_four]; exact q1448) (by rw [nm_X3_four]; exact q1450) (by rw [nm_X3_four]; exact qs51)) <|
  fG mo_ald (sim_ald_n dX3_feed_36 rfl) <|
  fG mo_ild (sim_ild dX3_feed_37) <|
  fC (ic_cv (Or.inl rfl)) (sim_cv hG dX3_feed_39 (hG.2.1 3 _ hc_3).2.1 M_X3_four (by rw [nm_X3_four]; rfl) (by rw [nm_X3_four]; exact q1448) (by rw [nm_X3_four]; exact q1450) (by rw [nm_X3_four]; exact qs51)) <|
  fG mo_ald (sim_ald_n dX3_feed_42 rfl) <|
  fG mo_getf (sim_getfG hG dX3_feed_43 hc_3 (by decide) rfl in_X3 (fun _ _ _ h => h) (Or.inl q1259)) <|
  fE ie_iret (sim_iret dX3_feed_46 rfl (Or.inl ⟨rfl, rfl⟩))
theorem F_X3_feed {X : tp_X} {az : Array Value} (hG : tp_Good X az) (hSt : tp_Stat X) (pc : Nat) : tp_Fit X yX3_feed cX3_feed (some .int) 6 tp_nm tp_by tp_ml tp_rtt pc (mX3_feed pc) :=
  fI (fX3_feed_0 hG hSt) <| fI (fX3_feed_15 hG hSt) <| trivial
theorem fX3_four_0 {X : tp_X} {az : Array Value} (hG : tp_Good X az) (hSt : tp_Stat X) : tp_Fit X yX3_four cX3_four none 3 tp_nm tp_by tp_ml tp_rtt 0 [o_int (.bipush 24) 24, o_ist (.istore_n 2) 2, o_fall 3] :=
  fG mo_int (sim_bipush dX3_four_0 (by decide)) <|
  fG mo_ist (sim_ist_n dX3_four_2 rfl) <|
  fF
theorem fX3_four_3 {X : tp_X} {az : Array Value} (hG : tp_Good X az) (hSt : tp_Stat X) : tp_Fit X yX3_four cX3_four none 3 tp_nm tp_by tp_ml tp_rtt 3 [o_ild (.iload_n 2) 2, o_iflt 35 39, o_ald (.aload_n 0) 0, o_getf (.getfield 19) 3 6, o_ald (.aload_n 0) 0, o_getf (.getfield 112) 3 7, o_ild (.iload_n 1) 1, o_ild (.iload_n 2) 2, o_ishr, o_int (.sipush 255) 255, o_iand, o_sta .iastore [0], o_ald (.aload_n 0) 0, o_dup, o_getf (.getfield 112) 3 7, o_int (.iconst 1) 1, o_iadd, o_putf (.putfield 112) 3 7 0, o_inc 2 (-8), o_goto (-33) 3] :=
  fG mo_ild (sim_ild_n dX3_four_3 rfl) <|
  fG mo_iflt (sim_iflt dX3_four_4 rfl) <|
  fG mo_ald (sim_ald_n dX3_four_7 rfl) <|
  fG mo_getf (sim_getfG hG dX3_four_8 hc_3 (by decide) rfl in_X3 (fun _ _ _ h => h) (Or.inl q1258)) <|
  fG mo_ald (sim_ald_n dX3_four_11 rfl) <|
  fG mo_getf (sim_getfG hG dX3_four_12 hc_3 (by decide) rfl in_X3 (fun _ _ _ h => h) (Or.inl q1259)) <|
  fG mo_ild (sim_ild_n dX3_four_15 rfl) <|
  fG mo_ild (sim_ild_n dX3_four_16 rfl) <|
  fG mo_ishr (sim_ishr dX3_four_17) <|
  fG mo_int (sim_sipush dX3_four_18 (by decide)) <|
  fG mo_iand (sim_iand dX3_four_21) <|
  fG mo_sta (sim_iast dX3_four_22) <|
  fG mo_ald (sim_ald_n dX3_four_23 rfl) <|
  fG mo_dup (sim_dup dX3_four_24) <|
  fG mo_getf (sim_getfG hG dX3_four_25 hc_3 (by decide) rfl in_X3 (fun _ _ _ h => h) (Or.inl q1259)) <|
  fG mo_int (sim_iconst dX3_four_28 (by decide)) <|
  fG mo_iadd (sim_iadd dX3_four_29) <|
  fG mo_putf (sim_putf hG dX3_four_30 hc_3 (by decide) rfl (by decide) in_X3 tyX3_ok nmX3 (Or.inl ⟨rfl, rfl⟩) (fun _ _ _ h => h) rfl q1259) <|
  fG mo_inc (sim_inc dX3_four_33 (by decide)) <|
  fG mo_goto (sim_goto dX3_four_36 rfl) <|
  trivial
theorem fX3_four_39 {X : tp_X} {az : Array Value} (hG : tp_Good X az) (hSt : tp_Stat X) : tp_Fit X yX3_four cX3_four none 3 tp_nm tp_by tp_ml tp_rtt 39 [o_vret] :=
  fE ie_vret (sim_vret dX3_four_39 rfl)
theorem F_X3_four {X : tp_X} {az : Array Value} (hG : tp_Good X az) (hSt : tp_Stat X) (pc : Nat) : tp_Fit X yX3_four cX3_four none 3 tp_nm tp_by tp_ml tp_rtt pc (mX3_four pc) :=
  fI (fX3_four_0 hG hSt) <| fI (fX3_four_3 hG hSt) <| fI (fX3_four_39 hG hSt) <| trivial
theorem fX3_end_0 {X : tp_X} {az : Array Value} (hG : tp_Good X az) (hSt : tp_Stat X) : tp_Fit X yX3_end cX3_end (some .int) 2 tp_nm tp_by tp_ml tp_rtt 0 [o_ild (.iload_n 1) 1, o_int (.iconst 0) 0, o_ald (.aload_n 0) 0, o_getf (.getfield 112) 3 7, o_cs (.invokestatic 90) kX3_isIn 3 0, o_ifne 5 14, o_int (.iconst (-1)) (-1), o_iret 0] :=
  fG mo_ild (sim_ild_n dX3_end_0 rfl) <|
  fG mo_int (sim_iconst dX3_end_1 (by decide)) <|
  fG mo_ald (sim_ald_n dX3_end_2 rfl) <|
  fG mo_getf (sim_getfG hG dX3_end_3 hc_3 (by decide) rfl in_X3 (fun _ _ _ h => h) (Or.inl q1259)) <|
  fC (ic_cs (Or.inl rfl)) (sim_cs hG dX3_end_6 M_X3_isIn (by rw [nm_X3_isIn]; rfl) (by rw [nm_X3_isIn]; exact q1400) (by rw [nm_X3_isIn]; exact q1401)) <|
  fG mo_ifne (sim_ifne dX3_end_9 rfl) <|
  fG mo_int (sim_iconst dX3_end_12 (by decide)) <|
  fE ie_iret (sim_iret dX3_end_13 rfl (Or.inl ⟨rfl, rfl⟩))
theorem fX3_end_14 {X : tp_X} {az : Array Value} (hG : tp_Good X az) (hSt : tp_Stat X) : tp_Fit X yX3_end cX3_end (some .int) 2 tp_nm tp_by tp_ml tp_rtt 14 [o_ald (.aload_n 0) 0, o_ild (.iload_n 1) 1, o_putf (.putfield 112) 3 7 0, o_ild (.iload_n 1) 1, o_iret 0] :=
  fG mo_ald (sim_ald_n dX3_end_14 rfl) <|
  fG mo_ild (sim_ild_n dX3_end_15 rfl) <|
  fG mo_putf (sim_putf hG dX3_end_16 hc_3 (by decide) rfl (by decide) in_X3 tyX3_ok nmX3 (Or.inl ⟨rfl, rfl⟩) (fun _ _ _ h => h) rfl q1259) <|
  fG mo_ild (sim_ild_n dX3_end_19 rfl) <|
  fE ie_iret (sim_iret dX3_end_20 rfl (Or.inl ⟨rfl, rfl⟩))
theorem F_X3_end {X : tp_X} {az : Array Value} (hG : tp_Good X az) (hSt : tp_Stat X) (pc : Nat) : tp_Fit X yX3_end cX3_end (some .int) 2 tp_nm tp_by tp_ml tp_rtt pc (mX3_end pc) :=
  fI (fX3_end_0 hG hSt) <| fI (fX3_end_14 hG hSt) <| trivial
theorem fX3_text_0 {X : tp_X} {az : Array Value} (hG : tp_Good X az) (hSt : tp_Stat X) : tp_Fit X yX3_text cX3_text (some .int) 1 tp_nm tp_by tp_ml tp_rtt 0 [o_ald (.aload_n 0) 0, o_getf (.getfield 7) 3 3, o_int (.iconst 2) 2, o_lda .iaload [0, 20], o_int (.iconst 4) 4, o_icmpne 5 12, o_int (.iconst (-1)) (-1), o_iret 0] :=
  fG mo_ald (sim_ald_n dX3_text_0 rfl) <|
  fG mo_getf (sim_getfG hG dX3_text_1 hc_3 (by decide) rfl in_X3 (fun _ _ _ h => h) (Or.inl q1255)) <|
  fG mo_int (sim_iconst dX3_text_4 (by decide)) <|
  fG mo_lda (sim_iald dX3_text_5) <|
  fG mo_int (sim_iconst dX3_text_6 (by decide)) <|
  fG mo_icmpne (sim_icmpne dX3_text_7 rfl) <|
  fG mo_int (sim_iconst dX3_text_10 (by decide)) <|
  fE ie_iret (sim_iret dX3_text_11 rfl (Or.inl ⟨rfl, rfl⟩))
theorem fX3_text_12 {X : tp_X} {az : Array Value} (hG : tp_Good X az) (hSt : tp_Stat X) : tp_Fit X yX3_text cX3_text (some .int) 1 tp_nm tp_by tp_ml tp_rtt 12 [o_ald (.aload_n 0) 0, o_ald (.aload_n 0) 0, o_cv (.invokevirtual 252) 3 kX3_readText 0 0, o_putf (.putfield 22) 3 8 0, o_ald (.aload_n 0) 0, o_ald (.aload_n 0) 0, o_getf (.getfield 22) 3 8, o_ifne 7 32, o_int (.iconst (-1)) (-1), o_goto 7 36] :=
  fG mo_ald (sim_ald_n dX3_text_12 rfl) <|
  fG mo_ald (sim_ald_n dX3_text_13 rfl) <|
  fC (ic_cv (Or.inl rfl)) (sim_cv hG dX3_text_14 (hG.2.1 3 _ hc_3).2.1 M_X3_readText (by rw [nm_X3_readText]; rfl) (by rw [nm_X3_readText]; exact q1460) (by rw [nm_X3_readText]; exact q1462) (by rw [nm_X3_readText]; exact qs52)) <|
  fG mo_putf (sim_putf hG dX3_text_17 hc_3 (by decide) rfl (by decide) in_X3 tyX3_ok nmX3 (Or.inl ⟨rfl, rfl⟩) (fun _ _ _ h => h) rfl q1260) <|
  fG mo_ald (sim_ald_n dX3_text_20 rfl) <|
  fG mo_ald (sim_ald_n dX3_text_21 rfl) <|
  fG mo_getf (sim_getfG hG dX3_text_22 hc_3 (by decide) rfl in_X3 (fun _ _ _ h => h) (Or.inl q1260)) <|
  fG mo_ifne (sim_ifne dX3_text_25 rfl) <|
  fG mo_int (sim_iconst dX3_text_28 (by decide)) <|
  fG mo_goto (sim_goto dX3_text_29 rfl) <|
  trivial
theorem fX3_text_32 {X : tp_X} {az : Array Value} (hG : tp_Good X az) (hSt : tp_Stat X) : tp_Fit X yX3_text cX3_text (some .int) 1 tp_nm tp_by tp_ml tp_rtt 32 [o_ald (.aload_n 0) 0, o_getf (.getfield 126) 3 11, o_fall 36] :=
  fG mo_ald (sim_ald_n dX3_text_32 rfl) <|
  fG mo_getf (sim_getfG hG dX3_text_33 hc_3 (by decide) rfl in_X3 (fun _ _ _ h => h) (Or.inl q1263)) <|
  fF
theorem fX3_text_36 {X : tp_X} {az : Array Value} (hG : tp_Good X az) (hSt : tp_Stat X) : tp_Fit X yX3_text cX3_text (some .int) 1 tp_nm tp_by tp_ml tp_rtt 36 [o_putf (.putfield 26) 3 9 0, o_ald (.aload_n 0) 0, o_int (.iconst 0) 0, o_putf (.putfield 112) 3 7 0, o_ald (.aload_n 0) 0, o_getf (.getfield 22) 3 8, o_ifeq 5 53, o_int (.iconst (-1)) (-1), o_iret 0] :=
  fG mo_putf (sim_putf hG dX3_text_36 hc_3 (by decide) rfl (by decide) in_X3 tyX3_ok nmX3 (Or.inl ⟨rfl, rfl⟩) (fun _ _ _ h => h) rfl q1261) <|
  fG mo_ald (sim_ald_n dX3_text_39 rfl) <|
  fG mo_int (sim_iconst dX3_text_40 (by decide)) <|
  fG mo_putf (sim_putf hG dX3_text_41 hc_3 (by decide) rfl (by decide) in_X3 tyX3_ok nmX3 (Or.inl ⟨rfl, rfl⟩) (fun _ _ _ h => h) rfl q1259) <|
  fG mo_ald (sim_ald_n dX3_text_44 rfl) <|
  fG mo_getf (sim_getfG hG dX3_text_45 hc_3 (by decide) rfl in_X3 (fun _ _ _ h => h) (Or.inl q1260)) <|
  fG mo_ifeq (sim_ifeq dX3_text_48 rfl) <|
  fG mo_int (sim_iconst dX3_text_51 (by decide)) <|
  fE ie_iret (sim_iret dX3_text_52 rfl (Or.inl ⟨rfl, rfl⟩))
theorem fX3_text_53 {X : tp_X} {az : Array Value} (hG : tp_Good X az) (hSt : tp_Stat X) : tp_Fit X yX3_text cX3_text (some .int) 1 tp_nm tp_by tp_ml tp_rtt 53 [o_ald (.aload_n 0) 0, o_getf (.getfield 7) 3 3, o_int (.iconst 2) 2, o_dup2, o_lda .iaload [0, 20], o_int (.iconst 1) 1, o_iadd, o_sta .iastore [0], o_ald (.aload_n 0) 0, o_getf (.getfield 7) 3 3, o_int (.iconst 2) 2, o_lda .iaload [0, 20], o_int (.iconst 1) 1, o_isub, o_iret 0] :=
  fG mo_ald (sim_ald_n dX3_text_53 rfl) <|
  fG mo_getf (sim_getfG hG dX3_text_54 hc_3 (by decide) rfl in_X3 (fun _ _ _ h => h) (Or.inl q1255)) <|
  fG mo_int (sim_iconst dX3_text_57 (by decide)) <|
  fG mo_dup2 (sim_dup2 dX3_text_58) <|
  fG mo_lda (sim_iald dX3_text_59) <|
  fG mo_int (sim_iconst dX3_text_60 (by decide)) <|
  fG mo_iadd (sim_iadd dX3_text_61) <|
  fG mo_sta (sim_iast dX3_text_62) <|
  fG mo_ald (sim_ald_n dX3_text_63 rfl) <|
  fG mo_getf (sim_getfG hG dX3_text_64 hc_3 (by decide) rfl in_X3 (fun _ _ _ h => h) (Or.inl q1255)) <|
  fG mo_int (sim_iconst dX3_text_67 (by decide)) <|
  fG mo_lda (sim_iald dX3_text_68) <|
  fG mo_int (sim_iconst dX3_text_69 (by decide)) <|
  fG mo_isub (sim_isub dX3_text_70) <|
  fE ie_iret (sim_iret dX3_text_71 rfl (Or.inl ⟨rfl, rfl⟩))
theorem F_X3_text {X : tp_X} {az : Array Value} (hG : tp_Good X az) (hSt : tp_Stat X) (pc : Nat) : tp_Fit X yX3_text cX3_text (some .int) 1 tp_nm tp_by tp_ml tp_rtt pc (mX3_text pc) :=
  fI (fX3_text_0 hG hSt) <| fI (fX3_text_12 hG hSt) <| fI (fX3_text_32 hG hSt) <| fI (fX3_text_36 hG hSt) <| fI (fX3_text_53 hG hSt) <| trivial
theorem fX3_readText_0 {X : tp_X} {az : Array Value} (hG : tp_Good X az) (hSt : tp_Stat X) : tp_Fit X yX3_readText cX3_readText (some .int) 2 tp_nm tp_by tp_ml tp_rtt 0 [o_ald (.aload_n 0) 0, o_int (.sipush 800) 800, o_ald (.aload_n 0) 0, o_getf (.getfield 7) 3 3, o_int (.iconst 2) 2, o_lda .iaload [0, 20], o_imul, o_putf (.putfield 154) 3 15 0, o_ald (.aload_n 0) 0, o_getf (.getfield 16) 3 5, o_ald (.aload_n 0) 0, o_getf (.getfield 154) 3 15, o_int (.iconst 0) 0, o_sta .iastore [0], o_ald (.aload_n 0) 0, o_int (.iconst 0) 0, o_putf (.putfield 157) 3 17 0, o_ald (.aload_n 0) 0, o_int (.iconst 0) 0, o_putf (.putfield 167) 3 21 0, o_ald (.aload_n 0) 0, o_int (.iconst 0) 0, o_putf (.putfield 240) 3 24 0, o_ald (.aload_n 0) 0, o_int (.iconst 0) 0, o_putf (.putfield 119) 3 10 0, o_ald (.aload_n 0) 0, o_cv (.invokevirtual 189) 3 kX3_nextToken 0 0, o_fall 48] :=
  fG mo_ald (sim_ald_n dX3_readText_0 rfl) <|
  fG mo_int (sim_sipush dX3_readText_1 (by decide)) <|
  fG mo_ald (sim_ald_n dX3_readText_4 rfl) <|
  fG mo_getf (sim_getfG hG dX3_readText_5 hc_3 (by decide) rfl in_X3 (fun _ _ _ h => h) (Or.inl q1255)) <|
  fG mo_int (sim_iconst dX3_readText_8 (by decide)) <|
  fG mo_lda (sim_iald dX3_readText_9) <|
  fG mo_imul (sim_imul dX3_readText_10) <|
  fG mo_putf (sim_putf hG dX3_readText_11 hc_3 (by decide) rfl (by decide) in_X3 tyX3_ok nmX3 (Or.inl ⟨rfl, rfl⟩) (fun _ _ _ h => h) rfl q1267) <|
  fG mo_ald (sim_ald_n dX3_readText_14 rfl) <|
  fG mo_getf (sim_getfG hG dX3_readText_15 hc_3 (by decide) rfl in_X3 (fun _ _ _ h => h) (Or.inl q1257)) <|
  fG mo_ald (sim_ald_n dX3_readText_18 rfl) <|
  fG mo_getf (sim_getfG hG dX3_readText_19 hc_3 (by decide) rfl in_X3 (fun _ _ _ h => h) (Or.inl q1267)) <|
  fG mo_int (sim_iconst dX3_readText_22 (by decide)) <|
  fG mo_sta (sim_iast dX3_readText_23) <|
  fG mo_ald (sim_ald_n dX3_readText_24 rfl) <|
  fG mo_int (sim_iconst dX3_readText_25 (by decide)) <|
  fG mo_putf (sim_putf hG dX3_readText_26 hc_3 (by decide) rfl (by decide) in_X3 tyX3_ok nmX3 (Or.inl ⟨rfl, rfl⟩) (fun _ _ _ h => h) rfl q1268) <|
  fG mo_ald (sim_ald_n dX3_readText_29 rfl) <|
  fG mo_int (sim_iconst dX3_readText_30 (by decide)) <|
  fG mo_putf (sim_putf hG dX3_readText_31 hc_3 (by decide) rfl (by decide) in_X3 tyX3_ok nmX3 (Or.inl ⟨rfl, rfl⟩) (fun _ _ _ h => h) rfl q1271) <|
  fG mo_ald (sim_ald_n dX3_readText_34 rfl) <|
  fG mo_int (sim_iconst dX3_readText_35 (by decide)) <|
  fG mo_putf (sim_putf hG dX3_readText_36 hc_3 (by decide) rfl (by decide) in_X3 tyX3_ok nmX3 (Or.inl ⟨rfl, rfl⟩) (fun _ _ _ h => h) rfl q1274) <|
  fG mo_ald (sim_ald_n dX3_readText_39 rfl) <|
  fG mo_int (sim_iconst dX3_readText_40 (by decide)) <|
  fG mo_putf (sim_putf hG dX3_readText_41 hc_3 (by decide) rfl (by decide) in_X3 tyX3_ok nmX3 (Or.inl ⟨rfl, rfl⟩) (fun _ _ _ h => h) rfl q1262) <|
  fG mo_ald (sim_ald_n dX3_readText_44 rfl) <|
  fC (ic_cv (Or.inl rfl)) (sim_cv hG dX3_readText_45 (hG.2.1 3 _ hc_3).2.1 M_X3_nextToken (by rw [nm_X3_nextToken]; rfl) (by rw [nm_X3_nextToken]; exact q1464) (by rw [nm_X3_nextToken]; exact q1466) (by rw [nm_X3_nextToken]; exact qs53)) <|
  fF
theorem fX3_readText_48 {X : tp_X} {az : Array Value} (hG : tp_Good X az) (hSt : tp_Stat X) : tp_Fit X yX3_readText cX3_readText (some .int) 2 tp_nm tp_by tp_ml tp_rtt 48 [o_ald (.aload_n 0) 0, o_getf (.getfield 129) 3 12, o_ifeq 17 69, o_ald (.aload_n 0) 0, o_cv (.invokevirtual 249) 3 kX3_clause 0 0, o_ist (.istore_n 1) 1, o_ild (.iload_n 1) 1, o_ifeq 5 66, o_ild (.iload_n 1) 1, o_iret 0] :=
  fG mo_ald (sim_ald_n dX3_readText_48 rfl) <|
  fG mo_getf (sim_getfG hG dX3_readText_49 hc_3 (by decide) rfl in_X3 (fun _ _ _ h => h) (Or.inl q1264)) <|
  fG mo_ifeq (sim_ifeq dX3_readText_52 rfl) <|
  fG mo_ald (sim_ald_n dX3_readText_55 rfl) <|
  fC (ic_cv (Or.inl rfl)) (sim_cv hG dX3_readText_56 (hG.2.1 3 _ hc_3).2.1 M_X3_clause (by rw [nm_X3_clause]; rfl) (by rw [nm_X3_clause]; exact q1479) (by rw [nm_X3_clause]; exact q1481) (by rw [nm_X3_clause]; exact qs55)) <|
  fG mo_ist (sim_ist_n dX3_readText_59 rfl) <|
  fG mo_ild (sim_ild_n dX3_readText_60 rfl) <|
  fG mo_ifeq (sim_ifeq dX3_readText_61 rfl) <|
  fG mo_ild (sim_ild_n dX3_readText_64 rfl) <|
  fE ie_iret (sim_iret dX3_readText_65 rfl (Or.inl ⟨rfl, rfl⟩))
theorem fX3_readText_66 {X : tp_X} {az : Array Value} (hG : tp_Good X az) (hSt : tp_Stat X) : tp_Fit X yX3_readText cX3_readText (some .int) 2 tp_nm tp_by tp_ml tp_rtt 66 [o_goto (-18) 48] :=
  fG mo_goto (sim_goto dX3_readText_66 rfl) <|
  trivial
theorem fX3_readText_69 {X : tp_X} {az : Array Value} (hG : tp_Good X az) (hSt : tp_Stat X) : tp_Fit X yX3_readText cX3_readText (some .int) 2 tp_nm tp_by tp_ml tp_rtt 69 [o_int (.iconst 0) 0, o_iret 0] :=
  fG mo_int (sim_iconst dX3_readText_69 (by decide)) <|
  fE ie_iret (sim_iret dX3_readText_70 rfl (Or.inl ⟨rfl, rfl⟩))
theorem F_X3_readText {X : tp_X} {az : Array Value} (hG : tp_Good X az) (hSt : tp_Stat X) (pc : Nat) : tp_Fit X yX3_readText cX3_readText (some .int) 2 tp_nm tp_by tp_ml tp_rtt pc (mX3_readText pc) :=
  fI (fX3_readText_0 hG hSt) <| fI (fX3_readText_48 hG hSt) <| fI (fX3_readText_66 hG hSt) <| fI (fX3_readText_69 hG hSt) <| trivial
theorem fX3_nextToken_0 {X : tp_X} {az : Array Value} (hG : tp_Good X az) (hSt : tp_Stat X) : tp_Fit X yX3_nextToken cX3_nextToken none 3 tp_nm tp_by tp_ml tp_rtt 0 [o_ald (.aload_n 0) 0, o_ald (.aload_n 0) 0, o_getf (.getfield 119) 3 10, o_cv (.invokevirtual 122) 3 kX3_byteAt 1 0, o_int (.bipush 32) 32, o_icmpeq 16 26, o_ald (.aload_n 0) 0, o_ald (.aload_n 0) 0, o_getf (.getfield 119) 3 10, o_cv (.invokevirtual 122) 3 kX3_byteAt 1 0, o_int (.bipush 10) 10, o_icmpne 16 39, o_fall 26] :=
  fG mo_ald (sim_ald_n dX3_nextToken_0 rfl) <|
  fG mo_ald (sim_ald_n dX3_nextToken_1 rfl) <|
  fG mo_getf (sim_getfG hG dX3_nextToken_2 hc_3 (by decide) rfl in_X3 (fun _ _ _ h => h) (Or.inl q1262)) <|
  fC (ic_cv (Or.inl rfl)) (sim_cv hG dX3_nextToken_5 (hG.2.1 3 _ hc_3).2.1 M_X3_byteAt (by rw [nm_X3_byteAt]; rfl) (by rw [nm_X3_byteAt]; exact q1468) (by rw [nm_X3_byteAt]; exact q1470) (by rw [nm_X3_byteAt]; exact qs54)) <|
  fG mo_int (sim_bipush dX3_nextToken_8 (by decide)) <|
  fG mo_icmpeq (sim_icmpeq dX3_nextToken_10 rfl) <|
  fG mo_ald (sim_ald_n dX3_nextToken_13 rfl) <|
  fG mo_ald (sim_ald_n dX3_nextToken_14 rfl) <|
  fG mo_getf (sim_getfG hG dX3_nextToken_15 hc_3 (by decide) rfl in_X3 (fun _ _ _ h => h) (Or.inl q1262)) <|
  fC (ic_cv (Or.inl rfl)) (sim_cv hG dX3_nextToken_18 (hG.2.1 3 _ hc_3).2.1 M_X3_byteAt (by rw [nm_X3_byteAt]; rfl) (by rw [nm_X3_byteAt]; exact q1468) (by rw [nm_X3_byteAt]; exact q1470) (by rw [nm_X3_byteAt]; exact qs54)) <|
  fG mo_int (sim_bipush dX3_nextToken_21 (by decide)) <|
  fG mo_icmpne (sim_icmpne dX3_nextToken_23 rfl) <|
  fF
theorem fX3_nextToken_26 {X : tp_X} {az : Array Value} (hG : tp_Good X az) (hSt : tp_Stat X) : tp_Fit X yX3_nextToken cX3_nextToken none 3 tp_nm tp_by tp_ml tp_rtt 26 [o_ald (.aload_n 0) 0, o_dup, o_getf (.getfield 119) 3 10, o_int (.iconst 1) 1, o_iadd, o_putf (.putfield 119) 3 10 0, o_goto (-36) 0] :=
  fG mo_ald (sim_ald_n dX3_nextToken_26 rfl) <|
  fG mo_dup (sim_dup dX3_nextToken_27) <|
  fG mo_getf (sim_getfG hG dX3_nextToken_28 hc_3 (by decide) rfl in_X3 (fun _ _ _ h => h) (Or.inl q1262)) <|
  fG mo_int (sim_iconst dX3_nextToken_31 (by decide)) <|
  fG mo_iadd (sim_iadd dX3_nextToken_32) <|
  fG mo_putf (sim_putf hG dX3_nextToken_33 hc_3 (by decide) rfl (by decide) in_X3 tyX3_ok nmX3 (Or.inl ⟨rfl, rfl⟩) (fun _ _ _ h => h) rfl q1262) <|
  fG mo_goto (sim_goto dX3_nextToken_36 rfl) <|
  trivial
theorem fX3_nextToken_39 {X : tp_X} {az : Array Value} (hG : tp_Good X az) (hSt : tp_Stat X) : tp_Fit X yX3_nextToken cX3_nextToken none 3 tp_nm tp_by tp_ml tp_rtt 39 [o_ald (.aload_n 0) 0, o_ald (.aload_n 0) 0, o_getf (.getfield 119) 3 10, o_putf (.putfield 126) 3 11 0, o_ald (.aload_n 0) 0, o_ald (.aload_n 0) 0, o_getf (.getfield 119) 3 10, o_cv (.invokevirtual 122) 3 kX3_byteAt 1 0, o_ist (.istore_n 1) 1, o_ild (.iload_n 1) 1, o_ifge 11 68, o_ald (.aload_n 0) 0, o_int (.iconst 0) 0, o_putf (.putfield 129) 3 12 0, o_goto 325 390] :=
  fG mo_ald (sim_ald_n dX3_nextToken_39 rfl) <|
  fG mo_ald (sim_ald_n dX3_nextToken_40 rfl) <|
  fG mo_getf (sim_getfG hG dX3_nextToken_41 hc_3 (by decide) rfl in_X3 (fun _ _ _ h => h) (Or.inl q1262)) <|
  fG mo_putf (sim_putf hG dX3_nextToken_44 hc_3 (by decide) rfl (by decide) in_X3 tyX3_ok nmX3 (Or.inl ⟨rfl, rfl⟩) (fun _ _ _ h => h) rfl q1263) <|
  fG mo_ald (sim_ald_n dX3_nextToken_47 rfl) <|
  fG mo_ald (sim_ald_n dX3_nextToken_48 rfl) <|
  fG mo_getf (sim_getfG hG dX3_nextToken_49 hc_3 (by decide) rfl in_X3 (fun _ _ _ h => h) (Or.inl q1262)) <|
  fC (ic_cv (Or.inl rfl)) (sim_cv hG dX3_nextToken_52 (hG.2.1 3 _ hc_3).2.1 M_X3_byteAt (by rw [nm_X3_byteAt]; rfl) (by rw [nm_X3_byteAt]; exact q1468) (by rw [nm_X3_byteAt]; exact q1470) (by rw [nm_X3_byteAt]; exact qs54)) <|
  fG mo_ist (sim_ist_n dX3_nextToken_55 rfl) <|
  fG mo_ild (sim_ild_n dX3_nextToken_56 rfl) <|
  fG mo_ifge (sim_ifge dX3_nextToken_57 rfl) <|
  fG mo_ald (sim_ald_n dX3_nextToken_60 rfl) <|
  fG mo_int (sim_iconst dX3_nextToken_61 (by decide)) <|
  fG mo_putf (sim_putf hG dX3_nextToken_62 hc_3 (by decide) rfl (by decide) in_X3 tyX3_ok nmX3 (Or.inl ⟨rfl, rfl⟩) (fun _ _ _ h => h) rfl q1264) <|
  fG mo_goto (sim_goto dX3_nextToken_65 rfl) <|
  trivial
theorem fX3_nextToken_68 {X : tp_X} {az : Array Value} (hG : tp_Good X az) (hSt : tp_Stat X) : tp_Fit X yX3_nextToken cX3_nextToken none 3 tp_nm tp_by tp_ml tp_rtt 68 [o_ild (.iload_n 1) 1, o_cs (.invokestatic 132) kX3_isDigit 1 0, o_ifeq 72 144, o_ald (.aload_n 0) 0, o_int (.iconst 1) 1, o_putf (.putfield 129) 3 12 0, o_ald (.aload_n 0) 0, o_int (.iconst 0) 0, o_putf (.putfield 135) 3 13 0, o_fall 85] :=
  fG mo_ild (sim_ild_n dX3_nextToken_68 rfl) <|
  fC (ic_cs (Or.inl rfl)) (sim_cs hG dX3_nextToken_69 M_X3_isDigit (by rw [nm_X3_isDigit]; rfl) (by rw [nm_X3_isDigit]; exact q1472) (by rw [nm_X3_isDigit]; exact q1473)) <|
  fG mo_ifeq (sim_ifeq dX3_nextToken_72 rfl) <|
  fG mo_ald (sim_ald_n dX3_nextToken_75 rfl) <|
  fG mo_int (sim_iconst dX3_nextToken_76 (by decide)) <|
  fG mo_putf (sim_putf hG dX3_nextToken_77 hc_3 (by decide) rfl (by decide) in_X3 tyX3_ok nmX3 (Or.inl ⟨rfl, rfl⟩) (fun _ _ _ h => h) rfl q1264) <|
  fG mo_ald (sim_ald_n dX3_nextToken_80 rfl) <|
  fG mo_int (sim_iconst dX3_nextToken_81 (by decide)) <|
  fG mo_putf (sim_putf hG dX3_nextToken_82 hc_3 (by decide) rfl (by decide) in_X3 tyX3_ok nmX3 (Or.inl ⟨rfl, rfl⟩) (fun _ _ _ h => h) rfl q1265) <|
  fF
theorem fX3_nextToken_85 {X : tp_X} {az : Array Value} (hG : tp_Good X az) (hSt : tp_Stat X) : tp_Fit X yX3_nextToken cX3_nextToken none 3 tp_nm tp_by tp_ml tp_rtt 85 [o_ald (.aload_n 0) 0, o_ald (.aload_n 0) 0, o_getf (.getfield 119) 3 10, o_cv (.invokevirtual 122) 3 kX3_byteAt 1 0, o_cs (.invokestatic 132) kX3_isDigit 1 0, o_ifeq 294 390, o_ald (.aload_n 0) 0, o_getf (.getfield 135) 3 13, o_int (.ldc 138) 100000, o_icmpge 26 131, o_ald (.aload_n 0) 0, o_int (.bipush 10) 10, o_ald (.aload_n 0) 0, o_getf (.getfield 135) 3 13, o_imul, o_ald (.aload_n 0) 0, o_ald (.aload_n 0) 0, o_getf (.getfield 119) 3 10, o_cv (.invokevirtual 122) 3 kX3_byteAt 1 0, o_iadd, o_int (.bipush 48) 48, o_isub, o_putf (.putfield 135) 3 13 0, o_fall 131] :=
  fG mo_ald (sim_ald_n dX3_nextToken_85 rfl) <|
  fG mo_ald (sim_ald_n dX3_nextToken_86 rfl) <|
  fG mo_getf (sim_getfG hG dX3_nextToken_87 hc_3 (by decide) rfl in_X3 (fun _ _ _ h => h) (Or.inl q1262)) <|
  fC (ic_cv (Or.inl rfl)) (sim_cv hG dX3_nextToken_90 (hG.2.1 3 _ hc_3).2.1 M_X3_byteAt (by rw [nm_X3_byteAt]; rfl) (by rw [nm_X3_byteAt]; exact q1468) (by rw [nm_X3_byteAt]; exact q1470) (by rw [nm_X3_byteAt]; exact qs54)) <|
  fC (ic_cs (Or.inl rfl)) (sim_cs hG dX3_nextToken_93 M_X3_isDigit (by rw [nm_X3_isDigit]; rfl) (by rw [nm_X3_isDigit]; exact q1472) (by rw [nm_X3_isDigit]; exact q1473)) <|
  fG mo_ifeq (sim_ifeq dX3_nextToken_96 rfl) <|
  fG mo_ald (sim_ald_n dX3_nextToken_99 rfl) <|
  fG mo_getf (sim_getfG hG dX3_nextToken_100 hc_3 (by decide) rfl in_X3 (fun _ _ _ h => h) (Or.inl q1265)) <|
  fG mo_int (sim_ldc hG dX3_nextToken_103 q1475 rfl) <|
  fG mo_icmpge (sim_icmpge dX3_nextToken_105 rfl) <|
  fG mo_ald (sim_ald_n dX3_nextToken_108 rfl) <|
  fG mo_int (sim_bipush dX3_nextToken_109 (by decide)) <|
  fG mo_ald (sim_ald_n dX3_nextToken_111 rfl) <|
  fG mo_getf (sim_getfG hG dX3_nextToken_112 hc_3 (by decide) rfl in_X3 (fun _ _ _ h => h) (Or.inl q1265)) <|
  fG mo_imul (sim_imul dX3_nextToken_115) <|
  fG mo_ald (sim_ald_n dX3_nextToken_116 rfl) <|
  fG mo_ald (sim_ald_n dX3_nextToken_117 rfl) <|
  fG mo_getf (sim_getfG hG dX3_nextToken_118 hc_3 (by decide) rfl in_X3 (fun _ _ _ h => h) (Or.inl q1262)) <|
  fC (ic_cv (Or.inl rfl)) (sim_cv hG dX3_nextToken_121 (hG.2.1 3 _ hc_3).2.1 M_X3_byteAt (by rw [nm_X3_byteAt]; rfl) (by rw [nm_X3_byteAt]; exact q1468) (by rw [nm_X3_byteAt]; exact q1470) (by rw [nm_X3_byteAt]; exact qs54)) <|
  fG mo_iadd (sim_iadd dX3_nextToken_124) <|
  fG mo_int (sim_bipush dX3_nextToken_125 (by decide)) <|
  fG mo_isub (sim_isub dX3_nextToken_127) <|
  fG mo_putf (sim_putf hG dX3_nextToken_128 hc_3 (by decide) rfl (by decide) in_X3 tyX3_ok nmX3 (Or.inl ⟨rfl, rfl⟩) (fun _ _ _ h => h) rfl q1265) <|
  fF
theorem fX3_nextToken_131 {X : tp_X} {az : Array Value} (hG : tp_Good X az) (hSt : tp_Stat X) : tp_Fit X yX3_nextToken cX3_nextToken none 3 tp_nm tp_by tp_ml tp_rtt 131 [o_ald (.aload_n 0) 0, o_dup, o_getf (.getfield 119) 3 10, o_int (.iconst 1) 1, o_iadd, o_putf (.putfield 119) 3 10 0, o_goto (-56) 85] :=
  fG mo_ald (sim_ald_n dX3_nextToken_131 rfl) <|
  fG mo_dup (sim_dup dX3_nextToken_132) <|
  fG mo_getf (sim_getfG hG dX3_nextToken_133 hc_3 (by decide) rfl in_X3 (fun _ _ _ h => h) (Or.inl q1262)) <|
  fG mo_int (sim_iconst dX3_nextToken_136 (by decide)) <|
  fG mo_iadd (sim_iadd dX3_nextToken_137) <|
  fG mo_putf (sim_putf hG dX3_nextToken_138 hc_3 (by decide) rfl (by decide) in_X3 tyX3_ok nmX3 (Or.inl ⟨rfl, rfl⟩) (fun _ _ _ h => h) rfl q1262) <|
  fG mo_goto (sim_goto dX3_nextToken_141 rfl) <|
  trivial
theorem fX3_nextToken_144 {X : tp_X} {az : Array Value} (hG : tp_Good X az) (hSt : tp_Stat X) : tp_Fit X yX3_nextToken cX3_nextToken none 3 tp_nm tp_by tp_ml tp_rtt 144 [o_ild (.iload_n 1) 1, o_cs (.invokestatic 139) kX3_isLetter 1 0, o_ifeq 97 245, o_ald (.aload_n 0) 0, o_int (.iconst 2) 2, o_putf (.putfield 129) 3 12 0, o_ald (.aload_n 0) 0, o_lng (.lconst 0) 0, o_putf (.putfield 142) 3 14 3, o_fall 161] :=
  fG mo_ild (sim_ild_n dX3_nextToken_144 rfl) <|
  fC (ic_cs (Or.inl rfl)) (sim_cs hG dX3_nextToken_145 M_X3_isLetter (by rw [nm_X3_isLetter]; rfl) (by rw [nm_X3_isLetter]; exact q1476) (by rw [nm_X3_isLetter]; exact q1477)) <|
  fG mo_ifeq (sim_ifeq dX3_nextToken_148 rfl) <|
  fG mo_ald (sim_ald_n dX3_nextToken_151 rfl) <|
  fG mo_int (sim_iconst dX3_nextToken_152 (by decide)) <|
  fG mo_putf (sim_putf hG dX3_nextToken_153 hc_3 (by decide) rfl (by decide) in_X3 tyX3_ok nmX3 (Or.inl ⟨rfl, rfl⟩) (fun _ _ _ h => h) rfl q1264) <|
  fG mo_ald (sim_ald_n dX3_nextToken_156 rfl) <|
  fG mo_lng (sim_lconst0 dX3_nextToken_157) <|
  fG mo_putf (sim_putf hG dX3_nextToken_158 hc_3 (by decide) rfl (by decide) in_X3 tyX3_ok nmX3 (Or.inr (Or.inr (Or.inr (Or.inl ⟨rfl, rfl⟩)))) (fun _ _ _ h => h) rfl q1266) <|
  fF
theorem fX3_nextToken_161 {X : tp_X} {az : Array Value} (hG : tp_Good X az) (hSt : tp_Stat X) : tp_Fit X yX3_nextToken cX3_nextToken none 3 tp_nm tp_by tp_ml tp_rtt 161 [o_ald (.aload_n 0) 0, o_ald (.aload_n 0) 0, o_getf (.getfield 119) 3 10, o_cv (.invokevirtual 122) 3 kX3_byteAt 1 0, o_cs (.invokestatic 139) kX3_isLetter 1 0, o_ifeq 51 223, o_ald (.aload_n 0) 0, o_getf (.getfield 119) 3 10, o_ald (.aload_n 0) 0, o_getf (.getfield 126) 3 11, o_isub, o_int (.bipush 7) 7, o_icmpge 24 210, o_ald (.aload_n 0) 0, o_ald (.aload_n 0) 0, o_getf (.getfield 142) 3 14, o_int (.bipush 8) 8, o_lshl, o_ald (.aload_n 0) 0, o_ald (.aload_n 0) 0, o_getf (.getfield 119) 3 10, o_cv (.invokevirtual 122) 3 kX3_byteAt 1 0, o_i2l, o_lor, o_putf (.putfield 142) 3 14 3, o_fall 210] :=
  fG mo_ald (sim_ald_n dX3_nextToken_161 rfl) <|
  fG mo_ald (sim_ald_n dX3_nextToken_162 rfl) <|
  fG mo_getf (sim_getfG hG dX3_nextToken_163 hc_3 (by decide) rfl in_X3 (fun _ _ _ h => h) (Or.inl q1262)) <|
  fC (ic_cv (Or.inl rfl)) (sim_cv hG dX3_nextToken_166 (hG.2.1 3 _ hc_3).2.1 M_X3_byteAt (by rw [nm_X3_byteAt]; rfl) (by rw [nm_X3_byteAt]; exact q1468) (by rw [nm_X3_byteAt]; exact q1470) (by rw [nm_X3_byteAt]; exact qs54)) <|
  fC (ic_cs (Or.inl rfl)) (sim_cs hG dX3_nextToken_169 M_X3_isLetter (by rw [nm_X3_isLetter]; rfl) (by rw [nm_X3_isLetter]; exact q1476) (by rw [nm_X3_isLetter]; exact q1477)) <|
  fG mo_ifeq (sim_ifeq dX3_nextToken_172 rfl) <|
  fG mo_ald (sim_ald_n dX3_nextToken_175 rfl) <|
  fG mo_getf (sim_getfG hG dX3_nextToken_176 hc_3 (by decide) rfl in_X3 (fun _ _ _ h => h) (Or.inl q1262)) <|
  fG mo_ald (sim_ald_n dX3_nextToken_179 rfl) <|
  fG mo_getf (sim_getfG hG dX3_nextToken_180 hc_3 (by decide) rfl in_X3 (fun _ _ _ h => h) (Or.inl q1263)) <|
  fG mo_isub (sim_isub dX3_nextToken_183) <|
  fG mo_int (sim_bipush dX3_nextToken_184 (by decide)) <|
  fG mo_icmpge (sim_icmpge dX3_nextToken_186 rfl) <|
  fG mo_ald (sim_ald_n dX3_nextToken_189 rfl) <|
  fG mo_ald (sim_ald_n dX3_nextToken_190 rfl) <|
  fG mo_getf (sim_getfG hG dX3_nextToken_191 hc_3 (by decide) rfl in_X3 (fun _ _ _ h => h) (Or.inl q1266)) <|
  fG mo_int (sim_bipush dX3_nextToken_194 (by decide)) <|
  fG mo_lshl (sim_lshl dX3_nextToken_196) <|
  fG mo_ald (sim_ald_n dX3_nextToken_197 rfl) <|
  fG mo_ald (sim_ald_n dX3_nextToken_198 rfl) <|
  fG mo_getf (sim_getfG hG dX3_nextToken_199 hc_3 (by decide) rfl in_X3 (fun _ _ _ h => h) (Or.inl q1262)) <|
  fC (ic_cv (Or.inl rfl)) (sim_cv hG dX3_nextToken_202 (hG.2.1 3 _ hc_3).2.1 M_X3_byteAt (by rw [nm_X3_byteAt]; rfl) (by rw [nm_X3_byteAt]; exact q1468) (by rw [nm_X3_byteAt]; exact q1470) (by rw [nm_X3_byteAt]; exact qs54)) <|
  fG mo_i2l (sim_i2l dX3_nextToken_205) <|
  fG mo_lor (sim_lor dX3_nextToken_206) <|
  fG mo_putf (sim_putf hG dX3_nextToken_207 hc_3 (by decide) rfl (by decide) in_X3 tyX3_ok nmX3 (Or.inr (Or.inr (Or.inr (Or.inl ⟨rfl, rfl⟩)))) (fun _ _ _ h => h) rfl q1266) <|
  fF
theorem fX3_nextToken_210 {X : tp_X} {az : Array Value} (hG : tp_Good X az) (hSt : tp_Stat X) : tp_Fit X yX3_nextToken cX3_nextToken none 3 tp_nm tp_by tp_ml tp_rtt 210 [o_ald (.aload_n 0) 0, o_dup, o_getf (.getfield 119) 3 10, o_int (.iconst 1) 1, o_iadd, o_putf (.putfield 119) 3 10 0, o_goto (-59) 161] :=
  fG mo_ald (sim_ald_n dX3_nextToken_210 rfl) <|
  fG mo_dup (sim_dup dX3_nextToken_211) <|
  fG mo_getf (sim_getfG hG dX3_nextToken_212 hc_3 (by decide) rfl in_X3 (fun _ _ _ h => h) (Or.inl q1262)) <|
  fG mo_int (sim_iconst dX3_nextToken_215 (by decide)) <|
  fG mo_iadd (sim_iadd dX3_nextToken_216) <|
  fG mo_putf (sim_putf hG dX3_nextToken_217 hc_3 (by decide) rfl (by decide) in_X3 tyX3_ok nmX3 (Or.inl ⟨rfl, rfl⟩) (fun _ _ _ h => h) rfl q1262) <|
  fG mo_goto (sim_goto dX3_nextToken_220 rfl) <|
  trivial
theorem fX3_nextToken_223 {X : tp_X} {az : Array Value} (hG : tp_Good X az) (hSt : tp_Stat X) : tp_Fit X yX3_nextToken cX3_nextToken none 3 tp_nm tp_by tp_ml tp_rtt 223 [o_ald (.aload_n 0) 0, o_getf (.getfield 119) 3 10, o_ald (.aload_n 0) 0, o_getf (.getfield 126) 3 11, o_isub, o_int (.bipush 7) 7, o_icmple 156 390, o_ald (.aload_n 0) 0, o_lng (.lconst 0) 0, o_putf (.putfield 142) 3 14 3, o_goto 148 390] :=
  fG mo_ald (sim_ald_n dX3_nextToken_223 rfl) <|
  fG mo_getf (sim_getfG hG dX3_nextToken_224 hc_3 (by decide) rfl in_X3 (fun _ _ _ h => h) (Or.inl q1262)) <|
  fG mo_ald (sim_ald_n dX3_nextToken_227 rfl) <|
  fG mo_getf (sim_getfG hG dX3_nextToken_228 hc_3 (by decide) rfl in_X3 (fun _ _ _ h => h) (Or.inl q1263)) <|
  fG mo_isub (sim_isub dX3_nextToken_231) <|
  fG mo_int (sim_bipush dX3_nextToken_232 (by decide)) <|
  fG mo_icmple (sim_icmple dX3_nextToken_234 rfl) <|
  fG mo_ald (sim_ald_n dX3_nextToken_237 rfl) <|
  fG mo_lng (sim_lconst0 dX3_nextToken_238) <|
  fG mo_putf (sim_putf hG dX3_nextToken_239 hc_3 (by decide) rfl (by decide) in_X3 tyX3_ok nmX3 (Or.inr (Or.inr (Or.inr (Or.inl ⟨rfl, rfl⟩)))) (fun _ _ _ h => h) rfl q1266) <|
  fG mo_goto (sim_goto dX3_nextToken_242 rfl) <|
  trivial
theorem fX3_nextToken_245 {X : tp_X} {az : Array Value} (hG : tp_Good X az) (hSt : tp_Stat X) : tp_Fit X yX3_nextToken cX3_nextToken none 3 tp_nm tp_by tp_ml tp_rtt 245 [o_ald (.aload_n 0) 0, o_dup, o_getf (.getfield 119) 3 10, o_int (.iconst 1) 1, o_iadd, o_putf (.putfield 119) 3 10 0, o_ild (.iload_n 1) 1, o_int (.bipush 60) 60, o_icmpeq 63 321, o_ild (.iload_n 1) 1, o_int (.bipush 62) 62, o_icmpeq 57 321, o_ild (.iload_n 1) 1, o_int (.bipush 61) 61, o_icmpeq 51 321, o_ild (.iload_n 1) 1, o_int (.bipush 35) 35, o_icmpeq 45 321, o_ild (.iload_n 1) 1, o_int (.bipush 43) 43, o_icmpeq 39 321, o_ild (.iload_n 1) 1, o_int (.bipush 45) 45, o_icmpeq 33 321, o_ild (.iload_n 1) 1, o_int (.bipush 42) 42, o_icmpeq 27 321, o_ild (.iload_n 1) 1, o_int (.bipush 47) 47, o_icmpeq 21 321, o_ild (.iload_n 1) 1, o_int (.bipush 40) 40, o_icmpeq 15 321, o_ild (.iload_n 1) 1, o_int (.bipush 41) 41, o_icmpeq 9 321, o_ild (.iload_n 1) 1, o_int (.bipush 59) 59, o_icmpne 7 325, o_fall 321] :=
  fG mo_ald (sim_ald_n dX3_nextToken_245 rfl) <|
  fG mo_dup (sim_dup dX3_nextToken_246) <|
  fG mo_getf (sim_getfG hG dX3_nextToken_247 hc_3 (by decide) rfl in_X3 (fun _ _ _ h => h) (Or.inl q1262)) <|
  fG mo_int (sim_iconst dX3_nextToken_250 (by decide)) <|
  fG mo_iadd (sim_iadd dX3_nextToken_251) <|
  fG mo_putf (sim_putf hG dX3_nextToken_252 hc_3 (by decide) rfl (by decide) in_X3 tyX3_ok nmX3 (Or.inl ⟨rfl, rfl⟩) (fun _ _ _ h => h) rfl q1262) <|
  fG mo_ild (sim_ild_n dX3_nextToken_255 rfl) <|
  fG mo_int (sim_bipush dX3_nextToken_256 (by decide)) <|
  fG mo_icmpeq (sim_icmpeq dX3_nextToken_258 rfl) <|
  fG mo_ild (sim_ild_n dX3_nextToken_261 rfl) <|
  fG mo_int (sim_bipush dX3_nextToken_262 (by decide)) <|
  fG mo_icmpeq (sim_icmpeq dX3_nextToken_264 rfl) <|
  fG mo_ild (sim_ild_n dX3_nextToken_267 rfl) <|
  fG mo_int (sim_bipush dX3_nextToken_268 (by decide)) <|
  fG mo_icmpeq (sim_icmpeq dX3_nextToken_270 rfl) <|
  fG mo_ild (sim_ild_n dX3_nextToken_273 rfl) <|
  fG mo_int (sim_bipush dX3_nextToken_274 (by decide)) <|
  fG mo_icmpeq (sim_icmpeq dX3_nextToken_276 rfl) <|
  fG mo_ild (sim_ild_n dX3_nextToken_279 rfl) <|
  fG mo_int (sim_bipush dX3_nextToken_280 (by decide)) <|
  fG mo_icmpeq (sim_icmpeq dX3_nextToken_282 rfl) <|
  fG mo_ild (sim_ild_n dX3_nextToken_285 rfl) <|
  fG mo_int (sim_bipush dX3_nextToken_286 (by decide)) <|
  fG mo_icmpeq (sim_icmpeq dX3_nextToken_288 rfl) <|
  fG mo_ild (sim_ild_n dX3_nextToken_291 rfl) <|
  fG mo_int (sim_bipush dX3_nextToken_292 (by decide)) <|
  fG mo_icmpeq (sim_icmpeq dX3_nextToken_294 rfl) <|
  fG mo_ild (sim_ild_n dX3_nextToken_297 rfl) <|
  fG mo_int (sim_bipush dX3_nextToken_298 (by decide)) <|
  fG mo_icmpeq (sim_icmpeq dX3_nextToken_300 rfl) <|
  fG mo_ild (sim_ild_n dX3_nextToken_303 rfl) <|
  fG mo_int (sim_bipush dX3_nextToken_304 (by decide)) <|
  fG mo_icmpeq (sim_icmpeq dX3_nextToken_306 rfl) <|
  fG mo_ild (sim_ild_n dX3_nextToken_309 rfl) <|
  fG mo_int (sim_bipush dX3_nextToken_310 (by decide)) <|
  fG mo_icmpeq (sim_icmpeq dX3_nextToken_312 rfl) <|
  fG mo_ild (sim_ild_n dX3_nextToken_315 rfl) <|
  fG mo_int (sim_bipush dX3_nextToken_316 (by decide)) <|
  fG mo_icmpne (sim_icmpne dX3_nextToken_318 rfl) <|
  fF
theorem fX3_nextToken_321 {X : tp_X} {az : Array Value} (hG : tp_Good X az) (hSt : tp_Stat X) : tp_Fit X yX3_nextToken cX3_nextToken none 3 tp_nm tp_by tp_ml tp_rtt 321 [o_int (.iconst 1) 1, o_goto 4 326] :=
  fG mo_int (sim_iconst dX3_nextToken_321 (by decide)) <|
  fG mo_goto (sim_goto dX3_nextToken_322 rfl) <|
  trivial
theorem fX3_nextToken_325 {X : tp_X} {az : Array Value} (hG : tp_Good X az) (hSt : tp_Stat X) : tp_Fit X yX3_nextToken cX3_nextToken none 3 tp_nm tp_by tp_ml tp_rtt 325 [o_int (.iconst 0) 0, o_fall 326] :=
  fG mo_int (sim_iconst dX3_nextToken_325 (by decide)) <|
  fF
theorem fX3_nextToken_326 {X : tp_X} {az : Array Value} (hG : tp_Good X az) (hSt : tp_Stat X) : tp_Fit X yX3_nextToken cX3_nextToken none 3 tp_nm tp_by tp_ml tp_rtt 326 [o_ist (.istore_n 2) 2, o_ald (.aload_n 0) 0, o_ild (.iload_n 2) 2, o_ifeq 7 336, o_ild (.iload_n 1) 1, o_goto 4 337] :=
  fG mo_ist (sim_ist_n dX3_nextToken_326 rfl) <|
  fG mo_ald (sim_ald_n dX3_nextToken_327 rfl) <|
  fG mo_ild (sim_ild_n dX3_nextToken_328 rfl) <|
  fG mo_ifeq (sim_ifeq dX3_nextToken_329 rfl) <|
  fG mo_ild (sim_ild_n dX3_nextToken_332 rfl) <|
  fG mo_goto (sim_goto dX3_nextToken_333 rfl) <|
  trivial
theorem fX3_nextToken_336 {X : tp_X} {az : Array Value} (hG : tp_Good X az) (hSt : tp_Stat X) : tp_Fit X yX3_nextToken cX3_nextToken none 3 tp_nm tp_by tp_ml tp_rtt 336 [o_int (.iconst 3) 3, o_fall 337] :=
  fG mo_int (sim_iconst dX3_nextToken_336 (by decide)) <|
  fF
theorem fX3_nextToken_337 {X : tp_X} {az : Array Value} (hG : tp_Good X az) (hSt : tp_Stat X) : tp_Fit X yX3_nextToken cX3_nextToken none 3 tp_nm tp_by tp_ml tp_rtt 337 [o_putf (.putfield 129) 3 12 0, o_ild (.iload_n 1) 1, o_int (.bipush 60) 60, o_icmpeq 9 352, o_ild (.iload_n 1) 1, o_int (.bipush 62) 62, o_icmpne 41 390, o_fall 352] :=
  fG mo_putf (sim_putf hG dX3_nextToken_337 hc_3 (by decide) rfl (by decide) in_X3 tyX3_ok nmX3 (Or.inl ⟨rfl, rfl⟩) (fun _ _ _ h => h) rfl q1264) <|
  fG mo_ild (sim_ild_n dX3_nextToken_340 rfl) <|
  fG mo_int (sim_bipush dX3_nextToken_341 (by decide)) <|
  fG mo_icmpeq (sim_icmpeq dX3_nextToken_343 rfl) <|
  fG mo_ild (sim_ild_n dX3_nextToken_346 rfl) <|
  fG mo_int (sim_bipush dX3_nextToken_347 (by decide)) <|
  fG mo_icmpne (sim_icmpne dX3_nextToken_349 rfl) <|
  fF
theorem fX3_nextToken_352 {X : tp_X} {az : Array Value} (hG : tp_Good X az) (hSt : tp_Stat X) : tp_Fit X yX3_nextToken cX3_nextToken none 3 tp_nm tp_by tp_ml tp_rtt 352 [o_ald (.aload_n 0) 0, o_ald (.aload_n 0) 0, o_getf (.getfield 119) 3 10, o_cv (.invokevirtual 122) 3 kX3_byteAt 1 0, o_int (.bipush 61) 61, o_icmpne 28 390, o_ald (.aload_n 0) 0, o_dup, o_getf (.getfield 119) 3 10, o_int (.iconst 1) 1, o_iadd, o_putf (.putfield 119) 3 10 0, o_ald (.aload_n 0) 0, o_ild (.iload_n 1) 1, o_int (.bipush 60) 60, o_icmpne 7 386, o_int (.iconst 4) 4, o_goto 4 387] :=
  fG mo_ald (sim_ald_n dX3_nextToken_352 rfl) <|
  fG mo_ald (sim_ald_n dX3_nextToken_353 rfl) <|
  fG mo_getf (sim_getfG hG dX3_nextToken_354 hc_3 (by decide) rfl in_X3 (fun _ _ _ h => h) (Or.inl q1262)) <|
  fC (ic_cv (Or.inl rfl)) (sim_cv hG dX3_nextToken_357 (hG.2.1 3 _ hc_3).2.1 M_X3_byteAt (by rw [nm_X3_byteAt]; rfl) (by rw [nm_X3_byteAt]; exact q1468) (by rw [nm_X3_byteAt]; exact q1470) (by rw [nm_X3_byteAt]; exact qs54)) <|
  fG mo_int (sim_bipush dX3_nextToken_360 (by decide)) <|
  fG mo_icmpne (sim_icmpne dX3_nextToken_362 rfl) <|
  fG mo_ald (sim_ald_n dX3_nextToken_365 rfl) <|
  fG mo_dup (sim_dup dX3_nextToken_366) <|
  fG mo_getf (sim_getfG hG dX3_nextToken_367 hc_3 (by decide) rfl in_X3 (fun _ _ _ h => h) (Or.inl q1262)) <|
  fG mo_int (sim_iconst dX3_nextToken_370 (by decide)) <|
  fG mo_iadd (sim_iadd dX3_nextToken_371) <|
  fG mo_putf (sim_putf hG dX3_nextToken_372 hc_3 (by decide) rfl (by decide) in_X3 tyX3_ok nmX3 (Or.inl ⟨rfl, rfl⟩) (fun _ _ _ h => h) rfl q1262) <|
  fG mo_ald (sim_ald_n dX3_nextToken_375 rfl) <|
  fG mo_ild (sim_ild_n dX3_nextToken_376 rfl) <|
  fG mo_int (sim_bipush dX3_nextToken_377 (by decide)) <|
  fG mo_icmpne (sim_icmpne dX3_nextToken_379 rfl) <|
  fG mo_int (sim_iconst dX3_nextToken_382 (by decide)) <|
  fG mo_goto (sim_goto dX3_nextToken_383 rfl) <|
  trivial
theorem fX3_nextToken_386 {X : tp_X} {az : Array Value} (hG : tp_Good X az) (hSt : tp_Stat X) : tp_Fit X yX3_nextToken cX3_nextToken none 3 tp_nm tp_by tp_ml tp_rtt 386 [o_int (.iconst 5) 5, o_fall 387] :=
  fG mo_int (sim_iconst dX3_nextToken_386 (by decide)) <|
  fF
theorem fX3_nextToken_387 {X : tp_X} {az : Array Value} (hG : tp_Good X az) (hSt : tp_Stat X) : tp_Fit X yX3_nextToken cX3_nextToken none 3 tp_nm tp_by tp_ml tp_rtt 387 [o_putf (.putfield 129) 3 12 0, o_fall 390] :=
  fG mo_putf (sim_putf hG dX3_nextToken_387 hc_3 (by decide) rfl (by decide) in_X3 tyX3_ok nmX3 (Or.inl ⟨rfl, rfl⟩) (fun _ _ _ h => h) rfl q1264) <|
  fF
theorem fX3_nextToken_390 {X : tp_X} {az : Array Value} (hG : tp_Good X az) (hSt : tp_Stat X) : tp_Fit X yX3_nextToken cX3_nextToken none 3 tp_nm tp_by tp_ml tp_rtt 390 [o_vret] :=
  fE ie_vret (sim_vret dX3_nextToken_390 rfl)
theorem F_X3_nextToken {X : tp_X} {az : Array Value} (hG : tp_Good X az) (hSt : tp_Stat X) (pc : Nat) : tp_Fit X yX3_nextToken cX3_nextToken none 3 tp_nm tp_by tp_ml tp_rtt pc (mX3_nextToken pc) :=
  fI (fX3_nextToken_0 hG hSt) <| fI (fX3_nextToken_26 hG hSt) <| fI (fX3_nextToken_39 hG hSt) <| fI (fX3_nextToken_68 hG hSt) <| fI (fX3_nextToken_85 hG hSt) <| fI (fX3_nextToken_131 hG hSt) <| fI (fX3_nextToken_144 hG hSt) <| fI (fX3_nextToken_161 hG hSt) <| fI (fX3_nextToken_210 hG hSt) <| fI (fX3_nextToken_223 hG hSt) <| fI (fX3_nextToken_245 hG hSt) <| fI (fX3_nextToken_321 hG hSt) <| fI (fX3_nextToken_325 hG hSt) <| fI (fX3_nextToken_326 hG hSt) <| fI (fX3_nextToken_336 hG hSt) <| fI (fX3_nextToken_337 hG hSt) <| fI (fX3_nextToken_352 hG hSt) <| fI (fX3_nextToken_386 hG hSt) <| fI (fX3_nextToken_387 hG hSt) <| fI (fX3_nextToken_390 hG hSt) <| trivial
