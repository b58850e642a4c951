/-! FITS 3 -/
set_option maxRecDepth 100000
theorem fX1_last_0 {X : tp_X} {az : Array Value} (hG : tp_Good X az) (hSt : tp_Stat X) : tp_Fit X yX1_last cX1_last (some .int) 2 tp_nm tp_by tp_ml tp_rtt 0 [o_ald (.aload_n 0) 0, o_cv (.invokevirtual 287) 1 kX1_ship_2 0 0, o_int (.iconst 3) 3, o_lda .iaload [0, 20], o_ifeq 5 11, o_int (.iconst (-1)) (-1), o_iret 0] :=
  fG mo_ald (sim_ald_n dX1_last_0 rfl) <|
  fC (ic_cv (Or.inl rfl)) (sim_cv hG dX1_last_1 (hG.2.1 1 _ hc_1).2.1 M_X1_ship_2 (by rw [nm_X1_ship_2]; rfl) (by rw [nm_X1_ship_2]; exact q1044) (by rw [nm_X1_ship_2]; exact q1046) (by rw [nm_X1_ship_2]; exact qs30)) <|
  fG mo_int (sim_iconst dX1_last_4 (by decide)) <|
  fG mo_lda (sim_iald dX1_last_5) <|
  fG mo_ifeq (sim_ifeq dX1_last_6 rfl) <|
  fG mo_int (sim_iconst dX1_last_9 (by decide)) <|
  fE ie_iret (sim_iret dX1_last_10 rfl (Or.inl ⟨rfl, rfl⟩))
theorem fX1_last_11 {X : tp_X} {az : Array Value} (hG : tp_Good X az) (hSt : tp_Stat X) : tp_Fit X yX1_last cX1_last (some .int) 2 tp_nm tp_by tp_ml tp_rtt 11 [o_ald (.aload_n 0) 0, o_cv (.invokevirtual 305) 1 kX1_laysPath 0 0, o_ald (.aload_n 0) 0, o_getf (.getfield 46) 1 14, o_int (.iconst (-1)) (-1), o_cs (.invokestatic 293) kJ0_fill 2 0, o_ald (.aload_n 0) 0, o_getf (.getfield 302) 1 16, o_ist (.istore_n 1) 1, o_fall 28] :=
  fG mo_ald (sim_ald_n dX1_last_11 rfl) <|
  fC (ic_cv (Or.inl rfl)) (sim_cv hG dX1_last_12 (hG.2.1 1 _ hc_1).2.1 M_X1_laysPath (by rw [nm_X1_laysPath]; rfl) (by rw [nm_X1_laysPath]; exact q1105) (by rw [nm_X1_laysPath]; exact q1107) (by rw [nm_X1_laysPath]; exact qs39)) <|
  fG mo_ald (sim_ald_n dX1_last_15 rfl) <|
  fG mo_getf (sim_getfG hG dX1_last_16 hc_1 (by decide) rfl in_X1 (fun _ _ _ h => h) (Or.inl q270)) <|
  fG mo_int (sim_iconst dX1_last_19 (by decide)) <|
  fC (ic_cs (Or.inl rfl)) (sim_cs hG dX1_last_20 M_J0_fill (by rw [nm_J0_fill]; rfl) (by rw [nm_J0_fill]; exact q1056) (by rw [nm_J0_fill]; exact q176)) <|
  fG mo_ald (sim_ald_n dX1_last_23 rfl) <|
  fG mo_getf (sim_getfG hG dX1_last_24 hc_1 (by decide) rfl in_X1 (fun _ _ _ h => h) (Or.inl q272)) <|
  fG mo_ist (sim_ist_n dX1_last_27 rfl) <|
  fF
theorem fX1_last_28 {X : tp_X} {az : Array Value} (hG : tp_Good X az) (hSt : tp_Stat X) : tp_Fit X yX1_last cX1_last (some .int) 2 tp_nm tp_by tp_ml tp_rtt 28 [o_ild (.iload_n 1) 1, o_iflt 43 72, o_ald (.aload_n 0) 0, o_ild (.iload_n 1) 1, o_ald (.aload_n 0) 0, o_getf (.getfield 49) 1 15, o_ild (.iload_n 1) 1, o_lda .aaload [4, 5, 6, 7, 28, 29], o_int (.iconst 0) 0, o_lda .iaload [0, 20], o_ald (.aload_n 0) 0, o_getf (.getfield 49) 1 15, o_ild (.iload_n 1) 1, o_lda .aaload [4, 5, 6, 7, 28, 29], o_int (.iconst 1) 1, o_lda .iaload [0, 20], o_ald (.aload_n 0) 0, o_getf (.getfield 49) 1 15, o_ild (.iload_n 1) 1, o_lda .aaload [4, 5, 6, 7, 28, 29], o_int (.iconst 2) 2, o_lda .iaload [0, 20], o_cv (.invokevirtual 308) 1 kX1_comesHome 4 0, o_ifeq 5 66, o_ild (.iload_n 1) 1, o_iret 0] :=
  fG mo_ild (sim_ild_n dX1_last_28 rfl) <|
  fG mo_iflt (sim_iflt dX1_last_29 rfl) <|
  fG mo_ald (sim_ald_n dX1_last_32 rfl) <|
  fG mo_ild (sim_ild_n dX1_last_33 rfl) <|
  fG mo_ald (sim_ald_n dX1_last_34 rfl) <|
  fG mo_getf (sim_getfG hG dX1_last_35 hc_1 (by decide) rfl in_X1 (fun _ _ _ h => h) (Or.inl q271)) <|
  fG mo_ild (sim_ild_n dX1_last_38 rfl) <|
  fG mo_lda (sim_aald dX1_last_39) <|
  fG mo_int (sim_iconst dX1_last_40 (by decide)) <|
  fG mo_lda (sim_iald dX1_last_41) <|
  fG mo_ald (sim_ald_n dX1_last_42 rfl) <|
  fG mo_getf (sim_getfG hG dX1_last_43 hc_1 (by decide) rfl in_X1 (fun _ _ _ h => h) (Or.inl q271)) <|
  fG mo_ild (sim_ild_n dX1_last_46 rfl) <|
  fG mo_lda (sim_aald dX1_last_47) <|
  fG mo_int (sim_iconst dX1_last_48 (by decide)) <|
  fG mo_lda (sim_iald dX1_last_49) <|
  fG mo_ald (sim_ald_n dX1_last_50 rfl) <|
  fG mo_getf (sim_getfG hG dX1_last_51 hc_1 (by decide) rfl in_X1 (fun _ _ _ h => h) (Or.inl q271)) <|
  fG mo_ild (sim_ild_n dX1_last_54 rfl) <|
  fG mo_lda (sim_aald dX1_last_55) <|
  fG mo_int (sim_iconst dX1_last_56 (by decide)) <|
  fG mo_lda (sim_iald dX1_last_57) <|
  fC (ic_cv (Or.inl rfl)) (sim_cv hG dX1_last_58 (hG.2.1 1 _ hc_1).2.1 M_X1_comesHome (by rw [nm_X1_comesHome]; rfl) (by rw [nm_X1_comesHome]; exact q1117) (by rw [nm_X1_comesHome]; exact q1119) (by rw [nm_X1_comesHome]; exact qs40)) <|
  fG mo_ifeq (sim_ifeq dX1_last_61 rfl) <|
  fG mo_ild (sim_ild_n dX1_last_64 rfl) <|
  fE ie_iret (sim_iret dX1_last_65 rfl (Or.inl ⟨rfl, rfl⟩))
theorem fX1_last_66 {X : tp_X} {az : Array Value} (hG : tp_Good X az) (hSt : tp_Stat X) : tp_Fit X yX1_last cX1_last (some .int) 2 tp_nm tp_by tp_ml tp_rtt 66 [o_inc 1 (-1), o_goto (-41) 28] :=
  fG mo_inc (sim_inc dX1_last_66 (by decide)) <|
  fG mo_goto (sim_goto dX1_last_69 rfl) <|
  trivial
theorem fX1_last_72 {X : tp_X} {az : Array Value} (hG : tp_Good X az) (hSt : tp_Stat X) : tp_Fit X yX1_last cX1_last (some .int) 2 tp_nm tp_by tp_ml tp_rtt 72 [o_int (.iconst (-1)) (-1), o_iret 0] :=
  fG mo_int (sim_iconst dX1_last_72 (by decide)) <|
  fE ie_iret (sim_iret dX1_last_73 rfl (Or.inl ⟨rfl, rfl⟩))
theorem F_X1_last {X : tp_X} {az : Array Value} (hG : tp_Good X az) (hSt : tp_Stat X) (pc : Nat) : tp_Fit X yX1_last cX1_last (some .int) 2 tp_nm tp_by tp_ml tp_rtt pc (mX1_last pc) :=
  fI (fX1_last_0 hG hSt) <| fI (fX1_last_11 hG hSt) <| fI (fX1_last_28 hG hSt) <| fI (fX1_last_66 hG hSt) <| fI (fX1_last_72 hG hSt) <| trivial
theorem fX1_comesHome_0 {X : tp_X} {az : Array Value} (hG : tp_Good X az) (hSt : tp_Stat X) : tp_Fit X yX1_comesHome cX1_comesHome (some .boolean) 10 tp_nm tp_by tp_ml tp_rtt 0 [o_ild (.iload_n 2) 2, o_ald (.aload_n 0) 0, o_getf (.getfield 12) 1 0, o_getf (.getfield 112) 2 0, o_int (.bipush 6) 6, o_lda .iaload [0, 20], o_icmpne 5 16, o_int (.iconst 1) 1, o_iret 1] :=
  fG mo_ild (sim_ild_n dX1_comesHome_0 rfl) <|
  fG mo_ald (sim_ald_n dX1_comesHome_1 rfl) <|
  fG mo_getf (sim_getfG hG dX1_comesHome_2 hc_1 (by decide) rfl in_X1 (fun _ _ _ h => h) (Or.inl q256)) <|
  fG mo_getf (sim_getfG hG dX1_comesHome_5 hc_2 (by decide) rfl in_X2 (fun _ _ _ h => h) (Or.inr ⟨_, q179⟩)) <|
  fG mo_int (sim_bipush dX1_comesHome_8 (by decide)) <|
  fG mo_lda (sim_iald dX1_comesHome_10) <|
  fG mo_icmpne (sim_icmpne dX1_comesHome_11 rfl) <|
  fG mo_int (sim_iconst dX1_comesHome_14 (by decide)) <|
  fE ie_iret (sim_iret dX1_comesHome_15 rfl (Or.inr (Or.inl ⟨rfl, rfl⟩)))
theorem fX1_comesHome_16 {X : tp_X} {az : Array Value} (hG : tp_Good X az) (hSt : tp_Stat X) : tp_Fit X yX1_comesHome cX1_comesHome (some .boolean) 10 tp_nm tp_by tp_ml tp_rtt 16 [o_ild (.iload_n 1) 1, o_ald (.aload_n 0) 0, o_getf (.getfield 254) 1 11, o_icmpne 5 26, o_int (.iconst 0) 0, o_iret 1] :=
  fG mo_ild (sim_ild_n dX1_comesHome_16 rfl) <|
  fG mo_ald (sim_ald_n dX1_comesHome_17 rfl) <|
  fG mo_getf (sim_getfG hG dX1_comesHome_18 hc_1 (by decide) rfl in_X1 (fun _ _ _ h => h) (Or.inl q267)) <|
  fG mo_icmpne (sim_icmpne dX1_comesHome_21 rfl) <|
  fG mo_int (sim_iconst dX1_comesHome_24 (by decide)) <|
  fE ie_iret (sim_iret dX1_comesHome_25 rfl (Or.inr (Or.inl ⟨rfl, rfl⟩)))
theorem fX1_comesHome_26 {X : tp_X} {az : Array Value} (hG : tp_Good X az) (hSt : tp_Stat X) : tp_Fit X yX1_comesHome cX1_comesHome (some .boolean) 10 tp_nm tp_by tp_ml tp_rtt 26 [o_int (.sipush 200) 200, o_int (.bipush 36) 36, o_ild (.iload_n 1) 1, o_imul, o_ild (.iload_n 2) 2, o_iadd, o_imul, o_int (.iconst 2) 2, o_ild (.iload_n 3) 3, o_imul, o_iadd, o_ild (.iload 4) 4, o_iadd, o_ist (.istore 5) 5, o_ald (.aload_n 0) 0, o_getf (.getfield 46) 1 14, o_ild (.iload 5) 5, o_lda .iaload [0, 20], o_int (.iconst (-1)) (-1), o_icmpeq 20 73, o_ald (.aload_n 0) 0, o_getf (.getfield 46) 1 14, o_ild (.iload 5) 5, o_lda .iaload [0, 20], o_int (.iconst 1) 1, o_icmpne 7 71, o_int (.iconst 1) 1, o_goto 4 72] :=
  fG mo_int (sim_sipush dX1_comesHome_26 (by decide)) <|
  fG mo_int (sim_bipush dX1_comesHome_29 (by decide)) <|
  fG mo_ild (sim_ild_n dX1_comesHome_31 rfl) <|
  fG mo_imul (sim_imul dX1_comesHome_32) <|
  fG mo_ild (sim_ild_n dX1_comesHome_33 rfl) <|
  fG mo_iadd (sim_iadd dX1_comesHome_34) <|
  fG mo_imul (sim_imul dX1_comesHome_35) <|
  fG mo_int (sim_iconst dX1_comesHome_36 (by decide)) <|
  fG mo_ild (sim_ild_n dX1_comesHome_37 rfl) <|
  fG mo_imul (sim_imul dX1_comesHome_38) <|
  fG mo_iadd (sim_iadd dX1_comesHome_39) <|
  fG mo_ild (sim_ild dX1_comesHome_40) <|
  fG mo_iadd (sim_iadd dX1_comesHome_42) <|
  fG mo_ist (sim_ist dX1_comesHome_43) <|
  fG mo_ald (sim_ald_n dX1_comesHome_45 rfl) <|
  fG mo_getf (sim_getfG hG dX1_comesHome_46 hc_1 (by decide) rfl in_X1 (fun _ _ _ h => h) (Or.inl q270)) <|
  fG mo_ild (sim_ild dX1_comesHome_49) <|
  fG mo_lda (sim_iald dX1_comesHome_51) <|
  fG mo_int (sim_iconst dX1_comesHome_52 (by decide)) <|
  fG mo_icmpeq (sim_icmpeq dX1_comesHome_53 rfl) <|
  fG mo_ald (sim_ald_n dX1_comesHome_56 rfl) <|
  fG mo_getf (sim_getfG hG dX1_comesHome_57 hc_1 (by decide) rfl in_X1 (fun _ _ _ h => h) (Or.inl q270)) <|
  fG mo_ild (sim_ild dX1_comesHome_60) <|
  fG mo_lda (sim_iald dX1_comesHome_62) <|
  fG mo_int (sim_iconst dX1_comesHome_63 (by decide)) <|
  fG mo_icmpne (sim_icmpne dX1_comesHome_64 rfl) <|
  fG mo_int (sim_iconst dX1_comesHome_67 (by decide)) <|
  fG mo_goto (sim_goto dX1_comesHome_68 rfl) <|
  trivial
theorem fX1_comesHome_71 {X : tp_X} {az : Array Value} (hG : tp_Good X az) (hSt : tp_Stat X) : tp_Fit X yX1_comesHome cX1_comesHome (some .boolean) 10 tp_nm tp_by tp_ml tp_rtt 71 [o_int (.iconst 0) 0, o_fall 72] :=
  fG mo_int (sim_iconst dX1_comesHome_71 (by decide)) <|
  fF
theorem fX1_comesHome_72 {X : tp_X} {az : Array Value} (hG : tp_Good X az) (hSt : tp_Stat X) : tp_Fit X yX1_comesHome cX1_comesHome (some .boolean) 10 tp_nm tp_by tp_ml tp_rtt 72 [o_iret 1] :=
  fE ie_iret (sim_iret dX1_comesHome_72 rfl (Or.inr (Or.inl ⟨rfl, rfl⟩)))
theorem fX1_comesHome_73 {X : tp_X} {az : Array Value} (hG : tp_Good X az) (hSt : tp_Stat X) : tp_Fit X yX1_comesHome cX1_comesHome (some .boolean) 10 tp_nm tp_by tp_ml tp_rtt 73 [o_int (.iconst 0) 0, o_ist (.istore 6) 6, o_int (.iconst 0) 0, o_ist (.istore 7) 7, o_fall 79] :=
  fG mo_int (sim_iconst dX1_comesHome_73 (by decide)) <|
  fG mo_ist (sim_ist dX1_comesHome_74) <|
  fG mo_int (sim_iconst dX1_comesHome_76 (by decide)) <|
  fG mo_ist (sim_ist dX1_comesHome_77) <|
  fF
theorem fX1_comesHome_79 {X : tp_X} {az : Array Value} (hG : tp_Good X az) (hSt : tp_Stat X) : tp_Fit X yX1_comesHome cX1_comesHome (some .boolean) 10 tp_nm tp_by tp_ml tp_rtt 79 [o_ild (.iload 7) 7, o_int (.bipush 7) 7, o_icmpgt 100 183, o_ild (.iload 6) 6, o_ifne 95 183, o_ald (.aload_n 0) 0, o_ild (.iload_n 1) 1, o_ild (.iload 7) 7, o_ild (.iload_n 2) 2, o_ild (.iload_n 3) 3, o_ild (.iload 4) 4, o_cv (.invokevirtual 271) 1 kX1_costAt 5 0, o_ist (.istore 8) 8, o_ild (.iload 8) 8, o_int (.iconst (-1)) (-1), o_icmpne 6 113, o_goto 67 177] :=
  fG mo_ild (sim_ild dX1_comesHome_79) <|
  fG mo_int (sim_bipush dX1_comesHome_81 (by decide)) <|
  fG mo_icmpgt (sim_icmpgt dX1_comesHome_83 rfl) <|
  fG mo_ild (sim_ild dX1_comesHome_86) <|
  fG mo_ifne (sim_ifne dX1_comesHome_88 rfl) <|
  fG mo_ald (sim_ald_n dX1_comesHome_91 rfl) <|
  fG mo_ild (sim_ild_n dX1_comesHome_92 rfl) <|
  fG mo_ild (sim_ild dX1_comesHome_93) <|
  fG mo_ild (sim_ild_n dX1_comesHome_95 rfl) <|
  fG mo_ild (sim_ild_n dX1_comesHome_96 rfl) <|
  fG mo_ild (sim_ild dX1_comesHome_97) <|
  fC (ic_cv (Or.inl rfl)) (sim_cv hG dX1_comesHome_99 (hG.2.1 1 _ hc_1).2.1 M_X1_costAt (by rw [nm_X1_costAt]; rfl) (by rw [nm_X1_costAt]; exact q1066) (by rw [nm_X1_costAt]; exact q1068) (by rw [nm_X1_costAt]; exact qs35)) <|
  fG mo_ist (sim_ist dX1_comesHome_102) <|
  fG mo_ild (sim_ild dX1_comesHome_104) <|
  fG mo_int (sim_iconst dX1_comesHome_106 (by decide)) <|
  fG mo_icmpne (sim_icmpne dX1_comesHome_107 rfl) <|
  fG mo_goto (sim_goto dX1_comesHome_110 rfl) <|
  trivial
theorem fX1_comesHome_113 {X : tp_X} {az : Array Value} (hG : tp_Good X az) (hSt : tp_Stat X) : tp_Fit X yX1_comesHome cX1_comesHome (some .boolean) 10 tp_nm tp_by tp_ml tp_rtt 113 [o_ald (.aload_n 0) 0, o_ild (.iload_n 1) 1, o_ild (.iload 7) 7, o_ild (.iload_n 2) 2, o_cv (.invokevirtual 274) 1 kX1_cellBehind 3 0, o_ist (.istore 9) 9, o_ild (.iload 7) 7, o_int (.iconst 4) 4, o_icmpge 16 142, o_ald (.aload_n 0) 0, o_getf (.getfield 12) 1 0, o_getf (.getfield 109) 2 6, o_ild (.iload 9) 9, o_lda .baload [1, 2, 22], o_ifne 38 177, o_fall 142] :=
  fG mo_ald (sim_ald_n dX1_comesHome_113 rfl) <|
  fG mo_ild (sim_ild_n dX1_comesHome_114 rfl) <|
  fG mo_ild (sim_ild dX1_comesHome_115) <|
  fG mo_ild (sim_ild_n dX1_comesHome_117 rfl) <|
  fC (ic_cv (Or.inl rfl)) (sim_cv hG dX1_comesHome_118 (hG.2.1 1 _ hc_1).2.1 M_X1_cellBehind (by rw [nm_X1_cellBehind]; rfl) (by rw [nm_X1_cellBehind]; exact q1074) (by rw [nm_X1_cellBehind]; exact q1076) (by rw [nm_X1_cellBehind]; exact qs37)) <|
  fG mo_ist (sim_ist dX1_comesHome_121) <|
  fG mo_ild (sim_ild dX1_comesHome_123) <|
  fG mo_int (sim_iconst dX1_comesHome_125 (by decide)) <|
  fG mo_icmpge (sim_icmpge dX1_comesHome_126 rfl) <|
  fG mo_ald (sim_ald_n dX1_comesHome_129 rfl) <|
  fG mo_getf (sim_getfG hG dX1_comesHome_130 hc_1 (by decide) rfl in_X1 (fun _ _ _ h => h) (Or.inl q256)) <|
  fG mo_getf (sim_getfG hG dX1_comesHome_133 hc_2 (by decide) rfl in_X2 (fun _ _ _ h => h) (Or.inr ⟨_, q191⟩)) <|
  fG mo_ild (sim_ild dX1_comesHome_136) <|
  fG mo_lda (sim_bald dX1_comesHome_138) <|
  fG mo_ifne (sim_ifne dX1_comesHome_139 rfl) <|
  fF
theorem fX1_comesHome_142 {X : tp_X} {az : Array Value} (hG : tp_Good X az) (hSt : tp_Stat X) : tp_Fit X yX1_comesHome cX1_comesHome (some .boolean) 10 tp_nm tp_by tp_ml tp_rtt 142 [o_ald (.aload_n 0) 0, o_ild (.iload_n 1) 1, o_ild (.iload 9) 9, o_cv (.invokevirtual 277) 1 kX1_nippedAt 2 0, o_ifeq 6 155, o_goto 25 177] :=
  fG mo_ald (sim_ald_n dX1_comesHome_142 rfl) <|
  fG mo_ild (sim_ild_n dX1_comesHome_143 rfl) <|
  fG mo_ild (sim_ild dX1_comesHome_144) <|
  fC (ic_cv (Or.inl rfl)) (sim_cv hG dX1_comesHome_146 (hG.2.1 1 _ hc_1).2.1 M_X1_nippedAt (by rw [nm_X1_nippedAt]; rfl) (by rw [nm_X1_nippedAt]; exact q1078) (by rw [nm_X1_nippedAt]; exact q1080) (by rw [nm_X1_nippedAt]; exact qs38)) <|
  fG mo_ifeq (sim_ifeq dX1_comesHome_149 rfl) <|
  fG mo_goto (sim_goto dX1_comesHome_152 rfl) <|
  trivial
theorem fX1_comesHome_155 {X : tp_X} {az : Array Value} (hG : tp_Good X az) (hSt : tp_Stat X) : tp_Fit X yX1_comesHome cX1_comesHome (some .boolean) 10 tp_nm tp_by tp_ml tp_rtt 155 [o_ald (.aload_n 0) 0, o_ild (.iload_n 1) 1, o_int (.iconst 1) 1, o_iadd, o_ild (.iload 9) 9, o_ild (.iload_n 3) 3, o_ild (.iload 8) 8, o_isub, o_ild (.iload 7) 7, o_ild (.iload 4) 4, o_cs (.invokestatic 280) kX1_fires 2 0, o_cv (.invokevirtual 308) 1 kX1_comesHome 4 0, o_ist (.istore 6) 6, o_fall 177] :=
  fG mo_ald (sim_ald_n dX1_comesHome_155 rfl) <|
  fG mo_ild (sim_ild_n dX1_comesHome_156 rfl) <|
  fG mo_int (sim_iconst dX1_comesHome_157 (by decide)) <|
  fG mo_iadd (sim_iadd dX1_comesHome_158) <|
  fG mo_ild (sim_ild dX1_comesHome_159) <|
  fG mo_ild (sim_ild_n dX1_comesHome_161 rfl) <|
  fG mo_ild (sim_ild dX1_comesHome_162) <|
  fG mo_isub (sim_isub dX1_comesHome_164) <|
  fG mo_ild (sim_ild dX1_comesHome_165) <|
  fG mo_ild (sim_ild dX1_comesHome_167) <|
  fC (ic_cs (Or.inl rfl)) (sim_cs hG dX1_comesHome_169 M_X1_fires (by rw [nm_X1_fires]; rfl) (by rw [nm_X1_fires]; exact q1082) (by rw [nm_X1_fires]; exact q1083)) <|
  fC (ic_cv (Or.inl rfl)) (sim_cv hG dX1_comesHome_172 (hG.2.1 1 _ hc_1).2.1 M_X1_comesHome (by rw [nm_X1_comesHome]; rfl) (by rw [nm_X1_comesHome]; exact q1117) (by rw [nm_X1_comesHome]; exact q1119) (by rw [nm_X1_comesHome]; exact qs40)) <|
  fG mo_ist (sim_ist dX1_comesHome_175) <|
  fF
theorem fX1_comesHome_177 {X : tp_X} {az : Array Value} (hG : tp_Good X az) (hSt : tp_Stat X) : tp_Fit X yX1_comesHome cX1_comesHome (some .boolean) 10 tp_nm tp_by tp_ml tp_rtt 177 [o_inc 7 1, o_goto (-101) 79] :=
  fG mo_inc (sim_inc dX1_comesHome_177 (by decide)) <|
  fG mo_goto (sim_goto dX1_comesHome_180 rfl) <|
  trivial
theorem fX1_comesHome_183 {X : tp_X} {az : Array Value} (hG : tp_Good X az) (hSt : tp_Stat X) : tp_Fit X yX1_comesHome cX1_comesHome (some .boolean) 10 tp_nm tp_by tp_ml tp_rtt 183 [o_ald (.aload_n 0) 0, o_getf (.getfield 46) 1 14, o_ild (.iload 5) 5, o_ild (.iload 6) 6, o_ifeq 7 198, o_int (.iconst 1) 1, o_goto 4 199] :=
  fG mo_ald (sim_ald_n dX1_comesHome_183 rfl) <|
  fG mo_getf (sim_getfG hG dX1_comesHome_184 hc_1 (by decide) rfl in_X1 (fun _ _ _ h => h) (Or.inl q270)) <|
  fG mo_ild (sim_ild dX1_comesHome_187) <|
  fG mo_ild (sim_ild dX1_comesHome_189) <|
  fG mo_ifeq (sim_ifeq dX1_comesHome_191 rfl) <|
  fG mo_int (sim_iconst dX1_comesHome_194 (by decide)) <|
  fG mo_goto (sim_goto dX1_comesHome_195 rfl) <|
  trivial
theorem fX1_comesHome_198 {X : tp_X} {az : Array Value} (hG : tp_Good X az) (hSt : tp_Stat X) : tp_Fit X yX1_comesHome cX1_comesHome (some .boolean) 10 tp_nm tp_by tp_ml tp_rtt 198 [o_int (.iconst 0) 0, o_fall 199] :=
  fG mo_int (sim_iconst dX1_comesHome_198 (by decide)) <|
  fF
theorem fX1_comesHome_199 {X : tp_X} {az : Array Value} (hG : tp_Good X az) (hSt : tp_Stat X) : tp_Fit X yX1_comesHome cX1_comesHome (some .boolean) 10 tp_nm tp_by tp_ml tp_rtt 199 [o_sta .iastore [0], o_ild (.iload 6) 6, o_iret 1] :=
  fG mo_sta (sim_iast dX1_comesHome_199) <|
  fG mo_ild (sim_ild dX1_comesHome_200) <|
  fE ie_iret (sim_iret dX1_comesHome_202 rfl (Or.inr (Or.inl ⟨rfl, rfl⟩)))
theorem F_X1_comesHome {X : tp_X} {az : Array Value} (hG : tp_Good X az) (hSt : tp_Stat X) (pc : Nat) : tp_Fit X yX1_comesHome cX1_comesHome (some .boolean) 10 tp_nm tp_by tp_ml tp_rtt pc (mX1_comesHome pc) :=
  fI (fX1_comesHome_0 hG hSt) <| fI (fX1_comesHome_16 hG hSt) <| fI (fX1_comesHome_26 hG hSt) <| fI (fX1_comesHome_71 hG hSt) <| fI (fX1_comesHome_72 hG hSt) <| fI (fX1_comesHome_73 hG hSt) <| fI (fX1_comesHome_79 hG hSt) <| fI (fX1_comesHome_113 hG hSt) <| fI (fX1_comesHome_142 hG hSt) <| fI (fX1_comesHome_155 hG hSt) <| fI (fX1_comesHome_177 hG hSt) <| fI (fX1_comesHome_183 hG hSt) <| fI (fX1_comesHome_198 hG hSt) <| fI (fX1_comesHome_199 hG hSt) <| trivial
theorem fX1_walk_0 {X : tp_X} {az : Array Value} (hG : tp_Good X az) (hSt : tp_Stat X) : tp_Fit X yX1_walk cX1_walk (some .int) 2 tp_nm tp_by tp_ml tp_rtt 0 [o_ild (.iload_n 1) 1, o_int (.iconst 0) 0, o_ald (.aload_n 0) 0, o_getf (.getfield 12) 1 0, o_getf (.getfield 112) 2 0, o_int (.iconst 5) 5, o_lda .iaload [0, 20], o_cs (.invokestatic 94) kX1_in 3 0, o_ifeq 12 26, o_ald (.aload_n 0) 0, o_cv (.invokevirtual 287) 1 kX1_ship_2 0 0, o_int (.iconst 3) 3, o_lda .iaload [0, 20], o_ifeq 5 28, o_fall 26] :=
  fG mo_ild (sim_ild_n dX1_walk_0 rfl) <|
  fG mo_int (sim_iconst dX1_walk_1 (by decide)) <|
  fG mo_ald (sim_ald_n dX1_walk_2 rfl) <|
  fG mo_getf (sim_getfG hG dX1_walk_3 hc_1 (by decide) rfl in_X1 (fun _ _ _ h => h) (Or.inl q256)) <|
  fG mo_getf (sim_getfG hG dX1_walk_6 hc_2 (by decide) rfl in_X2 (fun _ _ _ h => h) (Or.inr ⟨_, q179⟩)) <|
  fG mo_int (sim_iconst dX1_walk_9 (by decide)) <|
  fG mo_lda (sim_iald dX1_walk_10) <|
  fC (ic_cs (Or.inl rfl)) (sim_cs hG dX1_walk_11 M_X1_in (by rw [nm_X1_in]; rfl) (by rw [nm_X1_in]; exact q335) (by rw [nm_X1_in]; exact q336)) <|
  fG mo_ifeq (sim_ifeq dX1_walk_14 rfl) <|
  fG mo_ald (sim_ald_n dX1_walk_17 rfl) <|
  fC (ic_cv (Or.inl rfl)) (sim_cv hG dX1_walk_18 (hG.2.1 1 _ hc_1).2.1 M_X1_ship_2 (by rw [nm_X1_ship_2]; rfl) (by rw [nm_X1_ship_2]; exact q1044) (by rw [nm_X1_ship_2]; exact q1046) (by rw [nm_X1_ship_2]; exact qs30)) <|
  fG mo_int (sim_iconst dX1_walk_21 (by decide)) <|
  fG mo_lda (sim_iald dX1_walk_22) <|
  fG mo_ifeq (sim_ifeq dX1_walk_23 rfl) <|
  fF
theorem fX1_walk_26 {X : tp_X} {az : Array Value} (hG : tp_Good X az) (hSt : tp_Stat X) : tp_Fit X yX1_walk cX1_walk (some .int) 2 tp_nm tp_by tp_ml tp_rtt 26 [o_int (.iconst (-1)) (-1), o_iret 0] :=
  fG mo_int (sim_iconst dX1_walk_26 (by decide)) <|
  fE ie_iret (sim_iret dX1_walk_27 rfl (Or.inl ⟨rfl, rfl⟩))
theorem fX1_walk_28 {X : tp_X} {az : Array Value} (hG : tp_Good X az) (hSt : tp_Stat X) : tp_Fit X yX1_walk cX1_walk (some .int) 2 tp_nm tp_by tp_ml tp_rtt 28 [o_ald (.aload_n 0) 0, o_cv (.invokevirtual 305) 1 kX1_laysPath 0 0, o_ild (.iload_n 1) 1, o_ald (.aload_n 0) 0, o_getf (.getfield 302) 1 16, o_icmple 7 44, o_int (.iconst (-1)) (-1), o_goto 8 49] :=
  fG mo_ald (sim_ald_n dX1_walk_28 rfl) <|
  fC (ic_cv (Or.inl rfl)) (sim_cv hG dX1_walk_29 (hG.2.1 1 _ hc_1).2.1 M_X1_laysPath (by rw [nm_X1_laysPath]; rfl) (by rw [nm_X1_laysPath]; exact q1105) (by rw [nm_X1_laysPath]; exact q1107) (by rw [nm_X1_laysPath]; exact qs39)) <|
  fG mo_ild (sim_ild_n dX1_walk_32 rfl) <|
  fG mo_ald (sim_ald_n dX1_walk_33 rfl) <|
  fG mo_getf (sim_getfG hG dX1_walk_34 hc_1 (by decide) rfl in_X1 (fun _ _ _ h => h) (Or.inl q272)) <|
  fG mo_icmple (sim_icmple dX1_walk_37 rfl) <|
  fG mo_int (sim_iconst dX1_walk_40 (by decide)) <|
  fG mo_goto (sim_goto dX1_walk_41 rfl) <|
  trivial
theorem fX1_walk_44 {X : tp_X} {az : Array Value} (hG : tp_Good X az) (hSt : tp_Stat X) : tp_Fit X yX1_walk cX1_walk (some .int) 2 tp_nm tp_by tp_ml tp_rtt 44 [o_ald (.aload_n 0) 0, o_ild (.iload_n 1) 1, o_cv (.invokevirtual 315) 1 kX1_walkFrom 1 0, o_fall 49] :=
  fG mo_ald (sim_ald_n dX1_walk_44 rfl) <|
  fG mo_ild (sim_ild_n dX1_walk_45 rfl) <|
  fC (ic_cv (Or.inl rfl)) (sim_cv hG dX1_walk_46 (hG.2.1 1 _ hc_1).2.1 M_X1_walkFrom (by rw [nm_X1_walkFrom]; rfl) (by rw [nm_X1_walkFrom]; exact q1125) (by rw [nm_X1_walkFrom]; exact q1127) (by rw [nm_X1_walkFrom]; exact qs41)) <|
  fF
theorem fX1_walk_49 {X : tp_X} {az : Array Value} (hG : tp_Good X az) (hSt : tp_Stat X) : tp_Fit X yX1_walk cX1_walk (some .int) 2 tp_nm tp_by tp_ml tp_rtt 49 [o_iret 0] :=
  fE ie_iret (sim_iret dX1_walk_49 rfl (Or.inl ⟨rfl, rfl⟩))
theorem F_X1_walk {X : tp_X} {az : Array Value} (hG : tp_Good X az) (hSt : tp_Stat X) (pc : Nat) : tp_Fit X yX1_walk cX1_walk (some .int) 2 tp_nm tp_by tp_ml tp_rtt pc (mX1_walk pc) :=
  fI (fX1_walk_0 hG hSt) <| fI (fX1_walk_26 hG hSt) <| fI (fX1_walk_28 hG hSt) <| fI (fX1_walk_44 hG hSt) <| fI (fX1_walk_49 hG hSt) <| trivial
theorem fX1_walkFrom_0 {X : tp_X} {az : Array Value} (hG : tp_Good X az) (hSt : tp_Stat X) : tp_Fit X yX1_walkFrom cX1_walkFrom (some .int) 8 tp_nm tp_by tp_ml tp_rtt 0 [o_int (.bipush 36) 36, o_newa (.newarray .boolean) 1, o_ast (.astore_n 2) 2, o_ald (.aload_n 2) 2, o_ald (.aload_n 0) 0, o_getf (.getfield 49) 1 15, o_ild (.iload_n 1) 1, o_lda .aaload [4, 5, 6, 7, 28, 29], o_int (.iconst 0) 0, o_lda .iaload [0, 20], o_int (.iconst 1) 1, o_sta .bastore [1, 2], o_ald (.aload_n 0) 0, o_getf (.getfield 12) 1 0, o_getf (.getfield 105) 2 7, o_ald (.aload_n 0) 0, o_getf (.getfield 49) 1 15, o_ild (.iload_n 1) 1, o_lda .aaload [4, 5, 6, 7, 28, 29], o_int (.iconst 0) 0, o_lda .iaload [0, 20], o_lda .baload [1, 2, 22], o_ifeq 5 37, o_int (.iconst 0) 0, o_iret 0] :=
  fG mo_int (sim_bipush dX1_walkFrom_0 (by decide)) <|
  fG mo_newa (sim_newa hG dX1_walkFrom_2 q232 ⟨rfl, by decide⟩) <|
  fG mo_ast (sim_ast_n dX1_walkFrom_4 rfl) <|
  fG mo_ald (sim_ald_n dX1_walkFrom_5 rfl) <|
  fG mo_ald (sim_ald_n dX1_walkFrom_6 rfl) <|
  fG mo_getf (sim_getfG hG dX1_walkFrom_7 hc_1 (by decide) rfl in_X1 (fun _ _ _ h => h) (Or.inl q271)) <|
  fG mo_ild (sim_ild_n dX1_walkFrom_10 rfl) <|
  fG mo_lda (sim_aald dX1_walkFrom_11) <|
  fG mo_int (sim_iconst dX1_walkFrom_12 (by decide)) <|
  fG mo_lda (sim_iald dX1_walkFrom_13) <|
  fG mo_int (sim_iconst dX1_walkFrom_14 (by decide)) <|
  fG mo_sta (sim_bast dX1_walkFrom_15) <|
  fG mo_ald (sim_ald_n dX1_walkFrom_16 rfl) <|
  fG mo_getf (sim_getfG hG dX1_walkFrom_17 hc_1 (by decide) rfl in_X1 (fun _ _ _ h => h) (Or.inl q256)) <|
  fG mo_getf (sim_getfG hG dX1_walkFrom_20 hc_2 (by decide) rfl in_X2 (fun _ _ _ h => h) (Or.inr ⟨_, q193⟩)) <|
  fG mo_ald (sim_ald_n dX1_walkFrom_23 rfl) <|
  fG mo_getf (sim_getfG hG dX1_walkFrom_24 hc_1 (by decide) rfl in_X1 (fun _ _ _ h => h) (Or.inl q271)) <|
  fG mo_ild (sim_ild_n dX1_walkFrom_27 rfl) <|
  fG mo_lda (sim_aald dX1_walkFrom_28) <|
  fG mo_int (sim_iconst dX1_walkFrom_29 (by decide)) <|
  fG mo_lda (sim_iald dX1_walkFrom_30) <|
  fG mo_lda (sim_bald dX1_walkFrom_31) <|
  fG mo_ifeq (sim_ifeq dX1_walkFrom_32 rfl) <|
  fG mo_int (sim_iconst dX1_walkFrom_35 (by decide)) <|
  fE ie_iret (sim_iret dX1_walkFrom_36 rfl (Or.inl ⟨rfl, rfl⟩))
theorem fX1_walkFrom_37 {X : tp_X} {az : Array Value} (hG : tp_Good X az) (hSt : tp_Stat X) : tp_Fit X yX1_walkFrom cX1_walkFrom (some .int) 8 tp_nm tp_by tp_ml tp_rtt 37 [o_ild (.iload_n 1) 1, o_ist (.istore_n 3) 3, o_fall 39] :=
  fG mo_ild (sim_ild_n dX1_walkFrom_37 rfl) <|
  fG mo_ist (sim_ist_n dX1_walkFrom_38 rfl) <|
  fF
theorem fX1_walkFrom_39 {X : tp_X} {az : Array Value} (hG : tp_Good X az) (hSt : tp_Stat X) : tp_Fit X yX1_walkFrom cX1_walkFrom (some .int) 8 tp_nm tp_by tp_ml tp_rtt 39 [o_ild (.iload_n 3) 3, o_ald (.aload_n 0) 0, o_getf (.getfield 254) 1 11, o_icmpge 215 259, o_int (.bipush 36) 36, o_newa (.newarray .boolean) 1, o_ast (.astore 4) 4, o_int (.iconst 0) 0, o_ist (.istore 5) 5, o_fall 56] :=
  fG mo_ild (sim_ild_n dX1_walkFrom_39 rfl) <|
  fG mo_ald (sim_ald_n dX1_walkFrom_40 rfl) <|
  fG mo_getf (sim_getfG hG dX1_walkFrom_41 hc_1 (by decide) rfl in_X1 (fun _ _ _ h => h) (Or.inl q267)) <|
  fG mo_icmpge (sim_icmpge dX1_walkFrom_44 rfl) <|
  fG mo_int (sim_bipush dX1_walkFrom_47 (by decide)) <|
  fG mo_newa (sim_newa hG dX1_walkFrom_49 q232 ⟨rfl, by decide⟩) <|
  fG mo_ast (sim_ast dX1_walkFrom_51) <|
  fG mo_int (sim_iconst dX1_walkFrom_53 (by decide)) <|
  fG mo_ist (sim_ist dX1_walkFrom_54) <|
  fF
theorem fX1_walkFrom_56 {X : tp_X} {az : Array Value} (hG : tp_Good X az) (hSt : tp_Stat X) : tp_Fit X yX1_walkFrom cX1_walkFrom (some .int) 8 tp_nm tp_by tp_ml tp_rtt 56 [o_ild (.iload 5) 5, o_ald (.aload_n 0) 0, o_getf (.getfield 87) 1 4, o_icmpge 143 205, o_ald (.aload_n 2) 2, o_ild (.iload 5) 5, o_lda .baload [1, 2, 22], o_ifne 6 75, o_goto 127 199] :=
  fG mo_ild (sim_ild dX1_walkFrom_56) <|
  fG mo_ald (sim_ald_n dX1_walkFrom_58 rfl) <|
  fG mo_getf (sim_getfG hG dX1_walkFrom_59 hc_1 (by decide) rfl in_X1 (fun _ _ _ h => h) (Or.inl q260)) <|
  fG mo_icmpge (sim_icmpge dX1_walkFrom_62 rfl) <|
  fG mo_ald (sim_ald_n dX1_walkFrom_65 rfl) <|
  fG mo_ild (sim_ild dX1_walkFrom_66) <|
  fG mo_lda (sim_bald dX1_walkFrom_68) <|
  fG mo_ifne (sim_ifne dX1_walkFrom_69 rfl) <|
  fG mo_goto (sim_goto dX1_walkFrom_72 rfl) <|
  trivial
theorem fX1_walkFrom_75 {X : tp_X} {az : Array Value} (hG : tp_Good X az) (hSt : tp_Stat X) : tp_Fit X yX1_walkFrom cX1_walkFrom (some .int) 8 tp_nm tp_by tp_ml tp_rtt 75 [o_ald (.aload 4) 4, o_ald (.aload_n 0) 0, o_ild (.iload 5) 5, o_ald (.aload_n 0) 0, o_getf (.getfield 37) 1 12, o_ild (.iload_n 3) 3, o_lda .iaload [0, 20], o_cv (.invokevirtual 246) 1 kX1_drifts 2 0, o_int (.iconst 1) 1, o_sta .bastore [1, 2], o_int (.iconst 0) 0, o_ist (.istore 6) 6, o_fall 94] :=
  fG mo_ald (sim_ald dX1_walkFrom_75) <|
  fG mo_ald (sim_ald_n dX1_walkFrom_77 rfl) <|
  fG mo_ild (sim_ild dX1_walkFrom_78) <|
  fG mo_ald (sim_ald_n dX1_walkFrom_80 rfl) <|
  fG mo_getf (sim_getfG hG dX1_walkFrom_81 hc_1 (by decide) rfl in_X1 (fun _ _ _ h => h) (Or.inl q268)) <|
  fG mo_ild (sim_ild_n dX1_walkFrom_84 rfl) <|
  fG mo_lda (sim_iald dX1_walkFrom_85) <|
  fC (ic_cv (Or.inl rfl)) (sim_cv hG dX1_walkFrom_86 (hG.2.1 1 _ hc_1).2.1 M_X1_drifts (by rw [nm_X1_drifts]; rfl) (by rw [nm_X1_drifts]; exact q1028) (by rw [nm_X1_drifts]; exact q1030) (by rw [nm_X1_drifts]; exact qs28)) <|
  fG mo_int (sim_iconst dX1_walkFrom_89 (by decide)) <|
  fG mo_sta (sim_bast dX1_walkFrom_90) <|
  fG mo_int (sim_iconst dX1_walkFrom_91 (by decide)) <|
  fG mo_ist (sim_ist dX1_walkFrom_92) <|
  fF
theorem fX1_walkFrom_94 {X : tp_X} {az : Array Value} (hG : tp_Good X az) (hSt : tp_Stat X) : tp_Fit X yX1_walkFrom cX1_walkFrom (some .int) 8 tp_nm tp_by tp_ml tp_rtt 94 [o_ild (.iload 6) 6, o_int (.iconst 4) 4, o_icmpge 102 199, o_ald (.aload_n 0) 0, o_ild (.iload 5) 5, o_ild (.iload 6) 6, o_cs (.invokestatic 169) kX1_dx 1 0, o_ild (.iload 6) 6, o_cs (.invokestatic 173) kX1_dy 1 0, o_cv (.invokevirtual 165) 1 kX1_beside 3 0, o_ist (.istore 7) 7, o_ild (.iload 7) 7, o_int (.iconst (-1)) (-1), o_icmpeq 72 193, o_ald (.aload_n 0) 0, o_ald (.aload_n 0) 0, o_getf (.getfield 42) 1 13, o_ild (.iload_n 3) 3, o_lda .aaload [4, 5, 6, 7, 28, 29], o_ild (.iload 7) 7, o_ald (.aload_n 0) 0, o_ild (.iload_n 3) 3, o_cv (.invokevirtual 263) 1 kX1_windAt 1 0, o_ald (.aload_n 0) 0, o_getf (.getfield 12) 1 0, o_getf (.getfield 112) 2 0, o_int (.iconst 0) 0, o_lda .iaload [0, 20], o_ild (.iload_n 3) 3, o_iadd, o_cv (.invokevirtual 312) 1 kX1_walks 4 0, o_ifne 6 158, o_goto 38 193] :=
  fG mo_ild (sim_ild dX1_walkFrom_94) <|
  fG mo_int (sim_iconst dX1_walkFrom_96 (by decide)) <|
  fG mo_icmpge (sim_icmpge dX1_walkFrom_97 rfl) <|
  fG mo_ald (sim_ald_n dX1_walkFrom_100 rfl) <|
  fG mo_ild (sim_ild dX1_walkFrom_101) <|
  fG mo_ild (sim_ild dX1_walkFrom_103) <|
  fC (ic_cs (Or.inl rfl)) (sim_cs hG dX1_walkFrom_105 M_X1_dx (by rw [nm_X1_dx]; rfl) (by rw [nm_X1_dx]; exact q900) (by rw [nm_X1_dx]; exact q901)) <|
  fG mo_ild (sim_ild dX1_walkFrom_108) <|
  fC (ic_cs (Or.inl rfl)) (sim_cs hG dX1_walkFrom_110 M_X1_dy (by rw [nm_X1_dy]; rfl) (by rw [nm_X1_dy]; exact q903) (by rw [nm_X1_dy]; exact q904)) <|
  fC (ic_cv (Or.inl rfl)) (sim_cv hG dX1_walkFrom_113 (hG.2.1 1 _ hc_1).2.1 M_X1_beside (by rw [nm_X1_beside]; rfl) (by rw [nm_X1_beside]; exact q906) (by rw [nm_X1_beside]; exact q908) (by rw [nm_X1_beside]; exact qs21)) <|
  fG mo_ist (sim_ist dX1_walkFrom_116) <|
  fG mo_ild (sim_ild dX1_walkFrom_118) <|
  fG mo_int (sim_iconst dX1_walkFrom_120 (by decide)) <|
  fG mo_icmpeq (sim_icmpeq dX1_walkFrom_121 rfl) <|
  fG mo_ald (sim_ald_n dX1_walkFrom_124 rfl) <|
  fG mo_ald (sim_ald_n dX1_walkFrom_125 rfl) <|
  fG mo_getf (sim_getfG hG dX1_walkFrom_126 hc_1 (by decide) rfl in_X1 (fun _ _ _ h => h) (Or.inl q269)) <|
  fG mo_ild (sim_ild_n dX1_walkFrom_129 rfl) <|
  fG mo_lda (sim_aald dX1_walkFrom_130) <|
  fG mo_ild (sim_ild dX1_walkFrom_131) <|
  fG mo_ald (sim_ald_n dX1_walkFrom_133 rfl) <|
  fG mo_ild (sim_ild_n dX1_walkFrom_134 rfl) <|
  fC (ic_cv (Or.inl rfl)) (sim_cv hG dX1_walkFrom_135 (hG.2.1 1 _ hc_1).2.1 M_X1_windAt (by rw [nm_X1_windAt]; rfl) (by rw [nm_X1_windAt]; exact q1070) (by rw [nm_X1_windAt]; exact q1072) (by rw [nm_X1_windAt]; exact qs36)) <|
  fG mo_ald (sim_ald_n dX1_walkFrom_138 rfl) <|
  fG mo_getf (sim_getfG hG dX1_walkFrom_139 hc_1 (by decide) rfl in_X1 (fun _ _ _ h => h) (Or.inl q256)) <|
  fG mo_getf (sim_getfG hG dX1_walkFrom_142 hc_2 (by decide) rfl in_X2 (fun _ _ _ h => h) (Or.inr ⟨_, q179⟩)) <|
  fG mo_int (sim_iconst dX1_walkFrom_145 (by decide)) <|
  fG mo_lda (sim_iald dX1_walkFrom_146) <|
  fG mo_ild (sim_ild_n dX1_walkFrom_147 rfl) <|
  fG mo_iadd (sim_iadd dX1_walkFrom_148) <|
  fC (ic_cv (Or.inl rfl)) (sim_cv hG dX1_walkFrom_149 (hG.2.1 1 _ hc_1).2.1 M_X1_walks (by rw [nm_X1_walks]; rfl) (by rw [nm_X1_walks]; exact q1129) (by rw [nm_X1_walks]; exact q1131) (by rw [nm_X1_walks]; exact qs42)) <|
  fG mo_ifne (sim_ifne dX1_walkFrom_152 rfl) <|
  fG mo_goto (sim_goto dX1_walkFrom_155 rfl) <|
  trivial
theorem fX1_walkFrom_158 {X : tp_X} {az : Array Value} (hG : tp_Good X az) (hSt : tp_Stat X) : tp_Fit X yX1_walkFrom cX1_walkFrom (some .int) 8 tp_nm tp_by tp_ml tp_rtt 158 [o_ald (.aload_n 0) 0, o_getf (.getfield 12) 1 0, o_getf (.getfield 105) 2 7, o_ild (.iload 7) 7, o_lda .baload [1, 2, 22], o_ifeq 9 177, o_ild (.iload_n 3) 3, o_ild (.iload_n 1) 1, o_isub, o_int (.iconst 1) 1, o_iadd, o_iret 0] :=
  fG mo_ald (sim_ald_n dX1_walkFrom_158 rfl) <|
  fG mo_getf (sim_getfG hG dX1_walkFrom_159 hc_1 (by decide) rfl in_X1 (fun _ _ _ h => h) (Or.inl q256)) <|
  fG mo_getf (sim_getfG hG dX1_walkFrom_162 hc_2 (by decide) rfl in_X2 (fun _ _ _ h => h) (Or.inr ⟨_, q193⟩)) <|
  fG mo_ild (sim_ild dX1_walkFrom_165) <|
  fG mo_lda (sim_bald dX1_walkFrom_167) <|
  fG mo_ifeq (sim_ifeq dX1_walkFrom_168 rfl) <|
  fG mo_ild (sim_ild_n dX1_walkFrom_171 rfl) <|
  fG mo_ild (sim_ild_n dX1_walkFrom_172 rfl) <|
  fG mo_isub (sim_isub dX1_walkFrom_173) <|
  fG mo_int (sim_iconst dX1_walkFrom_174 (by decide)) <|
  fG mo_iadd (sim_iadd dX1_walkFrom_175) <|
  fE ie_iret (sim_iret dX1_walkFrom_176 rfl (Or.inl ⟨rfl, rfl⟩))
theorem fX1_walkFrom_177 {X : tp_X} {az : Array Value} (hG : tp_Good X az) (hSt : tp_Stat X) : tp_Fit X yX1_walkFrom cX1_walkFrom (some .int) 8 tp_nm tp_by tp_ml tp_rtt 177 [o_ald (.aload 4) 4, o_ald (.aload_n 0) 0, o_ild (.iload 7) 7, o_ald (.aload_n 0) 0, o_getf (.getfield 37) 1 12, o_ild (.iload_n 3) 3, o_lda .iaload [0, 20], o_cv (.invokevirtual 246) 1 kX1_drifts 2 0, o_int (.iconst 1) 1, o_sta .bastore [1, 2], o_fall 193] :=
  fG mo_ald (sim_ald dX1_walkFrom_177) <|
  fG mo_ald (sim_ald_n dX1_walkFrom_179 rfl) <|
  fG mo_ild (sim_ild dX1_walkFrom_180) <|
  fG mo_ald (sim_ald_n dX1_walkFrom_182 rfl) <|
  fG mo_getf (sim_getfG hG dX1_walkFrom_183 hc_1 (by decide) rfl in_X1 (fun _ _ _ h => h) (Or.inl q268)) <|
  fG mo_ild (sim_ild_n dX1_walkFrom_186 rfl) <|
  fG mo_lda (sim_iald dX1_walkFrom_187) <|
  fC (ic_cv (Or.inl rfl)) (sim_cv hG dX1_walkFrom_188 (hG.2.1 1 _ hc_1).2.1 M_X1_drifts (by rw [nm_X1_drifts]; rfl) (by rw [nm_X1_drifts]; exact q1028) (by rw [nm_X1_drifts]; exact q1030) (by rw [nm_X1_drifts]; exact qs28)) <|
  fG mo_int (sim_iconst dX1_walkFrom_191 (by decide)) <|
  fG mo_sta (sim_bast dX1_walkFrom_192) <|
  fF
theorem fX1_walkFrom_193 {X : tp_X} {az : Array Value} (hG : tp_Good X az) (hSt : tp_Stat X) : tp_Fit X yX1_walkFrom cX1_walkFrom (some .int) 8 tp_nm tp_by tp_ml tp_rtt 193 [o_inc 6 1, o_goto (-102) 94] :=
  fG mo_inc (sim_inc dX1_walkFrom_193 (by decide)) <|
  fG mo_goto (sim_goto dX1_walkFrom_196 rfl) <|
  trivial
theorem fX1_walkFrom_199 {X : tp_X} {az : Array Value} (hG : tp_Good X az) (hSt : tp_Stat X) : tp_Fit X yX1_walkFrom cX1_walkFrom (some .int) 8 tp_nm tp_by tp_ml tp_rtt 199 [o_inc 5 1, o_goto (-146) 56] :=
  fG mo_inc (sim_inc dX1_walkFrom_199 (by decide)) <|
  fG mo_goto (sim_goto dX1_walkFrom_202 rfl) <|
  trivial
theorem fX1_walkFrom_205 {X : tp_X} {az : Array Value} (hG : tp_Good X az) (hSt : tp_Stat X) : tp_Fit X yX1_walkFrom cX1_walkFrom (some .int) 8 tp_nm tp_by tp_ml tp_rtt 205 [o_int (.iconst 0) 0, o_ist (.istore 5) 5, o_fall 208] :=
  fG mo_int (sim_iconst dX1_walkFrom_205 (by decide)) <|
  fG mo_ist (sim_ist dX1_walkFrom_206) <|
  fF
theorem fX1_walkFrom_208 {X : tp_X} {az : Array Value} (hG : tp_Good X az) (hSt : tp_Stat X) : tp_Fit X yX1_walkFrom cX1_walkFrom (some .int) 8 tp_nm tp_by tp_ml tp_rtt 208 [o_ild (.iload 5) 5, o_ald (.aload_n 0) 0, o_getf (.getfield 87) 1 4, o_icmpge 36 250, o_ald (.aload 4) 4, o_ild (.iload 5) 5, o_lda .baload [1, 2, 22], o_ifeq 22 244, o_ald (.aload_n 0) 0, o_getf (.getfield 12) 1 0, o_getf (.getfield 105) 2 7, o_ild (.iload 5) 5, o_lda .baload [1, 2, 22], o_ifeq 9 244, o_ild (.iload_n 3) 3, o_ild (.iload_n 1) 1, o_isub, o_int (.iconst 1) 1, o_iadd, o_iret 0] :=
  fG mo_ild (sim_ild dX1_walkFrom_208) <|
  fG mo_ald (sim_ald_n dX1_walkFrom_210 rfl) <|
  fG mo_getf (sim_getfG hG dX1_walkFrom_211 hc_1 (by decide) rfl in_X1 (fun _ _ _ h => h) (Or.inl q260)) <|
  fG mo_icmpge (sim_icmpge dX1_walkFrom_214 rfl) <|
  fG mo_ald (sim_ald dX1_walkFrom_217) <|
  fG mo_ild (sim_ild dX1_walkFrom_219) <|
  fG mo_lda (sim_bald dX1_walkFrom_221) <|
  fG mo_ifeq (sim_ifeq dX1_walkFrom_222 rfl) <|
  fG mo_ald (sim_ald_n dX1_walkFrom_225 rfl) <|
  fG mo_getf (sim_getfG hG dX1_walkFrom_226 hc_1 (by decide) rfl in_X1 (fun _ _ _ h => h) (Or.inl q256)) <|
  fG mo_getf (sim_getfG hG dX1_walkFrom_229 hc_2 (by decide) rfl in_X2 (fun _ _ _ h => h) (Or.inr ⟨_, q193⟩)) <|
  fG mo_ild (sim_ild dX1_walkFrom_232) <|
  fG mo_lda (sim_bald dX1_walkFrom_234) <|
  fG mo_ifeq (sim_ifeq dX1_walkFrom_235 rfl) <|
  fG mo_ild (sim_ild_n dX1_walkFrom_238 rfl) <|
  fG mo_ild (sim_ild_n dX1_walkFrom_239 rfl) <|
  fG mo_isub (sim_isub dX1_walkFrom_240) <|
  fG mo_int (sim_iconst dX1_walkFrom_241 (by decide)) <|
  fG mo_iadd (sim_iadd dX1_walkFrom_242) <|
  fE ie_iret (sim_iret dX1_walkFrom_243 rfl (Or.inl ⟨rfl, rfl⟩))
theorem fX1_walkFrom_244 {X : tp_X} {az : Array Value} (hG : tp_Good X az) (hSt : tp_Stat X) : tp_Fit X yX1_walkFrom cX1_walkFrom (some .int) 8 tp_nm tp_by tp_ml tp_rtt 244 [o_inc 5 1, o_goto (-39) 208] :=
  fG mo_inc (sim_inc dX1_walkFrom_244 (by decide)) <|
  fG mo_goto (sim_goto dX1_walkFrom_247 rfl) <|
  trivial
theorem fX1_walkFrom_250 {X : tp_X} {az : Array Value} (hG : tp_Good X az) (hSt : tp_Stat X) : tp_Fit X yX1_walkFrom cX1_walkFrom (some .int) 8 tp_nm tp_by tp_ml tp_rtt 250 [o_ald (.aload 4) 4, o_ast (.astore_n 2) 2, o_inc 3 1, o_goto (-217) 39] :=
  fG mo_ald (sim_ald dX1_walkFrom_250) <|
  fG mo_ast (sim_ast_n dX1_walkFrom_252 rfl) <|
  fG mo_inc (sim_inc dX1_walkFrom_253 (by decide)) <|
  fG mo_goto (sim_goto dX1_walkFrom_256 rfl) <|
  trivial
theorem fX1_walkFrom_259 {X : tp_X} {az : Array Value} (hG : tp_Good X az) (hSt : tp_Stat X) : tp_Fit X yX1_walkFrom cX1_walkFrom (some .int) 8 tp_nm tp_by tp_ml tp_rtt 259 [o_int (.iconst (-1)) (-1), o_iret 0] :=
  fG mo_int (sim_iconst dX1_walkFrom_259 (by decide)) <|
  fE ie_iret (sim_iret dX1_walkFrom_260 rfl (Or.inl ⟨rfl, rfl⟩))
theorem F_X1_walkFrom {X : tp_X} {az : Array Value} (hG : tp_Good X az) (hSt : tp_Stat X) (pc : Nat) : tp_Fit X yX1_walkFrom cX1_walkFrom (some .int) 8 tp_nm tp_by tp_ml tp_rtt pc (mX1_walkFrom pc) :=
  fI (fX1_walkFrom_0 hG hSt) <| fI (fX1_walkFrom_37 hG hSt) <| fI (fX1_walkFrom_39 hG hSt) <| fI (fX1_walkFrom_56 hG hSt) <| fI (fX1_walkFrom_75 hG hSt) <| fI (fX1_walkFrom_94 hG hSt) <| fI (fX1_walkFrom_158 hG hSt) <| fI (fX1_walkFrom_177 hG hSt) <| fI (fX1_walkFrom_193 hG hSt) <| fI (fX1_walkFrom_199 hG hSt) <| fI (fX1_walkFrom_205 hG hSt) <| fI (fX1_walkFrom_208 hG hSt) <| fI (fX1_walkFrom_244 hG hSt) <| fI (fX1_walkFrom_250 hG hSt) <| fI (fX1_walkFrom_259 hG hSt) <| trivial
theorem fX1_walks_0 {X : tp_X} {az : Array Value} (hG : tp_Good X az) (hSt : tp_Stat X) : tp_Fit X yX1_walks cX1_walks (some .boolean) 6 tp_nm tp_by tp_ml tp_rtt 0 [o_ald (.aload_n 0) 0, o_cv (.invokevirtual 176) 1 kX1_rules 0 0, o_ast (.astore 5) 5, o_ald (.aload 5) 5, o_ifnull 14 22, o_ald (.aload 5) 5, o_getf (.getfield 217) 5 2, o_cv (.invokevirtual 185) 15 kJ4_isEmpty 0 0, o_ifeq 17 36, o_fall 22] :=
  fG mo_ald (sim_ald_n dX1_walks_0 rfl) <|
  fC (ic_cv (Or.inl rfl)) (sim_cv hG dX1_walks_1 (hG.2.1 1 _ hc_1).2.1 M_X1_rules (by rw [nm_X1_rules]; rfl) (by rw [nm_X1_rules]; exact q914) (by rw [nm_X1_rules]; exact q916) (by rw [nm_X1_rules]; exact qs23)) <|
  fG mo_ast (sim_ast dX1_walks_4) <|
  fG mo_ald (sim_ald dX1_walks_6) <|
  fG mo_ifnull (sim_ifnull dX1_walks_8 rfl) <|
  fG mo_ald (sim_ald dX1_walks_11) <|
  fG mo_getf (sim_getfG hG dX1_walks_13 hc_5 (by decide) rfl in_X5 (fun _ _ _ h => h) (Or.inr ⟨_, q466⟩)) <|
  fC (ic_cv (Or.inl rfl)) (sim_cv hG dX1_walks_16 (hG.2.1 15 _ hc_15).2.1 M_J4_isEmpty (by rw [nm_J4_isEmpty]; rfl) (by rw [nm_J4_isEmpty]; exact q918) (by rw [nm_J4_isEmpty]; exact q814) (by rw [nm_J4_isEmpty]; exact q815)) <|
  fG mo_ifeq (sim_ifeq dX1_walks_19 rfl) <|
  fF
theorem fX1_walks_22 {X : tp_X} {az : Array Value} (hG : tp_Good X az) (hSt : tp_Stat X) : tp_Fit X yX1_walks cX1_walks (some .boolean) 6 tp_nm tp_by tp_ml tp_rtt 22 [o_ald (.aload_n 1) 1, o_ild (.iload_n 2) 2, o_lda .iaload [0, 20], o_int (.bipush 10) 10, o_icmplt 7 34, o_int (.iconst 1) 1, o_goto 4 35] :=
  fG mo_ald (sim_ald_n dX1_walks_22 rfl) <|
  fG mo_ild (sim_ild_n dX1_walks_23 rfl) <|
  fG mo_lda (sim_iald dX1_walks_24) <|
  fG mo_int (sim_bipush dX1_walks_25 (by decide)) <|
  fG mo_icmplt (sim_icmplt dX1_walks_27 rfl) <|
  fG mo_int (sim_iconst dX1_walks_30 (by decide)) <|
  fG mo_goto (sim_goto dX1_walks_31 rfl) <|
  trivial
theorem fX1_walks_34 {X : tp_X} {az : Array Value} (hG : tp_Good X az) (hSt : tp_Stat X) : tp_Fit X yX1_walks cX1_walks (some .boolean) 6 tp_nm tp_by tp_ml tp_rtt 34 [o_int (.iconst 0) 0, o_fall 35] :=
  fG mo_int (sim_iconst dX1_walks_34 (by decide)) <|
  fF
theorem fX1_walks_35 {X : tp_X} {az : Array Value} (hG : tp_Good X az) (hSt : tp_Stat X) : tp_Fit X yX1_walks cX1_walks (some .boolean) 6 tp_nm tp_by tp_ml tp_rtt 35 [o_iret 1] :=
  fE ie_iret (sim_iret dX1_walks_35 rfl (Or.inr (Or.inl ⟨rfl, rfl⟩)))
theorem fX1_walks_36 {X : tp_X} {az : Array Value} (hG : tp_Good X az) (hSt : tp_Stat X) : tp_Fit X yX1_walks cX1_walks (some .boolean) 6 tp_nm tp_by tp_ml tp_rtt 36 [o_ald (.aload_n 0) 0, o_ald (.aload_n 1) 1, o_ild (.iload_n 2) 2, o_ild (.iload_n 3) 3, o_ild (.iload 4) 4, o_cv (.invokevirtual 191) 1 kX1_names 4 0, o_ald (.aload 5) 5, o_getf (.getfield 217) 5 2, o_ald (.aload_n 0) 0, o_getf (.getfield 30) 1 9, o_cs (.invokestatic 194) kX5_some 2 0, o_iret 1] :=
  fG mo_ald (sim_ald_n dX1_walks_36 rfl) <|
  fG mo_ald (sim_ald_n dX1_walks_37 rfl) <|
  fG mo_ild (sim_ild_n dX1_walks_38 rfl) <|
  fG mo_ild (sim_ild_n dX1_walks_39 rfl) <|
  fG mo_ild (sim_ild dX1_walks_40) <|
  fC (ic_cv (Or.inl rfl)) (sim_cv hG dX1_walks_42 (hG.2.1 1 _ hc_1).2.1 M_X1_names (by rw [nm_X1_names]; rfl) (by rw [nm_X1_names]; exact q919) (by rw [nm_X1_names]; exact q921) (by rw [nm_X1_names]; exact qs24)) <|
  fG mo_ald (sim_ald dX1_walks_45) <|
  fG mo_getf (sim_getfG hG dX1_walks_47 hc_5 (by decide) rfl in_X5 (fun _ _ _ h => h) (Or.inr ⟨_, q466⟩)) <|
  fG mo_ald (sim_ald_n dX1_walks_50 rfl) <|
  fG mo_getf (sim_getfG hG dX1_walks_51 hc_1 (by decide) rfl in_X1 (fun _ _ _ h => h) (Or.inl q265)) <|
  fC (ic_cs (Or.inl rfl)) (sim_cs hG dX1_walks_54 M_X5_some (by rw [nm_X5_some]; rfl) (by rw [nm_X5_some]; exact q923) (by rw [nm_X5_some]; exact q924)) <|
  fE ie_iret (sim_iret dX1_walks_57 rfl (Or.inr (Or.inl ⟨rfl, rfl⟩)))
theorem F_X1_walks {X : tp_X} {az : Array Value} (hG : tp_Good X az) (hSt : tp_Stat X) (pc : Nat) : tp_Fit X yX1_walks cX1_walks (some .boolean) 6 tp_nm tp_by tp_ml tp_rtt pc (mX1_walks pc) :=
  fI (fX1_walks_0 hG hSt) <| fI (fX1_walks_22 hG hSt) <| fI (fX1_walks_34 hG hSt) <| fI (fX1_walks_35 hG hSt) <| fI (fX1_walks_36 hG hSt) <| trivial
theorem fX1_leave_0 {X : tp_X} {az : Array Value} (hG : tp_Good X az) (hSt : tp_Stat X) : tp_Fit X yX1_leave cX1_leave (some .int) 2 tp_nm tp_by tp_ml tp_rtt 0 [o_ald (.aload_n 0) 0, o_cv (.invokevirtual 287) 1 kX1_ship_2 0 0, o_int (.iconst 3) 3, o_lda .iaload [0, 20], o_ifeq 5 11, o_int (.iconst (-1)) (-1), o_iret 0] :=
  fG mo_ald (sim_ald_n dX1_leave_0 rfl) <|
  fC (ic_cv (Or.inl rfl)) (sim_cv hG dX1_leave_1 (hG.2.1 1 _ hc_1).2.1 M_X1_ship_2 (by rw [nm_X1_ship_2]; rfl) (by rw [nm_X1_ship_2]; exact q1044) (by rw [nm_X1_ship_2]; exact q1046) (by rw [nm_X1_ship_2]; exact qs30)) <|
  fG mo_int (sim_iconst dX1_leave_4 (by decide)) <|
  fG mo_lda (sim_iald dX1_leave_5) <|
  fG mo_ifeq (sim_ifeq dX1_leave_6 rfl) <|
  fG mo_int (sim_iconst dX1_leave_9 (by decide)) <|
  fE ie_iret (sim_iret dX1_leave_10 rfl (Or.inl ⟨rfl, rfl⟩))
theorem fX1_leave_11 {X : tp_X} {az : Array Value} (hG : tp_Good X az) (hSt : tp_Stat X) : tp_Fit X yX1_leave cX1_leave (some .int) 2 tp_nm tp_by tp_ml tp_rtt 11 [o_ald (.aload_n 0) 0, o_cv (.invokevirtual 305) 1 kX1_laysPath 0 0, o_ald (.aload_n 0) 0, o_getf (.getfield 302) 1 16, o_ist (.istore_n 1) 1, o_fall 20] :=
  fG mo_ald (sim_ald_n dX1_leave_11 rfl) <|
  fC (ic_cv (Or.inl rfl)) (sim_cv hG dX1_leave_12 (hG.2.1 1 _ hc_1).2.1 M_X1_laysPath (by rw [nm_X1_laysPath]; rfl) (by rw [nm_X1_laysPath]; exact q1105) (by rw [nm_X1_laysPath]; exact q1107) (by rw [nm_X1_laysPath]; exact qs39)) <|
  fG mo_ald (sim_ald_n dX1_leave_15 rfl) <|
  fG mo_getf (sim_getfG hG dX1_leave_16 hc_1 (by decide) rfl in_X1 (fun _ _ _ h => h) (Or.inl q272)) <|
  fG mo_ist (sim_ist_n dX1_leave_19 rfl) <|
  fF
theorem fX1_leave_20 {X : tp_X} {az : Array Value} (hG : tp_Good X az) (hSt : tp_Stat X) : tp_Fit X yX1_leave cX1_leave (some .int) 2 tp_nm tp_by tp_ml tp_rtt 20 [o_ild (.iload_n 1) 1, o_iflt 20 41, o_ald (.aload_n 0) 0, o_ild (.iload_n 1) 1, o_cv (.invokevirtual 315) 1 kX1_walkFrom 1 0, o_int (.iconst (-1)) (-1), o_icmpeq 5 35, o_ild (.iload_n 1) 1, o_iret 0] :=
  fG mo_ild (sim_ild_n dX1_leave_20 rfl) <|
  fG mo_iflt (sim_iflt dX1_leave_21 rfl) <|
  fG mo_ald (sim_ald_n dX1_leave_24 rfl) <|
  fG mo_ild (sim_ild_n dX1_leave_25 rfl) <|
  fC (ic_cv (Or.inl rfl)) (sim_cv hG dX1_leave_26 (hG.2.1 1 _ hc_1).2.1 M_X1_walkFrom (by rw [nm_X1_walkFrom]; rfl) (by rw [nm_X1_walkFrom]; exact q1125) (by rw [nm_X1_walkFrom]; exact q1127) (by rw [nm_X1_walkFrom]; exact qs41)) <|
  fG mo_int (sim_iconst dX1_leave_29 (by decide)) <|
  fG mo_icmpeq (sim_icmpeq dX1_leave_30 rfl) <|
  fG mo_ild (sim_ild_n dX1_leave_33 rfl) <|
  fE ie_iret (sim_iret dX1_leave_34 rfl (Or.inl ⟨rfl, rfl⟩))
theorem fX1_leave_35 {X : tp_X} {az : Array Value} (hG : tp_Good X az) (hSt : tp_Stat X) : tp_Fit X yX1_leave cX1_leave (some .int) 2 tp_nm tp_by tp_ml tp_rtt 35 [o_inc 1 (-1), o_goto (-18) 20] :=
  fG mo_inc (sim_inc dX1_leave_35 (by decide)) <|
  fG mo_goto (sim_goto dX1_leave_38 rfl) <|
  trivial
theorem fX1_leave_41 {X : tp_X} {az : Array Value} (hG : tp_Good X az) (hSt : tp_Stat X) : tp_Fit X yX1_leave cX1_leave (some .int) 2 tp_nm tp_by tp_ml tp_rtt 41 [o_int (.iconst (-1)) (-1), o_iret 0] :=
  fG mo_int (sim_iconst dX1_leave_41 (by decide)) <|
  fE ie_iret (sim_iret dX1_leave_42 rfl (Or.inl ⟨rfl, rfl⟩))
theorem F_X1_leave {X : tp_X} {az : Array Value} (hG : tp_Good X az) (hSt : tp_Stat X) (pc : Nat) : tp_Fit X yX1_leave cX1_leave (some .int) 2 tp_nm tp_by tp_ml tp_rtt pc (mX1_leave pc) :=
  fI (fX1_leave_0 hG hSt) <| fI (fX1_leave_11 hG hSt) <| fI (fX1_leave_20 hG hSt) <| fI (fX1_leave_35 hG hSt) <| fI (fX1_leave_41 hG hSt) <| trivial
theorem fX1_winter_0 {X : tp_X} {az : Array Value} (hG : tp_Good X az) (hSt : tp_Stat X) : tp_Fit X yX1_winter cX1_winter (some .int) 4 tp_nm tp_by tp_ml tp_rtt 0 [o_ild (.iload_n 1) 1, o_int (.iconst 0) 0, o_int (.iconst 1) 1, o_cs (.invokestatic 94) kX1_in 3 0, o_ifne 16 22, o_ald (.aload_n 0) 0, o_ild (.iload_n 1) 1, o_int (.bipush 10) 10, o_isub, o_cv (.invokevirtual 98) 1 kX1_isCell 1 0, o_ifne 5 22, o_int (.iconst (-1)) (-1), o_iret 0] :=
  fG mo_ild (sim_ild_n dX1_winter_0 rfl) <|
  fG mo_int (sim_iconst dX1_winter_1 (by decide)) <|
  fG mo_int (sim_iconst dX1_winter_2 (by decide)) <|
  fC (ic_cs (Or.inl rfl)) (sim_cs hG dX1_winter_3 M_X1_in (by rw [nm_X1_in]; rfl) (by rw [nm_X1_in]; exact q335) (by rw [nm_X1_in]; exact q336)) <|
  fG mo_ifne (sim_ifne dX1_winter_6 rfl) <|
  fG mo_ald (sim_ald_n dX1_winter_9 rfl) <|
  fG mo_ild (sim_ild_n dX1_winter_10 rfl) <|
  fG mo_int (sim_bipush dX1_winter_11 (by decide)) <|
  fG mo_isub (sim_isub dX1_winter_13) <|
  fC (ic_cv (Or.inl rfl)) (sim_cv hG dX1_winter_14 (hG.2.1 1 _ hc_1).2.1 M_X1_isCell (by rw [nm_X1_isCell]; rfl) (by rw [nm_X1_isCell]; exact q331) (by rw [nm_X1_isCell]; exact q333) (by rw [nm_X1_isCell]; exact qs0)) <|
  fG mo_ifne (sim_ifne dX1_winter_17 rfl) <|
  fG mo_int (sim_iconst dX1_winter_20 (by decide)) <|
  fE ie_iret (sim_iret dX1_winter_21 rfl (Or.inl ⟨rfl, rfl⟩))
theorem fX1_winter_22 {X : tp_X} {az : Array Value} (hG : tp_Good X az) (hSt : tp_Stat X) : tp_Fit X yX1_winter cX1_winter (some .int) 4 tp_nm tp_by tp_ml tp_rtt 22 [o_ald (.aload_n 0) 0, o_cv (.invokevirtual 290) 1 kX1_laysAhead 0 0, o_ild (.iload_n 1) 1, o_int (.iconst 1) 1, o_icmple 12 40, o_ald (.aload_n 0) 0, o_ild (.iload_n 1) 1, o_int (.bipush 10) 10, o_isub, o_cv (.invokevirtual 318) 1 kX1_nipsFrom 1 0, o_iret 0] :=
  fG mo_ald (sim_ald_n dX1_winter_22 rfl) <|
  fC (ic_cv (Or.inl rfl)) (sim_cv hG dX1_winter_23 (hG.2.1 1 _ hc_1).2.1 M_X1_laysAhead (by rw [nm_X1_laysAhead]; rfl) (by rw [nm_X1_laysAhead]; exact q1048) (by rw [nm_X1_laysAhead]; exact q1050) (by rw [nm_X1_laysAhead]; exact qs31)) <|
  fG mo_ild (sim_ild_n dX1_winter_26 rfl) <|
  fG mo_int (sim_iconst dX1_winter_27 (by decide)) <|
  fG mo_icmple (sim_icmple dX1_winter_28 rfl) <|
  fG mo_ald (sim_ald_n dX1_winter_31 rfl) <|
  fG mo_ild (sim_ild_n dX1_winter_32 rfl) <|
  fG mo_int (sim_bipush dX1_winter_33 (by decide)) <|
  fG mo_isub (sim_isub dX1_winter_35) <|
  fC (ic_cv (Or.inl rfl)) (sim_cv hG dX1_winter_36 (hG.2.1 1 _ hc_1).2.1 M_X1_nipsFrom (by rw [nm_X1_nipsFrom]; rfl) (by rw [nm_X1_nipsFrom]; exact q1141) (by rw [nm_X1_nipsFrom]; exact q1143) (by rw [nm_X1_nipsFrom]; exact qs43)) <|
  fE ie_iret (sim_iret dX1_winter_39 rfl (Or.inl ⟨rfl, rfl⟩))
theorem fX1_winter_40 {X : tp_X} {az : Array Value} (hG : tp_Good X az) (hSt : tp_Stat X) : tp_Fit X yX1_winter cX1_winter (some .int) 4 tp_nm tp_by tp_ml tp_rtt 40 [o_int (.iconst 0) 0, o_ist (.istore_n 2) 2, o_int (.iconst 1) 1, o_ist (.istore_n 3) 3, o_fall 44] :=
  fG mo_int (sim_iconst dX1_winter_40 (by decide)) <|
  fG mo_ist (sim_ist_n dX1_winter_41 rfl) <|
  fG mo_int (sim_iconst dX1_winter_42 (by decide)) <|
  fG mo_ist (sim_ist_n dX1_winter_43 rfl) <|
  fF
theorem fX1_winter_44 {X : tp_X} {az : Array Value} (hG : tp_Good X az) (hSt : tp_Stat X) : tp_Fit X yX1_winter cX1_winter (some .int) 4 tp_nm tp_by tp_ml tp_rtt 44 [o_ild (.iload_n 3) 3, o_ald (.aload_n 0) 0, o_getf (.getfield 87) 1 4, o_icmpge 24 73, o_ald (.aload_n 0) 0, o_ild (.iload_n 3) 3, o_cv (.invokevirtual 318) 1 kX1_nipsFrom 1 0, o_ald (.aload_n 0) 0, o_ild (.iload_n 2) 2, o_cv (.invokevirtual 318) 1 kX1_nipsFrom 1 0, o_icmpge 5 67, o_ild (.iload_n 3) 3, o_ist (.istore_n 2) 2, o_fall 67] :=
  fG mo_ild (sim_ild_n dX1_winter_44 rfl) <|
  fG mo_ald (sim_ald_n dX1_winter_45 rfl) <|
  fG mo_getf (sim_getfG hG dX1_winter_46 hc_1 (by decide) rfl in_X1 (fun _ _ _ h => h) (Or.inl q260)) <|
  fG mo_icmpge (sim_icmpge dX1_winter_49 rfl) <|
  fG mo_ald (sim_ald_n dX1_winter_52 rfl) <|
  fG mo_ild (sim_ild_n dX1_winter_53 rfl) <|
  fC (ic_cv (Or.inl rfl)) (sim_cv hG dX1_winter_54 (hG.2.1 1 _ hc_1).2.1 M_X1_nipsFrom (by rw [nm_X1_nipsFrom]; rfl) (by rw [nm_X1_nipsFrom]; exact q1141) (by rw [nm_X1_nipsFrom]; exact q1143) (by rw [nm_X1_nipsFrom]; exact qs43)) <|
  fG mo_ald (sim_ald_n dX1_winter_57 rfl) <|
  fG mo_ild (sim_ild_n dX1_winter_58 rfl) <|
  fC (ic_cv (Or.inl rfl)) (sim_cv hG dX1_winter_59 (hG.2.1 1 _ hc_1).2.1 M_X1_nipsFrom (by rw [nm_X1_nipsFrom]; rfl) (by rw [nm_X1_nipsFrom]; exact q1141) (by rw [nm_X1_nipsFrom]; exact q1143) (by rw [nm_X1_nipsFrom]; exact qs43)) <|
  fG mo_icmpge (sim_icmpge dX1_winter_62 rfl) <|
  fG mo_ild (sim_ild_n dX1_winter_65 rfl) <|
  fG mo_ist (sim_ist_n dX1_winter_66 rfl) <|
  fF
theorem fX1_winter_67 {X : tp_X} {az : Array Value} (hG : tp_Good X az) (hSt : tp_Stat X) : tp_Fit X yX1_winter cX1_winter (some .int) 4 tp_nm tp_by tp_ml tp_rtt 67 [o_inc 3 1, o_goto (-26) 44] :=
  fG mo_inc (sim_inc dX1_winter_67 (by decide)) <|
  fG mo_goto (sim_goto dX1_winter_70 rfl) <|
  trivial
theorem fX1_winter_73 {X : tp_X} {az : Array Value} (hG : tp_Good X az) (hSt : tp_Stat X) : tp_Fit X yX1_winter cX1_winter (some .int) 4 tp_nm tp_by tp_ml tp_rtt 73 [o_ild (.iload_n 1) 1, o_ifne 7 81, o_ild (.iload_n 2) 2, o_goto 8 86] :=
  fG mo_ild (sim_ild_n dX1_winter_73 rfl) <|
  fG mo_ifne (sim_ifne dX1_winter_74 rfl) <|
  fG mo_ild (sim_ild_n dX1_winter_77 rfl) <|
  fG mo_goto (sim_goto dX1_winter_78 rfl) <|
  trivial
theorem fX1_winter_81 {X : tp_X} {az : Array Value} (hG : tp_Good X az) (hSt : tp_Stat X) : tp_Fit X yX1_winter cX1_winter (some .int) 4 tp_nm tp_by tp_ml tp_rtt 81 [o_ald (.aload_n 0) 0, o_ild (.iload_n 2) 2, o_cv (.invokevirtual 318) 1 kX1_nipsFrom 1 0, o_fall 86] :=
  fG mo_ald (sim_ald_n dX1_winter_81 rfl) <|
  fG mo_ild (sim_ild_n dX1_winter_82 rfl) <|
  fC (ic_cv (Or.inl rfl)) (sim_cv hG dX1_winter_83 (hG.2.1 1 _ hc_1).2.1 M_X1_nipsFrom (by rw [nm_X1_nipsFrom]; rfl) (by rw [nm_X1_nipsFrom]; exact q1141) (by rw [nm_X1_nipsFrom]; exact q1143) (by rw [nm_X1_nipsFrom]; exact qs43)) <|
  fF
theorem fX1_winter_86 {X : tp_X} {az : Array Value} (hG : tp_Good X az) (hSt : tp_Stat X) : tp_Fit X yX1_winter cX1_winter (some .int) 4 tp_nm tp_by tp_ml tp_rtt 86 [o_iret 0] :=
  fE ie_iret (sim_iret dX1_winter_86 rfl (Or.inl ⟨rfl, rfl⟩))
theorem F_X1_winter {X : tp_X} {az : Array Value} (hG : tp_Good X az) (hSt : tp_Stat X) (pc : Nat) : tp_Fit X yX1_winter cX1_winter (some .int) 4 tp_nm tp_by tp_ml tp_rtt pc (mX1_winter pc) :=
  fI (fX1_winter_0 hG hSt) <| fI (fX1_winter_22 hG hSt) <| fI (fX1_winter_40 hG hSt) <| fI (fX1_winter_44 hG hSt) <| fI (fX1_winter_67 hG hSt) <| fI (fX1_winter_73 hG hSt) <| fI (fX1_winter_81 hG hSt) <| fI (fX1_winter_86 hG hSt) <| trivial
theorem fX1_nipsFrom_0 {X : tp_X} {az : Array Value} (hG : tp_Good X az) (hSt : tp_Stat X) : tp_Fit X yX1_nipsFrom cX1_nipsFrom (some .int) 5 tp_nm tp_by tp_ml tp_rtt 0 [o_int (.iconst 0) 0, o_ist (.istore_n 2) 2, o_ild (.iload_n 1) 1, o_ist (.istore_n 3) 3, o_int (.iconst 0) 0, o_ist (.istore 4) 4, o_fall 7] :=
  fG mo_int (sim_iconst dX1_nipsFrom_0 (by decide)) <|
  fG mo_ist (sim_ist_n dX1_nipsFrom_1 rfl) <|
  fG mo_ild (sim_ild_n dX1_nipsFrom_2 rfl) <|
  fG mo_ist (sim_ist_n dX1_nipsFrom_3 rfl) <|
  fG mo_int (sim_iconst dX1_nipsFrom_4 (by decide)) <|
  fG mo_ist (sim_ist dX1_nipsFrom_5) <|
  fF
theorem fX1_nipsFrom_7 {X : tp_X} {az : Array Value} (hG : tp_Good X az) (hSt : tp_Stat X) : tp_Fit X yX1_nipsFrom cX1_nipsFrom (some .int) 5 tp_nm tp_by tp_ml tp_rtt 7 [o_ild (.iload 4) 4, o_ald (.aload_n 0) 0, o_getf (.getfield 254) 1 11, o_icmpge 40 53, o_ald (.aload_n 0) 0, o_ild (.iload_n 3) 3, o_ald (.aload_n 0) 0, o_getf (.getfield 37) 1 12, o_ild (.iload 4) 4, o_lda .iaload [0, 20], o_cv (.invokevirtual 246) 1 kX1_drifts 2 0, o_ist (.istore_n 3) 3, o_ild (.iload_n 2) 2, o_ald (.aload_n 0) 0, o_ild (.iload 4) 4, o_ild (.iload_n 3) 3, o_cv (.invokevirtual 277) 1 kX1_nippedAt 2 0, o_ifeq 7 44, o_int (.iconst 1) 1, o_goto 4 45] :=
  fG mo_ild (sim_ild dX1_nipsFrom_7) <|
  fG mo_ald (sim_ald_n dX1_nipsFrom_9 rfl) <|
  fG mo_getf (sim_getfG hG dX1_nipsFrom_10 hc_1 (by decide) rfl in_X1 (fun _ _ _ h => h) (Or.inl q267)) <|
  fG mo_icmpge (sim_icmpge dX1_nipsFrom_13 rfl) <|
  fG mo_ald (sim_ald_n dX1_nipsFrom_16 rfl) <|
  fG mo_ild (sim_ild_n dX1_nipsFrom_17 rfl) <|
  fG mo_ald (sim_ald_n dX1_nipsFrom_18 rfl) <|
  fG mo_getf (sim_getfG hG dX1_nipsFrom_19 hc_1 (by decide) rfl in_X1 (fun _ _ _ h => h) (Or.inl q268)) <|
  fG mo_ild (sim_ild dX1_nipsFrom_22) <|
  fG mo_lda (sim_iald dX1_nipsFrom_24) <|
  fC (ic_cv (Or.inl rfl)) (sim_cv hG dX1_nipsFrom_25 (hG.2.1 1 _ hc_1).2.1 M_X1_drifts (by rw [nm_X1_drifts]; rfl) (by rw [nm_X1_drifts]; exact q1028) (by rw [nm_X1_drifts]; exact q1030) (by rw [nm_X1_drifts]; exact qs28)) <|
  fG mo_ist (sim_ist_n dX1_nipsFrom_28 rfl) <|
  fG mo_ild (sim_ild_n dX1_nipsFrom_29 rfl) <|
  fG mo_ald (sim_ald_n dX1_nipsFrom_30 rfl) <|
  fG mo_ild (sim_ild dX1_nipsFrom_31) <|
  fG mo_ild (sim_ild_n dX1_nipsFrom_33 rfl) <|
  fC (ic_cv (Or.inl rfl)) (sim_cv hG dX1_nipsFrom_34 (hG.2.1 1 _ hc_1).2.1 M_X1_nippedAt (by rw [nm_X1_nippedAt]; rfl) (by rw [nm_X1_nippedAt]; exact q1078) (by rw [nm_X1_nippedAt]; exact q1080) (by rw [nm_X1_nippedAt]; exact qs38)) <|
  fG mo_ifeq (sim_ifeq dX1_nipsFrom_37 rfl) <|
  fG mo_int (sim_iconst dX1_nipsFrom_40 (by decide)) <|
  fG mo_goto (sim_goto dX1_nipsFrom_41 rfl) <|
  trivial
theorem fX1_nipsFrom_44 {X : tp_X} {az : Array Value} (hG : tp_Good X az) (hSt : tp_Stat X) : tp_Fit X yX1_nipsFrom cX1_nipsFrom (some .int) 5 tp_nm tp_by tp_ml tp_rtt 44 [o_int (.iconst 0) 0, o_fall 45] :=
  fG mo_int (sim_iconst dX1_nipsFrom_44 (by decide)) <|
  fF
theorem fX1_nipsFrom_45 {X : tp_X} {az : Array Value} (hG : tp_Good X az) (hSt : tp_Stat X) : tp_Fit X yX1_nipsFrom cX1_nipsFrom (some .int) 5 tp_nm tp_by tp_ml tp_rtt 45 [o_iadd, o_ist (.istore_n 2) 2, o_inc 4 1, o_goto (-43) 7] :=
  fG mo_iadd (sim_iadd dX1_nipsFrom_45) <|
  fG mo_ist (sim_ist_n dX1_nipsFrom_46 rfl) <|
  fG mo_inc (sim_inc dX1_nipsFrom_47 (by decide)) <|
  fG mo_goto (sim_goto dX1_nipsFrom_50 rfl) <|
  trivial
theorem fX1_nipsFrom_53 {X : tp_X} {az : Array Value} (hG : tp_Good X az) (hSt : tp_Stat X) : tp_Fit X yX1_nipsFrom cX1_nipsFrom (some .int) 5 tp_nm tp_by tp_ml tp_rtt 53 [o_ild (.iload_n 2) 2, o_iret 0] :=
  fG mo_ild (sim_ild_n dX1_nipsFrom_53 rfl) <|
  fE ie_iret (sim_iret dX1_nipsFrom_54 rfl (Or.inl ⟨rfl, rfl⟩))
theorem F_X1_nipsFrom {X : tp_X} {az : Array Value} (hG : tp_Good X az) (hSt : tp_Stat X) (pc : Nat) : tp_Fit X yX1_nipsFrom cX1_nipsFrom (some .int) 5 tp_nm tp_by tp_ml tp_rtt pc (mX1_nipsFrom pc) :=
  fI (fX1_nipsFrom_0 hG hSt) <| fI (fX1_nipsFrom_7 hG hSt) <| fI (fX1_nipsFrom_44 hG hSt) <| fI (fX1_nipsFrom_45 hG hSt) <| fI (fX1_nipsFrom_53 hG hSt) <| trivial
theorem fX1_surest_0 {X : tp_X} {az : Array Value} (hG : tp_Good X az) (hSt : tp_Stat X) : tp_Fit X yX1_surest cX1_surest (some .int) 6 tp_nm tp_by tp_ml tp_rtt 0 [o_ild (.iload_n 1) 1, o_int (.iconst 1) 1, o_int (.iconst 3) 3, o_cs (.invokestatic 94) kX1_in 3 0, o_ifeq 12 18, o_ild (.iload_n 2) 2, o_int (.iconst 0) 0, o_int (.iconst 2) 2, o_cs (.invokestatic 94) kX1_in 3 0, o_ifne 5 20, o_fall 18] :=
  fG mo_ild (sim_ild_n dX1_surest_0 rfl) <|
  fG mo_int (sim_iconst dX1_surest_1 (by decide)) <|
  fG mo_int (sim_iconst dX1_surest_2 (by decide)) <|
  fC (ic_cs (Or.inl rfl)) (sim_cs hG dX1_surest_3 M_X1_in (by rw [nm_X1_in]; rfl) (by rw [nm_X1_in]; exact q335) (by rw [nm_X1_in]; exact q336)) <|
  fG mo_ifeq (sim_ifeq dX1_surest_6 rfl) <|
  fG mo_ild (sim_ild_n dX1_surest_9 rfl) <|
  fG mo_int (sim_iconst dX1_surest_10 (by decide)) <|
  fG mo_int (sim_iconst dX1_surest_11 (by decide)) <|
  fC (ic_cs (Or.inl rfl)) (sim_cs hG dX1_surest_12 M_X1_in (by rw [nm_X1_in]; rfl) (by rw [nm_X1_in]; exact q335) (by rw [nm_X1_in]; exact q336)) <|
  fG mo_ifne (sim_ifne dX1_surest_15 rfl) <|
  fF
theorem fX1_surest_18 {X : tp_X} {az : Array Value} (hG : tp_Good X az) (hSt : tp_Stat X) : tp_Fit X yX1_surest cX1_surest (some .int) 6 tp_nm tp_by tp_ml tp_rtt 18 [o_int (.iconst (-1)) (-1), o_iret 0] :=
  fG mo_int (sim_iconst dX1_surest_18 (by decide)) <|
  fE ie_iret (sim_iret dX1_surest_19 rfl (Or.inl ⟨rfl, rfl⟩))
theorem fX1_surest_20 {X : tp_X} {az : Array Value} (hG : tp_Good X az) (hSt : tp_Stat X) : tp_Fit X yX1_surest cX1_surest (some .int) 6 tp_nm tp_by tp_ml tp_rtt 20 [o_ald (.aload_n 0) 0, o_cv (.invokevirtual 287) 1 kX1_ship_2 0 0, o_ast (.astore_n 3) 3, o_ald (.aload_n 3) 3, o_int (.iconst 3) 3, o_lda .iaload [0, 20], o_ifeq 33 61, o_ild (.iload_n 2) 2, o_int (.iconst 1) 1, o_icmpne 7 40, o_int (.iconst (-1)) (-1), o_goto 23 60] :=
  fG mo_ald (sim_ald_n dX1_surest_20 rfl) <|
  fC (ic_cv (Or.inl rfl)) (sim_cv hG dX1_surest_21 (hG.2.1 1 _ hc_1).2.1 M_X1_ship_2 (by rw [nm_X1_ship_2]; rfl) (by rw [nm_X1_ship_2]; exact q1044) (by rw [nm_X1_ship_2]; exact q1046) (by rw [nm_X1_ship_2]; exact qs30)) <|
  fG mo_ast (sim_ast_n dX1_surest_24 rfl) <|
  fG mo_ald (sim_ald_n dX1_surest_25 rfl) <|
  fG mo_int (sim_iconst dX1_surest_26 (by decide)) <|
  fG mo_lda (sim_iald dX1_surest_27) <|
  fG mo_ifeq (sim_ifeq dX1_surest_28 rfl) <|
  fG mo_ild (sim_ild_n dX1_surest_31 rfl) <|
  fG mo_int (sim_iconst dX1_surest_32 (by decide)) <|
  fG mo_icmpne (sim_icmpne dX1_surest_33 rfl) <|
  fG mo_int (sim_iconst dX1_surest_36 (by decide)) <|
  fG mo_goto (sim_goto dX1_surest_37 rfl) <|
  trivial
theorem fX1_surest_40 {X : tp_X} {az : Array Value} (hG : tp_Good X az) (hSt : tp_Stat X) : tp_Fit X yX1_surest cX1_surest (some .int) 6 tp_nm tp_by tp_ml tp_rtt 40 [o_ild (.iload_n 2) 2, o_ifne 18 59, o_ald (.aload_n 3) 3, o_int (.iconst 3) 3, o_lda .iaload [0, 20], o_int (.iconst 1) 1, o_icmpne 11 59, o_gs (.getstatic 325) 6, o_ild (.iload_n 1) 1, o_lda .iaload [0, 20], o_goto 4 60] :=
  fG mo_ild (sim_ild_n dX1_surest_40 rfl) <|
  fG mo_ifne (sim_ifne dX1_surest_41 rfl) <|
  fG mo_ald (sim_ald_n dX1_surest_44 rfl) <|
  fG mo_int (sim_iconst dX1_surest_45 (by decide)) <|
  fG mo_lda (sim_iald dX1_surest_46) <|
  fG mo_int (sim_iconst dX1_surest_47 (by decide)) <|
  fG mo_icmpne (sim_icmpne dX1_surest_48 rfl) <|
  fG mo_gs (sim_gs hG dX1_surest_51 hSt.2.2.2.2.2.2.1 q1149 rfl) <|
  fG mo_ild (sim_ild_n dX1_surest_54 rfl) <|
  fG mo_lda (sim_iald dX1_surest_55) <|
  fG mo_goto (sim_goto dX1_surest_56 rfl) <|
  trivial
theorem fX1_surest_59 {X : tp_X} {az : Array Value} (hG : tp_Good X az) (hSt : tp_Stat X) : tp_Fit X yX1_surest cX1_surest (some .int) 6 tp_nm tp_by tp_ml tp_rtt 59 [o_int (.iconst 0) 0, o_fall 60] :=
  fG mo_int (sim_iconst dX1_surest_59 (by decide)) <|
  fF
theorem fX1_surest_60 {X : tp_X} {az : Array Value} (hG : tp_Good X az) (hSt : tp_Stat X) : tp_Fit X yX1_surest cX1_surest (some .int) 6 tp_nm tp_by tp_ml tp_rtt 60 [o_iret 0] :=
  fE ie_iret (sim_iret dX1_surest_60 rfl (Or.inl ⟨rfl, rfl⟩))
theorem fX1_surest_61 {X : tp_X} {az : Array Value} (hG : tp_Good X az) (hSt : tp_Stat X) : tp_Fit X yX1_surest cX1_surest (some .int) 6 tp_nm tp_by tp_ml tp_rtt 61 [o_ald (.aload_n 0) 0, o_int (.iconst 0) 0, o_ild (.iload_n 1) 1, o_ald (.aload_n 0) 0, o_getf (.getfield 12) 1 0, o_getf (.getfield 102) 2 1, o_ald (.aload_n 0) 0, o_getf (.getfield 12) 1 0, o_getf (.getfield 112) 2 0, o_int (.iconst 1) 1, o_lda .iaload [0, 20], o_ald (.aload_n 3) 3, o_int (.iconst 0) 0, o_lda .iaload [0, 20], o_ald (.aload_n 3) 3, o_int (.iconst 1) 1, o_lda .iaload [0, 20], o_ald (.aload_n 3) 3, o_int (.iconst 2) 2, o_lda .iaload [0, 20], o_cv (.invokevirtual 328) 1 kX1_surest_2 7 0, o_ist (.istore 4) 4, o_ild (.iload_n 2) 2, o_ifne 6 101, o_ild (.iload 4) 4, o_iret 0] :=
  fG mo_ald (sim_ald_n dX1_surest_61 rfl) <|
  fG mo_int (sim_iconst dX1_surest_62 (by decide)) <|
  fG mo_ild (sim_ild_n dX1_surest_63 rfl) <|
  fG mo_ald (sim_ald_n dX1_surest_64 rfl) <|
  fG mo_getf (sim_getfG hG dX1_surest_65 hc_1 (by decide) rfl in_X1 (fun _ _ _ h => h) (Or.inl q256)) <|
  fG mo_getf (sim_getfG hG dX1_surest_68 hc_2 (by decide) rfl in_X2 (fun _ _ _ h => h) (Or.inr ⟨_, q181⟩)) <|
  fG mo_ald (sim_ald_n dX1_surest_71 rfl) <|
  fG mo_getf (sim_getfG hG dX1_surest_72 hc_1 (by decide) rfl in_X1 (fun _ _ _ h => h) (Or.inl q256)) <|
  fG mo_getf (sim_getfG hG dX1_surest_75 hc_2 (by decide) rfl in_X2 (fun _ _ _ h => h) (Or.inr ⟨_, q179⟩)) <|
  fG mo_int (sim_iconst dX1_surest_78 (by decide)) <|
  fG mo_lda (sim_iald dX1_surest_79) <|
  fG mo_ald (sim_ald_n dX1_surest_80 rfl) <|
  fG mo_int (sim_iconst dX1_surest_81 (by decide)) <|
  fG mo_lda (sim_iald dX1_surest_82) <|
  fG mo_ald (sim_ald_n dX1_surest_83 rfl) <|
  fG mo_int (sim_iconst dX1_surest_84 (by decide)) <|
  fG mo_lda (sim_iald dX1_surest_85) <|
  fG mo_ald (sim_ald_n dX1_surest_86 rfl) <|
  fG mo_int (sim_iconst dX1_surest_87 (by decide)) <|
  fG mo_lda (sim_iald dX1_surest_88) <|
  fC (ic_cv (Or.inl rfl)) (sim_cv hG dX1_surest_89 (hG.2.1 1 _ hc_1).2.1 M_X1_surest_2 (by rw [nm_X1_surest_2]; rfl) (by rw [nm_X1_surest_2]; exact q1151) (by rw [nm_X1_surest_2]; exact q1153) (by rw [nm_X1_surest_2]; exact qs44)) <|
  fG mo_ist (sim_ist dX1_surest_92) <|
  fG mo_ild (sim_ild_n dX1_surest_94 rfl) <|
  fG mo_ifne (sim_ifne dX1_surest_95 rfl) <|
  fG mo_ild (sim_ild dX1_surest_98) <|
  fE ie_iret (sim_iret dX1_surest_100 rfl (Or.inl ⟨rfl, rfl⟩))
theorem fX1_surest_101 {X : tp_X} {az : Array Value} (hG : tp_Good X az) (hSt : tp_Stat X) : tp_Fit X yX1_surest cX1_surest (some .int) 6 tp_nm tp_by tp_ml tp_rtt 101 [o_ild (.iload_n 2) 2, o_int (.iconst 2) 2, o_icmpne 12 115, o_ald (.aload_n 0) 0, o_ild (.iload_n 1) 1, o_cv (.invokevirtual 334) 1 kX1_known 1 0, o_ild (.iload 4) 4, o_isub, o_iret 0] :=
  fG mo_ild (sim_ild_n dX1_surest_101 rfl) <|
  fG mo_int (sim_iconst dX1_surest_102 (by decide)) <|
  fG mo_icmpne (sim_icmpne dX1_surest_103 rfl) <|
  fG mo_ald (sim_ald_n dX1_surest_106 rfl) <|
  fG mo_ild (sim_ild_n dX1_surest_107 rfl) <|
  fC (ic_cv (Or.inl rfl)) (sim_cv hG dX1_surest_108 (hG.2.1 1 _ hc_1).2.1 M_X1_known (by rw [nm_X1_known]; rfl) (by rw [nm_X1_known]; exact q1159) (by rw [nm_X1_known]; exact q1161) (by rw [nm_X1_known]; exact qs46)) <|
  fG mo_ild (sim_ild dX1_surest_111) <|
  fG mo_isub (sim_isub dX1_surest_113) <|
  fE ie_iret (sim_iret dX1_surest_114 rfl (Or.inl ⟨rfl, rfl⟩))
theorem fX1_surest_115 {X : tp_X} {az : Array Value} (hG : tp_Good X az) (hSt : tp_Stat X) : tp_Fit X yX1_surest cX1_surest (some .int) 6 tp_nm tp_by tp_ml tp_rtt 115 [o_int (.iconst 0) 0, o_ist (.istore 5) 5, o_fall 118] :=
  fG mo_int (sim_iconst dX1_surest_115 (by decide)) <|
  fG mo_ist (sim_ist dX1_surest_116) <|
  fF
theorem fX1_surest_118 {X : tp_X} {az : Array Value} (hG : tp_Good X az) (hSt : tp_Stat X) : tp_Fit X yX1_surest cX1_surest (some .int) 6 tp_nm tp_by tp_ml tp_rtt 118 [o_ald (.aload_n 0) 0, o_int (.iconst 0) 0, o_ild (.iload_n 1) 1, o_ald (.aload_n 0) 0, o_getf (.getfield 12) 1 0, o_getf (.getfield 102) 2 1, o_ald (.aload_n 0) 0, o_getf (.getfield 12) 1 0, o_getf (.getfield 112) 2 0, o_int (.iconst 1) 1, o_lda .iaload [0, 20], o_ald (.aload_n 3) 3, o_int (.iconst 0) 0, o_lda .iaload [0, 20], o_ald (.aload_n 3) 3, o_int (.iconst 1) 1, o_lda .iaload [0, 20], o_ald (.aload_n 3) 3, o_int (.iconst 2) 2, o_lda .iaload [0, 20], o_ild (.iload 5) 5, o_cv (.invokevirtual 321) 1 kX1_surestBy 8 0, o_ild (.iload 4) 4, o_icmpeq 9 162, o_inc 5 1, o_goto (-41) 118] :=
  fG mo_ald (sim_ald_n dX1_surest_118 rfl) <|
  fG mo_int (sim_iconst dX1_surest_119 (by decide)) <|
  fG mo_ild (sim_ild_n dX1_surest_120 rfl) <|
  fG mo_ald (sim_ald_n dX1_surest_121 rfl) <|
  fG mo_getf (sim_getfG hG dX1_surest_122 hc_1 (by decide) rfl in_X1 (fun _ _ _ h => h) (Or.inl q256)) <|
  fG mo_getf (sim_getfG hG dX1_surest_125 hc_2 (by decide) rfl in_X2 (fun _ _ _ h => h) (Or.inr ⟨_, q181⟩)) <|
  fG mo_ald (sim_ald_n dX1_surest_128 rfl) <|
  fG mo_getf (sim_getfG hG dX1_surest_129 hc_1 (by decide) rfl in_X1 (fun _ _ _ h => h) (Or.inl q256)) <|
  fG mo_getf (sim_getfG hG dX1_surest_132 hc_2 (by decide) rfl in_X2 (fun _ _ _ h => h) (Or.inr ⟨_, q179⟩)) <|
  fG mo_int (sim_iconst dX1_surest_135 (by decide)) <|
  fG mo_lda (sim_iald dX1_surest_136) <|
  fG mo_ald (sim_ald_n dX1_surest_137 rfl) <|
  fG mo_int (sim_iconst dX1_surest_138 (by decide)) <|
  fG mo_lda (sim_iald dX1_surest_139) <|
  fG mo_ald (sim_ald_n dX1_surest_140 rfl) <|
  fG mo_int (sim_iconst dX1_surest_141 (by decide)) <|
  fG mo_lda (sim_iald dX1_surest_142) <|
  fG mo_ald (sim_ald_n dX1_surest_143 rfl) <|
  fG mo_int (sim_iconst dX1_surest_144 (by decide)) <|
  fG mo_lda (sim_iald dX1_surest_145) <|
  fG mo_ild (sim_ild dX1_surest_146) <|
  fC (ic_cv (Or.inl rfl)) (sim_cv hG dX1_surest_148 (hG.2.1 1 _ hc_1).2.1 M_X1_surestBy (by rw [nm_X1_surestBy]; rfl) (by rw [nm_X1_surestBy]; exact q1155) (by rw [nm_X1_surestBy]; exact q1157) (by rw [nm_X1_surestBy]; exact qs45)) <|
  fG mo_ild (sim_ild dX1_surest_151) <|
  fG mo_icmpeq (sim_icmpeq dX1_surest_153 rfl) <|
  fG mo_inc (sim_inc dX1_surest_156 (by decide)) <|
  fG mo_goto (sim_goto dX1_surest_159 rfl) <|
  trivial
theorem fX1_surest_162 {X : tp_X} {az : Array Value} (hG : tp_Good X az) (hSt : tp_Stat X) : tp_Fit X yX1_surest cX1_surest (some .int) 6 tp_nm tp_by tp_ml tp_rtt 162 [o_ild (.iload 5) 5, o_iret 0] :=
  fG mo_ild (sim_ild dX1_surest_162) <|
  fE ie_iret (sim_iret dX1_surest_164 rfl (Or.inl ⟨rfl, rfl⟩))
theorem F_X1_surest {X : tp_X} {az : Array Value} (hG : tp_Good X az) (hSt : tp_Stat X) (pc : Nat) : tp_Fit X yX1_surest cX1_surest (some .int) 6 tp_nm tp_by tp_ml tp_rtt pc (mX1_surest pc) :=
  fI (fX1_surest_0 hG hSt) <| fI (fX1_surest_18 hG hSt) <| fI (fX1_surest_20 hG hSt) <| fI (fX1_surest_40 hG hSt) <| fI (fX1_surest_59 hG hSt) <| fI (fX1_surest_60 hG hSt) <| fI (fX1_surest_61 hG hSt) <| fI (fX1_surest_101 hG hSt) <| fI (fX1_surest_115 hG hSt) <| fI (fX1_surest_118 hG hSt) <| fI (fX1_surest_162 hG hSt) <| trivial
theorem fX1_surest_2_0 {X : tp_X} {az : Array Value} (hG : tp_Good X az) (hSt : tp_Stat X) : tp_Fit X yX1_surest_2 cX1_surest_2 (some .int) 10 tp_nm tp_by tp_ml tp_rtt 0 [o_ild (.iload_n 1) 1, o_ild (.iload_n 2) 2, o_icmpne 5 7, o_int (.iconst 0) 0, o_iret 0] :=
  fG mo_ild (sim_ild_n dX1_surest_2_0 rfl) <|
  fG mo_ild (sim_ild_n dX1_surest_2_1 rfl) <|
  fG mo_icmpne (sim_icmpne dX1_surest_2_2 rfl) <|
  fG mo_int (sim_iconst dX1_surest_2_5 (by decide)) <|
  fE ie_iret (sim_iret dX1_surest_2_6 rfl (Or.inl ⟨rfl, rfl⟩))
theorem fX1_surest_2_7 {X : tp_X} {az : Array Value} (hG : tp_Good X az) (hSt : tp_Stat X) : tp_Fit X yX1_surest_2 cX1_surest_2 (some .int) 10 tp_nm tp_by tp_ml tp_rtt 7 [o_int (.iconst 0) 0, o_ist (.istore 8) 8, o_int (.iconst 0) 0, o_ist (.istore 9) 9, o_fall 13] :=
  fG mo_int (sim_iconst dX1_surest_2_7 (by decide)) <|
  fG mo_ist (sim_ist dX1_surest_2_8) <|
  fG mo_int (sim_iconst dX1_surest_2_10 (by decide)) <|
  fG mo_ist (sim_ist dX1_surest_2_11) <|
  fF
theorem fX1_surest_2_13 {X : tp_X} {az : Array Value} (hG : tp_Good X az) (hSt : tp_Stat X) : tp_Fit X yX1_surest_2 cX1_surest_2 (some .int) 10 tp_nm tp_by tp_ml tp_rtt 13 [o_ild (.iload 9) 9, o_int (.iconst 4) 4, o_icmpge 52 68, o_ald (.aload_n 0) 0, o_getf (.getfield 12) 1 0, o_getf (.getfield 121) 2 9, o_ild (.iload 4) 4, o_lda .aaload [4, 5, 6, 7, 28, 29], o_ild (.iload 9) 9, o_lda .iaload [0, 20], o_ifle 30 62, o_ald (.aload_n 0) 0, o_ald (.aload_n 3) 3, o_ald (.aload_n 0) 0, o_getf (.getfield 54) 1 17, o_ild (.iload_n 1) 1, o_lda .aaload [4, 5, 6, 7, 28, 29], o_ild (.iload 9) 9, o_lda .aaload [4, 5, 6, 7, 28, 29], o_ild (.iload 9) 9, o_ald (.aload_n 0) 0, o_getf (.getfield 12) 1 0, o_getf (.getfield 112) 2 0, o_int (.iconst 0) 0, o_lda .iaload [0, 20], o_ild (.iload_n 1) 1, o_iadd, o_cv (.invokevirtual 242) 1 kX1_goes 4 0, o_fall 62] :=
  fG mo_ild (sim_ild dX1_surest_2_13) <|
  fG mo_int (sim_iconst dX1_surest_2_15 (by decide)) <|
  fG mo_icmpge (sim_icmpge dX1_surest_2_16 rfl) <|
  fG mo_ald (sim_ald_n dX1_surest_2_19 rfl) <|
  fG mo_getf (sim_getfG hG dX1_surest_2_20 hc_1 (by decide) rfl in_X1 (fun _ _ _ h => h) (Or.inl q256)) <|
  fG mo_getf (sim_getfG hG dX1_surest_2_23 hc_2 (by decide) rfl in_X2 (fun _ _ _ h => h) (Or.inr ⟨_, q197⟩)) <|
  fG mo_ild (sim_ild dX1_surest_2_26) <|
  fG mo_lda (sim_aald dX1_surest_2_28) <|
  fG mo_ild (sim_ild dX1_surest_2_29) <|
  fG mo_lda (sim_iald dX1_surest_2_31) <|
  fG mo_ifle (sim_ifle dX1_surest_2_32 rfl) <|
  fG mo_ald (sim_ald_n dX1_surest_2_35 rfl) <|
  fG mo_ald (sim_ald_n dX1_surest_2_36 rfl) <|
  fG mo_ald (sim_ald_n dX1_surest_2_37 rfl) <|
  fG mo_getf (sim_getfG hG dX1_surest_2_38 hc_1 (by decide) rfl in_X1 (fun _ _ _ h => h) (Or.inl q273)) <|
  fG mo_ild (sim_ild_n dX1_surest_2_41 rfl) <|
  fG mo_lda (sim_aald dX1_surest_2_42) <|
  fG mo_ild (sim_ild dX1_surest_2_43) <|
  fG mo_lda (sim_aald dX1_surest_2_45) <|
  fG mo_ild (sim_ild dX1_surest_2_46) <|
  fG mo_ald (sim_ald_n dX1_surest_2_48 rfl) <|
  fG mo_getf (sim_getfG hG dX1_surest_2_49 hc_1 (by decide) rfl in_X1 (fun _ _ _ h => h) (Or.inl q256)) <|
  fG mo_getf (sim_getfG hG dX1_surest_2_52 hc_2 (by decide) rfl in_X2 (fun _ _ _ h => h) (Or.inr ⟨_, q179⟩)) <|
  fG mo_int (sim_iconst dX1_surest_2_55 (by decide)) <|
  fG mo_lda (sim_iald dX1_surest_2_56) <|
  fG mo_ild (sim_ild_n dX1_surest_2_57 rfl) <|
  fG mo_iadd (sim_iadd dX1_surest_2_58) <|
  fC (ic_cv (Or.inl rfl)) (sim_cv hG dX1_surest_2_59 (hG.2.1 1 _ hc_1).2.1 M_X1_goes (by rw [nm_X1_goes]; rfl) (by rw [nm_X1_goes]; exact q1024) (by rw [nm_X1_goes]; exact q1026) (by rw [nm_X1_goes]; exact qs27)) <|
  fF
theorem fX1_surest_2_62 {X : tp_X} {az : Array Value} (hG : tp_Good X az) (hSt : tp_Stat X) : tp_Fit X yX1_surest_2 cX1_surest_2 (some .int) 10 tp_nm tp_by tp_ml tp_rtt 62 [o_inc 9 1, o_goto (-52) 13] :=
  fG mo_inc (sim_inc dX1_surest_2_62 (by decide)) <|
  fG mo_goto (sim_goto dX1_surest_2_65 rfl) <|
  trivial
theorem fX1_surest_2_68 {X : tp_X} {az : Array Value} (hG : tp_Good X az) (hSt : tp_Stat X) : tp_Fit X yX1_surest_2 cX1_surest_2 (some .int) 10 tp_nm tp_by tp_ml tp_rtt 68 [o_int (.iconst 0) 0, o_ist (.istore 9) 9, o_fall 71] :=
  fG mo_int (sim_iconst dX1_surest_2_68 (by decide)) <|
  fG mo_ist (sim_ist dX1_surest_2_69) <|
  fF
theorem fX1_surest_2_71 {X : tp_X} {az : Array Value} (hG : tp_Good X az) (hSt : tp_Stat X) : tp_Fit X yX1_surest_2 cX1_surest_2 (some .int) 10 tp_nm tp_by tp_ml tp_rtt 71 [o_ild (.iload 9) 9, o_int (.bipush 7) 7, o_icmpgt 33 108, o_ild (.iload 8) 8, o_ald (.aload_n 0) 0, o_ild (.iload_n 1) 1, o_ild (.iload_n 2) 2, o_ald (.aload_n 3) 3, o_ild (.iload 4) 4, o_ild (.iload 5) 5, o_ild (.iload 6) 6, o_ild (.iload 7) 7, o_ild (.iload 9) 9, o_cv (.invokevirtual 321) 1 kX1_surestBy 8 0, o_mmax (.invokestatic 78), o_ist (.istore 8) 8, o_inc 9 1, o_goto (-34) 71] :=
  fG mo_ild (sim_ild dX1_surest_2_71) <|
  fG mo_int (sim_bipush dX1_surest_2_73 (by decide)) <|
  fG mo_icmpgt (sim_icmpgt dX1_surest_2_75 rfl) <|
  fG mo_ild (sim_ild dX1_surest_2_78) <|
  fG mo_ald (sim_ald_n dX1_surest_2_80 rfl) <|
  fG mo_ild (sim_ild_n dX1_surest_2_81 rfl) <|
  fG mo_ild (sim_ild_n dX1_surest_2_82 rfl) <|
  fG mo_ald (sim_ald_n dX1_surest_2_83 rfl) <|
  fG mo_ild (sim_ild dX1_surest_2_84) <|
  fG mo_ild (sim_ild dX1_surest_2_86) <|
  fG mo_ild (sim_ild dX1_surest_2_88) <|
  fG mo_ild (sim_ild dX1_surest_2_90) <|
  fG mo_ild (sim_ild dX1_surest_2_92) <|
  fC (ic_cv (Or.inl rfl)) (sim_cv hG dX1_surest_2_94 (hG.2.1 1 _ hc_1).2.1 M_X1_surestBy (by rw [nm_X1_surestBy]; rfl) (by rw [nm_X1_surestBy]; exact q1155) (by rw [nm_X1_surestBy]; exact q1157) (by rw [nm_X1_surestBy]; exact qs45)) <|
  fG mo_mmax (sim_mmax hG dX1_surest_2_97 q240 q241 q128 q242) <|
  fG mo_ist (sim_ist dX1_surest_2_100) <|
  fG mo_inc (sim_inc dX1_surest_2_102 (by decide)) <|
  fG mo_goto (sim_goto dX1_surest_2_105 rfl) <|
  trivial
theorem fX1_surest_2_108 {X : tp_X} {az : Array Value} (hG : tp_Good X az) (hSt : tp_Stat X) : tp_Fit X yX1_surest_2 cX1_surest_2 (some .int) 10 tp_nm tp_by tp_ml tp_rtt 108 [o_ild (.iload 8) 8, o_iret 0] :=
  fG mo_ild (sim_ild dX1_surest_2_108) <|
  fE ie_iret (sim_iret dX1_surest_2_110 rfl (Or.inl ⟨rfl, rfl⟩))
theorem F_X1_surest_2 {X : tp_X} {az : Array Value} (hG : tp_Good X az) (hSt : tp_Stat X) (pc : Nat) : tp_Fit X yX1_surest_2 cX1_surest_2 (some .int) 10 tp_nm tp_by tp_ml tp_rtt pc (mX1_surest_2 pc) :=
  fI (fX1_surest_2_0 hG hSt) <| fI (fX1_surest_2_7 hG hSt) <| fI (fX1_surest_2_13 hG hSt) <| fI (fX1_surest_2_62 hG hSt) <| fI (fX1_surest_2_68 hG hSt) <| fI (fX1_surest_2_71 hG hSt) <| fI (fX1_surest_2_108 hG hSt) <| trivial
theorem fX1_surestBy_0 {X : tp_X} {az : Array Value} (hG : tp_Good X az) (hSt : tp_Stat X) : tp_Fit X yX1_surestBy cX1_surestBy (some .int) 14 tp_nm tp_by tp_ml tp_rtt 0 [o_ald (.aload_n 0) 0, o_ild (.iload 8) 8, o_ild (.iload 5) 5, o_ild (.iload 6) 6, o_ild (.iload 7) 7, o_ald (.aload_n 3) 3, o_ild (.iload 4) 4, o_ald (.aload_n 0) 0, o_getf (.getfield 12) 1 0, o_getf (.getfield 112) 2 0, o_int (.iconst 0) 0, o_lda .iaload [0, 20], o_ild (.iload_n 1) 1, o_iadd, o_cv (.invokevirtual 232) 1 kX1_costOf 7 0, o_ist (.istore 9) 9, o_ild (.iload 9) 9, o_int (.iconst (-1)) (-1), o_icmpne 5 36, o_int (.iconst (-1)) (-1), o_iret 0] :=
  fG mo_ald (sim_ald_n dX1_surestBy_0 rfl) <|
  fG mo_ild (sim_ild dX1_surestBy_1) <|
  fG mo_ild (sim_ild dX1_surestBy_3) <|
  fG mo_ild (sim_ild dX1_surestBy_5) <|
  fG mo_ild (sim_ild dX1_surestBy_7) <|
  fG mo_ald (sim_ald_n dX1_surestBy_9 rfl) <|
  fG mo_ild (sim_ild dX1_surestBy_10) <|
  fG mo_ald (sim_ald_n dX1_surestBy_12 rfl) <|
  fG mo_getf (sim_getfG hG dX1_surestBy_13 hc_1 (by decide) rfl in_X1 (fun _ _ _ h => h) (Or.inl q256)) <|
  fG mo_getf (sim_getfG hG dX1_surestBy_16 hc_2 (by decide) rfl in_X2 (fun _ _ _ h => h) (Or.inr ⟨_, q179⟩)) <|
  fG mo_int (sim_iconst dX1_surestBy_19 (by decide)) <|
  fG mo_lda (sim_iald dX1_surestBy_20) <|
  fG mo_ild (sim_ild_n dX1_surestBy_21 rfl) <|
  fG mo_iadd (sim_iadd dX1_surestBy_22) <|
  fC (ic_cv (Or.inl rfl)) (sim_cv hG dX1_surestBy_23 (hG.2.1 1 _ hc_1).2.1 M_X1_costOf (by rw [nm_X1_costOf]; rfl) (by rw [nm_X1_costOf]; exact q896) (by rw [nm_X1_costOf]; exact q898) (by rw [nm_X1_costOf]; exact qs20)) <|
  fG mo_ist (sim_ist dX1_surestBy_26) <|
  fG mo_ild (sim_ild dX1_surestBy_28) <|
  fG mo_int (sim_iconst dX1_surestBy_30 (by decide)) <|
  fG mo_icmpne (sim_icmpne dX1_surestBy_31 rfl) <|
  fG mo_int (sim_iconst dX1_surestBy_34 (by decide)) <|
  fE ie_iret (sim_iret dX1_surestBy_35 rfl (Or.inl ⟨rfl, rfl⟩))
theorem fX1_surestBy_36 {X : tp_X} {az : Array Value} (hG : tp_Good X az) (hSt : tp_Stat X) : tp_Fit X yX1_surestBy cX1_surestBy (some .int) 14 tp_nm tp_by tp_ml tp_rtt 36 [o_ild (.iload 8) 8, o_int (.iconst 4) 4, o_icmpge 22 61, o_ald (.aload_n 0) 0, o_ild (.iload 5) 5, o_ild (.iload 8) 8, o_cs (.invokestatic 169) kX1_dx 1 0, o_ild (.iload 8) 8, o_cs (.invokestatic 173) kX1_dy 1 0, o_cv (.invokevirtual 165) 1 kX1_beside 3 0, o_goto 5 63] :=
  fG mo_ild (sim_ild dX1_surestBy_36) <|
  fG mo_int (sim_iconst dX1_surestBy_38 (by decide)) <|
  fG mo_icmpge (sim_icmpge dX1_surestBy_39 rfl) <|
  fG mo_ald (sim_ald_n dX1_surestBy_42 rfl) <|
  fG mo_ild (sim_ild dX1_surestBy_43) <|
  fG mo_ild (sim_ild dX1_surestBy_45) <|
  fC (ic_cs (Or.inl rfl)) (sim_cs hG dX1_surestBy_47 M_X1_dx (by rw [nm_X1_dx]; rfl) (by rw [nm_X1_dx]; exact q900) (by rw [nm_X1_dx]; exact q901)) <|
  fG mo_ild (sim_ild dX1_surestBy_50) <|
  fC (ic_cs (Or.inl rfl)) (sim_cs hG dX1_surestBy_52 M_X1_dy (by rw [nm_X1_dy]; rfl) (by rw [nm_X1_dy]; exact q903) (by rw [nm_X1_dy]; exact q904)) <|
  fC (ic_cv (Or.inl rfl)) (sim_cv hG dX1_surestBy_55 (hG.2.1 1 _ hc_1).2.1 M_X1_beside (by rw [nm_X1_beside]; rfl) (by rw [nm_X1_beside]; exact q906) (by rw [nm_X1_beside]; exact q908) (by rw [nm_X1_beside]; exact qs21)) <|
  fG mo_goto (sim_goto dX1_surestBy_58 rfl) <|
  trivial
theorem fX1_surestBy_61 {X : tp_X} {az : Array Value} (hG : tp_Good X az) (hSt : tp_Stat X) : tp_Fit X yX1_surestBy cX1_surestBy (some .int) 14 tp_nm tp_by tp_ml tp_rtt 61 [o_ild (.iload 5) 5, o_fall 63] :=
  fG mo_ild (sim_ild dX1_surestBy_61) <|
  fF
theorem fX1_surestBy_63 {X : tp_X} {az : Array Value} (hG : tp_Good X az) (hSt : tp_Stat X) : tp_Fit X yX1_surestBy cX1_surestBy (some .int) 14 tp_nm tp_by tp_ml tp_rtt 63 [o_ist (.istore 10) 10, o_ild (.iload 8) 8, o_int (.iconst 4) 4, o_icmpge 24 92, o_ald (.aload_n 0) 0, o_getf (.getfield 12) 1 0, o_getf (.getfield 109) 2 6, o_ild (.iload 10) 10, o_lda .baload [1, 2, 22], o_ifeq 11 92, o_gs (.getstatic 325) 6, o_ild (.iload_n 2) 2, o_ild (.iload_n 1) 1, o_isub, o_lda .iaload [0, 20], o_iret 0] :=
  fG mo_ist (sim_ist dX1_surestBy_63) <|
  fG mo_ild (sim_ild dX1_surestBy_65) <|
  fG mo_int (sim_iconst dX1_surestBy_67 (by decide)) <|
  fG mo_icmpge (sim_icmpge dX1_surestBy_68 rfl) <|
  fG mo_ald (sim_ald_n dX1_surestBy_71 rfl) <|
  fG mo_getf (sim_getfG hG dX1_surestBy_72 hc_1 (by decide) rfl in_X1 (fun _ _ _ h => h) (Or.inl q256)) <|
  fG mo_getf (sim_getfG hG dX1_surestBy_75 hc_2 (by decide) rfl in_X2 (fun _ _ _ h => h) (Or.inr ⟨_, q191⟩)) <|
  fG mo_ild (sim_ild dX1_surestBy_78) <|
  fG mo_lda (sim_bald dX1_surestBy_80) <|
  fG mo_ifeq (sim_ifeq dX1_surestBy_81 rfl) <|
  fG mo_gs (sim_gs hG dX1_surestBy_84 hSt.2.2.2.2.2.2.1 q1149 rfl) <|
  fG mo_ild (sim_ild_n dX1_surestBy_87 rfl) <|
  fG mo_ild (sim_ild_n dX1_surestBy_88 rfl) <|
  fG mo_isub (sim_isub dX1_surestBy_89) <|
  fG mo_lda (sim_iald dX1_surestBy_90) <|
  fE ie_iret (sim_iret dX1_surestBy_91 rfl (Or.inl ⟨rfl, rfl⟩))
theorem fX1_surestBy_92 {X : tp_X} {az : Array Value} (hG : tp_Good X az) (hSt : tp_Stat X) : tp_Fit X yX1_surestBy cX1_surestBy (some .int) 14 tp_nm tp_by tp_ml tp_rtt 92 [o_int (.iconst 0) 0, o_ist (.istore 11) 11, o_int (.iconst 0) 0, o_ist (.istore 12) 12, o_fall 98] :=
  fG mo_int (sim_iconst dX1_surestBy_92 (by decide)) <|
  fG mo_ist (sim_ist dX1_surestBy_93) <|
  fG mo_int (sim_iconst dX1_surestBy_95 (by decide)) <|
  fG mo_ist (sim_ist dX1_surestBy_96) <|
  fF
theorem fX1_surestBy_98 {X : tp_X} {az : Array Value} (hG : tp_Good X az) (hSt : tp_Stat X) : tp_Fit X yX1_surestBy cX1_surestBy (some .int) 14 tp_nm tp_by tp_ml tp_rtt 98 [o_ild (.iload 12) 12, o_int (.iconst 4) 4, o_icmpge 138 239, o_ald (.aload_n 0) 0, o_getf (.getfield 12) 1 0, o_getf (.getfield 121) 2 9, o_ild (.iload 4) 4, o_lda .aaload [4, 5, 6, 7, 28, 29], o_ild (.iload 12) 12, o_lda .iaload [0, 20], o_ifne 6 123, o_goto 113 233] :=
  fG mo_ild (sim_ild dX1_surestBy_98) <|
  fG mo_int (sim_iconst dX1_surestBy_100 (by decide)) <|
  fG mo_icmpge (sim_icmpge dX1_surestBy_101 rfl) <|
  fG mo_ald (sim_ald_n dX1_surestBy_104 rfl) <|
  fG mo_getf (sim_getfG hG dX1_surestBy_105 hc_1 (by decide) rfl in_X1 (fun _ _ _ h => h) (Or.inl q256)) <|
  fG mo_getf (sim_getfG hG dX1_surestBy_108 hc_2 (by decide) rfl in_X2 (fun _ _ _ h => h) (Or.inr ⟨_, q197⟩)) <|
  fG mo_ild (sim_ild dX1_surestBy_111) <|
  fG mo_lda (sim_aald dX1_surestBy_113) <|
  fG mo_ild (sim_ild dX1_surestBy_114) <|
  fG mo_lda (sim_iald dX1_surestBy_116) <|
  fG mo_ifne (sim_ifne dX1_surestBy_117 rfl) <|
  fG mo_goto (sim_goto dX1_surestBy_120 rfl) <|
  trivial
theorem fX1_surestBy_123 {X : tp_X} {az : Array Value} (hG : tp_Good X az) (hSt : tp_Stat X) : tp_Fit X yX1_surestBy cX1_surestBy (some .int) 14 tp_nm tp_by tp_ml tp_rtt 123 [o_ild (.iload 8) 8, o_int (.iconst 4) 4, o_icmplt 9 135, o_ild (.iload 8) 8, o_int (.iconst 5) 5, o_icmpne 8 140, o_fall 135] :=
  fG mo_ild (sim_ild dX1_surestBy_123) <|
  fG mo_int (sim_iconst dX1_surestBy_125 (by decide)) <|
  fG mo_icmplt (sim_icmplt dX1_surestBy_126 rfl) <|
  fG mo_ild (sim_ild dX1_surestBy_129) <|
  fG mo_int (sim_iconst dX1_surestBy_131 (by decide)) <|
  fG mo_icmpne (sim_icmpne dX1_surestBy_132 rfl) <|
  fF
theorem fX1_surestBy_135 {X : tp_X} {az : Array Value} (hG : tp_Good X az) (hSt : tp_Stat X) : tp_Fit X yX1_surestBy cX1_surestBy (some .int) 14 tp_nm tp_by tp_ml tp_rtt 135 [o_ild (.iload 10) 10, o_goto 11 148] :=
  fG mo_ild (sim_ild dX1_surestBy_135) <|
  fG mo_goto (sim_goto dX1_surestBy_137 rfl) <|
  trivial
theorem fX1_surestBy_140 {X : tp_X} {az : Array Value} (hG : tp_Good X az) (hSt : tp_Stat X) : tp_Fit X yX1_surestBy cX1_surestBy (some .int) 14 tp_nm tp_by tp_ml tp_rtt 140 [o_ald (.aload_n 0) 0, o_ild (.iload 10) 10, o_ild (.iload 12) 12, o_cv (.invokevirtual 246) 1 kX1_drifts 2 0, o_fall 148] :=
  fG mo_ald (sim_ald_n dX1_surestBy_140 rfl) <|
  fG mo_ild (sim_ild dX1_surestBy_141) <|
  fG mo_ild (sim_ild dX1_surestBy_143) <|
  fC (ic_cv (Or.inl rfl)) (sim_cv hG dX1_surestBy_145 (hG.2.1 1 _ hc_1).2.1 M_X1_drifts (by rw [nm_X1_drifts]; rfl) (by rw [nm_X1_drifts]; exact q1028) (by rw [nm_X1_drifts]; exact q1030) (by rw [nm_X1_drifts]; exact qs28)) <|
  fF
theorem fX1_surestBy_148 {X : tp_X} {az : Array Value} (hG : tp_Good X az) (hSt : tp_Stat X) : tp_Fit X yX1_surestBy cX1_surestBy (some .int) 14 tp_nm tp_by tp_ml tp_rtt 148 [o_ist (.istore 13) 13, o_ald (.aload_n 0) 0, o_ald (.aload_n 0) 0, o_getf (.getfield 54) 1 17, o_ild (.iload_n 1) 1, o_lda .aaload [4, 5, 6, 7, 28, 29], o_ild (.iload 12) 12, o_lda .aaload [4, 5, 6, 7, 28, 29], o_ild (.iload 13) 13, o_ild (.iload 12) 12, o_ald (.aload_n 0) 0, o_getf (.getfield 12) 1 0, o_getf (.getfield 112) 2 0, o_int (.iconst 0) 0, o_lda .iaload [0, 20], o_ild (.iload_n 1) 1, o_iadd, o_cv (.invokevirtual 249) 1 kX1_nips 4 0, o_ifne 55 233, o_ild (.iload 11) 11, o_ald (.aload_n 0) 0, o_getf (.getfield 12) 1 0, o_getf (.getfield 121) 2 9, o_ild (.iload 4) 4, o_lda .aaload [4, 5, 6, 7, 28, 29], o_ild (.iload 12) 12, o_lda .iaload [0, 20], o_ald (.aload_n 0) 0, o_ild (.iload_n 1) 1, o_int (.iconst 1) 1, o_iadd, o_ild (.iload_n 2) 2, o_ald (.aload_n 0) 0, o_getf (.getfield 54) 1 17, o_ild (.iload_n 1) 1, o_lda .aaload [4, 5, 6, 7, 28, 29], o_ild (.iload 12) 12, o_lda .aaload [4, 5, 6, 7, 28, 29], o_ild (.iload 12) 12, o_ild (.iload 13) 13, o_ild (.iload 6) 6, o_ild (.iload 9) 9, o_isub, o_ild (.iload 8) 8, o_ild (.iload 7) 7, o_cs (.invokestatic 280) kX1_fires 2 0, o_cv (.invokevirtual 328) 1 kX1_surest_2 7 0, o_imul, o_iadd, o_ist (.istore 11) 11, o_fall 233] :=
  fG mo_ist (sim_ist dX1_surestBy_148) <|
  fG mo_ald (sim_ald_n dX1_surestBy_150 rfl) <|
  fG mo_ald (sim_ald_n dX1_surestBy_151 rfl) <|
  fG mo_getf (sim_getfG hG dX1_surestBy_152 hc_1 (by decide) rfl in_X1 (fun _ _ _ h => h) (Or.inl q273)) <|
  fG mo_ild (sim_ild_n dX1_surestBy_155 rfl) <|
  fG mo_lda (sim_aald dX1_surestBy_156) <|
  fG mo_ild (sim_ild dX1_surestBy_157) <|
  fG mo_lda (sim_aald dX1_surestBy_159) <|
  fG mo_ild (sim_ild dX1_surestBy_160) <|
  fG mo_ild (sim_ild dX1_surestBy_162) <|
  fG mo_ald (sim_ald_n dX1_surestBy_164 rfl) <|
  fG mo_getf (sim_getfG hG dX1_surestBy_165 hc_1 (by decide) rfl in_X1 (fun _ _ _ h => h) (Or.inl q256)) <|
  fG mo_getf (sim_getfG hG dX1_surestBy_168 hc_2 (by decide) rfl in_X2 (fun _ _ _ h => h) (Or.inr ⟨_, q179⟩)) <|
  fG mo_int (sim_iconst dX1_surestBy_171 (by decide)) <|
  fG mo_lda (sim_iald dX1_surestBy_172) <|
  fG mo_ild (sim_ild_n dX1_surestBy_173 rfl) <|
  fG mo_iadd (sim_iadd dX1_surestBy_174) <|
  fC (ic_cv (Or.inl rfl)) (sim_cv hG dX1_surestBy_175 (hG.2.1 1 _ hc_1).2.1 M_X1_nips (by rw [nm_X1_nips]; rfl) (by rw [nm_X1_nips]; exact q1032) (by rw [nm_X1_nips]; exact q1034) (by rw [nm_X1_nips]; exact qs29)) <|
  fG mo_ifne (sim_ifne dX1_surestBy_178 rfl) <|
  fG mo_ild (sim_ild dX1_surestBy_181) <|
  fG mo_ald (sim_ald_n dX1_surestBy_183 rfl) <|
  fG mo_getf (sim_getfG hG dX1_surestBy_184 hc_1 (by decide) rfl in_X1 (fun _ _ _ h => h) (Or.inl q256)) <|
  fG mo_getf (sim_getfG hG dX1_surestBy_187 hc_2 (by decide) rfl in_X2 (fun _ _ _ h => h) (Or.inr ⟨_, q197⟩)) <|
  fG mo_ild (sim_ild dX1_surestBy_190) <|
  fG mo_lda (sim_aald dX1_surestBy_192) <|
  fG mo_ild (sim_ild dX1_surestBy_193) <|
  fG mo_lda (sim_iald dX1_surestBy_195) <|
  fG mo_ald (sim_ald_n dX1_surestBy_196 rfl) <|
  fG mo_ild (sim_ild_n dX1_surestBy_197 rfl) <|
  fG mo_int (sim_iconst dX1_surestBy_198 (by decide)) <|
  fG mo_iadd (sim_iadd dX1_surestBy_199) <|
  fG mo_ild (sim_ild_n dX1_surestBy_200 rfl) <|
  fG mo_ald (sim_ald_n dX1_surestBy_201 rfl) <|
  fG mo_getf (sim_getfG hG dX1_surestBy_202 hc_1 (by decide) rfl in_X1 (fun _ _ _ h => h) (Or.inl q273)) <|
  fG mo_ild (sim_ild_n dX1_surestBy_205 rfl) <|
  fG mo_lda (sim_aald dX1_surestBy_206) <|
  fG mo_ild (sim_ild dX1_surestBy_207) <|
  fG mo_lda (sim_aald dX1_surestBy_209) <|
  fG mo_ild (sim_ild dX1_surestBy_210) <|
  fG mo_ild (sim_ild dX1_surestBy_212) <|
  fG mo_ild (sim_ild dX1_surestBy_214) <|
  fG mo_ild (sim_ild dX1_surestBy_216) <|
  fG mo_isub (sim_isub dX1_surestBy_218) <|
  fG mo_ild (sim_ild dX1_surestBy_219) <|
  fG mo_ild (sim_ild dX1_surestBy_221) <|
  fC (ic_cs (Or.inl rfl)) (sim_cs hG dX1_surestBy_223 M_X1_fires (by rw [nm_X1_fires]; rfl) (by rw [nm_X1_fires]; exact q1082) (by rw [nm_X1_fires]; exact q1083)) <|
  fC (ic_cv (Or.inl rfl)) (sim_cv hG dX1_surestBy_226 (hG.2.1 1 _ hc_1).2.1 M_X1_surest_2 (by rw [nm_X1_surest_2]; rfl) (by rw [nm_X1_surest_2]; exact q1151) (by rw [nm_X1_surest_2]; exact q1153) (by rw [nm_X1_surest_2]; exact qs44)) <|
  fG mo_imul (sim_imul dX1_surestBy_229) <|
  fG mo_iadd (sim_iadd dX1_surestBy_230) <|
  fG mo_ist (sim_ist dX1_surestBy_231) <|
  fF
theorem fX1_surestBy_233 {X : tp_X} {az : Array Value} (hG : tp_Good X az) (hSt : tp_Stat X) : tp_Fit X yX1_surestBy cX1_surestBy (some .int) 14 tp_nm tp_by tp_ml tp_rtt 233 [o_inc 12 1, o_goto (-138) 98] :=
  fG mo_inc (sim_inc dX1_surestBy_233 (by decide)) <|
  fG mo_goto (sim_goto dX1_surestBy_236 rfl) <|
  trivial
theorem fX1_surestBy_239 {X : tp_X} {az : Array Value} (hG : tp_Good X az) (hSt : tp_Stat X) : tp_Fit X yX1_surestBy cX1_surestBy (some .int) 14 tp_nm tp_by tp_ml tp_rtt 239 [o_ild (.iload 11) 11, o_iret 0] :=
  fG mo_ild (sim_ild dX1_surestBy_239) <|
  fE ie_iret (sim_iret dX1_surestBy_241 rfl (Or.inl ⟨rfl, rfl⟩))
theorem F_X1_surestBy {X : tp_X} {az : Array Value} (hG : tp_Good X az) (hSt : tp_Stat X) (pc : Nat) : tp_Fit X yX1_surestBy cX1_surestBy (some .int) 14 tp_nm tp_by tp_ml tp_rtt pc (mX1_surestBy pc) :=
  fI (fX1_surestBy_0 hG hSt) <| fI (fX1_surestBy_36 hG hSt) <| fI (fX1_surestBy_61 hG hSt) <| fI (fX1_surestBy_63 hG hSt) <| fI (fX1_surestBy_92 hG hSt) <| fI (fX1_surestBy_98 hG hSt) <| fI (fX1_surestBy_123 hG hSt) <| fI (fX1_surestBy_135 hG hSt) <| fI (fX1_surestBy_140 hG hSt) <| fI (fX1_surestBy_148 hG hSt) <| fI (fX1_surestBy_233 hG hSt) <| fI (fX1_surestBy_239 hG hSt) <| trivial
theorem fX1_known_0 {X : tp_X} {az : Array Value} (hG : tp_Good X az) (hSt : tp_Stat X) : tp_Fit X yX1_known cX1_known (some .int) 7 tp_nm tp_by tp_ml tp_rtt 0 [o_int (.iconst 0) 0, o_ist (.istore_n 2) 2, o_ald (.aload_n 0) 0, o_ild (.iload_n 1) 1, o_putf (.putfield 254) 1 11 0, o_int (.iconst 0) 0, o_ist (.istore_n 3) 3, o_fall 9] :=
  fG mo_int (sim_iconst dX1_known_0 (by decide)) <|
  fG mo_ist (sim_ist_n dX1_known_1 rfl) <|
  fG mo_ald (sim_ald_n dX1_known_2 rfl) <|
  fG mo_ild (sim_ild_n dX1_known_3 rfl) <|
  fG mo_putf (sim_putf hG dX1_known_4 hc_1 (by decide) rfl (by decide) in_X1 tyX1_ok nmX1 (Or.inl ⟨rfl, rfl⟩) (fun _ _ _ h => h) rfl q267) <|
  fG mo_int (sim_iconst dX1_known_7 (by decide)) <|
  fG mo_ist (sim_ist_n dX1_known_8 rfl) <|
  fF
theorem fX1_known_9 {X : tp_X} {az : Array Value} (hG : tp_Good X az) (hSt : tp_Stat X) : tp_Fit X yX1_known cX1_known (some .int) 7 tp_nm tp_by tp_ml tp_rtt 9 [o_ild (.iload_n 3) 3, o_int (.iconst 1) 1, o_int (.iconst 2) 2, o_ild (.iload_n 1) 1, o_imul, o_ishl, o_icmpge 152 167, o_int (.iconst 1) 1, o_ist (.istore 4) 4, o_ald (.aload_n 0) 0, o_getf (.getfield 12) 1 0, o_getf (.getfield 112) 2 0, o_int (.iconst 1) 1, o_lda .iaload [0, 20], o_ist (.istore 5) 5, o_int (.iconst 0) 0, o_ist (.istore 6) 6, o_fall 35] :=
  fG mo_ild (sim_ild_n dX1_known_9 rfl) <|
  fG mo_int (sim_iconst dX1_known_10 (by decide)) <|
  fG mo_int (sim_iconst dX1_known_11 (by decide)) <|
  fG mo_ild (sim_ild_n dX1_known_12 rfl) <|
  fG mo_imul (sim_imul dX1_known_13) <|
  fG mo_ishl (sim_ishl dX1_known_14) <|
  fG mo_icmpge (sim_icmpge dX1_known_15 rfl) <|
  fG mo_int (sim_iconst dX1_known_18 (by decide)) <|
  fG mo_ist (sim_ist dX1_known_19) <|
  fG mo_ald (sim_ald_n dX1_known_21 rfl) <|
  fG mo_getf (sim_getfG hG dX1_known_22 hc_1 (by decide) rfl in_X1 (fun _ _ _ h => h) (Or.inl q256)) <|
  fG mo_getf (sim_getfG hG dX1_known_25 hc_2 (by decide) rfl in_X2 (fun _ _ _ h => h) (Or.inr ⟨_, q179⟩)) <|
  fG mo_int (sim_iconst dX1_known_28 (by decide)) <|
  fG mo_lda (sim_iald dX1_known_29) <|
  fG mo_ist (sim_ist dX1_known_30) <|
  fG mo_int (sim_iconst dX1_known_32 (by decide)) <|
  fG mo_ist (sim_ist dX1_known_33) <|
  fF
theorem fX1_known_35 {X : tp_X} {az : Array Value} (hG : tp_Good X az) (hSt : tp_Stat X) : tp_Fit X yX1_known cX1_known (some .int) 7 tp_nm tp_by tp_ml tp_rtt 35 [o_ild (.iload 6) 6, o_ild (.iload_n 1) 1, o_icmpge 56 94, o_ald (.aload_n 0) 0, o_getf (.getfield 37) 1 12, o_ild (.iload 6) 6, o_ild (.iload_n 3) 3, o_int (.iconst 2) 2, o_ild (.iload 6) 6, o_imul, o_ishr, o_int (.iconst 3) 3, o_iand, o_sta .iastore [0], o_ild (.iload 4) 4, o_ald (.aload_n 0) 0, o_getf (.getfield 12) 1 0, o_getf (.getfield 121) 2 9, o_ild (.iload 5) 5, o_lda .aaload [4, 5, 6, 7, 28, 29], o_ald (.aload_n 0) 0, o_getf (.getfield 37) 1 12, o_ild (.iload 6) 6, o_lda .iaload [0, 20], o_lda .iaload [0, 20], o_imul, o_ist (.istore 4) 4, o_ald (.aload_n 0) 0, o_getf (.getfield 37) 1 12, o_ild (.iload 6) 6, o_lda .iaload [0, 20], o_ist (.istore 5) 5, o_inc 6 1, o_goto (-56) 35] :=
  fG mo_ild (sim_ild dX1_known_35) <|
  fG mo_ild (sim_ild_n dX1_known_37 rfl) <|
  fG mo_icmpge (sim_icmpge dX1_known_38 rfl) <|
  fG mo_ald (sim_ald_n dX1_known_41 rfl) <|
  fG mo_getf (sim_getfG hG dX1_known_42 hc_1 (by decide) rfl in_X1 (fun _ _ _ h => h) (Or.inl q268)) <|
  fG mo_ild (sim_ild dX1_known_45) <|
  fG mo_ild (sim_ild_n dX1_known_47 rfl) <|
  fG mo_int (sim_iconst dX1_known_48 (by decide)) <|
  fG mo_ild (sim_ild dX1_known_49) <|
  fG mo_imul (sim_imul dX1_known_51) <|
  fG mo_ishr (sim_ishr dX1_known_52) <|
  fG mo_int (sim_iconst dX1_known_53 (by decide)) <|
  fG mo_iand (sim_iand dX1_known_54) <|
  fG mo_sta (sim_iast dX1_known_55) <|
  fG mo_ild (sim_ild dX1_known_56) <|
  fG mo_ald (sim_ald_n dX1_known_58 rfl) <|
  fG mo_getf (sim_getfG hG dX1_known_59 hc_1 (by decide) rfl in_X1 (fun _ _ _ h => h) (Or.inl q256)) <|
  fG mo_getf (sim_getfG hG dX1_known_62 hc_2 (by decide) rfl in_X2 (fun _ _ _ h => h) (Or.inr ⟨_, q197⟩)) <|
  fG mo_ild (sim_ild dX1_known_65) <|
  fG mo_lda (sim_aald dX1_known_67) <|
  fG mo_ald (sim_ald_n dX1_known_68 rfl) <|
  fG mo_getf (sim_getfG hG dX1_known_69 hc_1 (by decide) rfl in_X1 (fun _ _ _ h => h) (Or.inl q268)) <|
  fG mo_ild (sim_ild dX1_known_72) <|
  fG mo_lda (sim_iald dX1_known_74) <|
  fG mo_lda (sim_iald dX1_known_75) <|
  fG mo_imul (sim_imul dX1_known_76) <|
  fG mo_ist (sim_ist dX1_known_77) <|
  fG mo_ald (sim_ald_n dX1_known_79 rfl) <|
  fG mo_getf (sim_getfG hG dX1_known_80 hc_1 (by decide) rfl in_X1 (fun _ _ _ h => h) (Or.inl q268)) <|
  fG mo_ild (sim_ild dX1_known_83) <|
  fG mo_lda (sim_iald dX1_known_85) <|
  fG mo_ist (sim_ist dX1_known_86) <|
  fG mo_inc (sim_inc dX1_known_88 (by decide)) <|
  fG mo_goto (sim_goto dX1_known_91 rfl) <|
  trivial
theorem fX1_known_94 {X : tp_X} {az : Array Value} (hG : tp_Good X az) (hSt : tp_Stat X) : tp_Fit X yX1_known cX1_known (some .int) 7 tp_nm tp_by tp_ml tp_rtt 94 [o_ild (.iload 4) 4, o_ifne 6 102, o_goto 62 161] :=
  fG mo_ild (sim_ild dX1_known_94) <|
  fG mo_ifne (sim_ifne dX1_known_96 rfl) <|
  fG mo_goto (sim_goto dX1_known_99 rfl) <|
  trivial
theorem fX1_known_102 {X : tp_X} {az : Array Value} (hG : tp_Good X az) (hSt : tp_Stat X) : tp_Fit X yX1_known cX1_known (some .int) 7 tp_nm tp_by tp_ml tp_rtt 102 [o_ald (.aload_n 0) 0, o_cv (.invokevirtual 260) 1 kX1_laysSea 0 0, o_ald (.aload_n 0) 0, o_getf (.getfield 46) 1 14, o_int (.iconst 0) 0, o_ild (.iload_n 1) 1, o_int (.sipush 200) 200, o_imul, o_int (.bipush 36) 36, o_imul, o_int (.iconst (-1)) (-1), o_cs (.invokestatic 332) kJ0_fill_2 4 0, o_ild (.iload_n 2) 2, o_ald (.aload_n 0) 0, o_int (.iconst 0) 0, o_ald (.aload_n 0) 0, o_cv (.invokevirtual 287) 1 kX1_ship_2 0 0, o_int (.iconst 0) 0, o_lda .iaload [0, 20], o_ald (.aload_n 0) 0, o_cv (.invokevirtual 287) 1 kX1_ship_2 0 0, o_int (.iconst 1) 1, o_lda .iaload [0, 20], o_ald (.aload_n 0) 0, o_cv (.invokevirtual 287) 1 kX1_ship_2 0 0, o_int (.iconst 2) 2, o_lda .iaload [0, 20], o_cv (.invokevirtual 283) 1 kX1_soonest_2 4 0, o_int (.ldc_w 266) 1000000, o_icmpne 7 157, o_int (.iconst 0) 0, o_goto 5 159] :=
  fG mo_ald (sim_ald_n dX1_known_102 rfl) <|
  fC (ic_cv (Or.inl rfl)) (sim_cv hG dX1_known_103 (hG.2.1 1 _ hc_1).2.1 M_X1_laysSea (by rw [nm_X1_laysSea]; rfl) (by rw [nm_X1_laysSea]; exact q1052) (by rw [nm_X1_laysSea]; exact q1054) (by rw [nm_X1_laysSea]; exact qs32)) <|
  fG mo_ald (sim_ald_n dX1_known_106 rfl) <|
  fG mo_getf (sim_getfG hG dX1_known_107 hc_1 (by decide) rfl in_X1 (fun _ _ _ h => h) (Or.inl q270)) <|
  fG mo_int (sim_iconst dX1_known_110 (by decide)) <|
  fG mo_ild (sim_ild_n dX1_known_111 rfl) <|
  fG mo_int (sim_sipush dX1_known_112 (by decide)) <|
  fG mo_imul (sim_imul dX1_known_115) <|
  fG mo_int (sim_bipush dX1_known_116 (by decide)) <|
  fG mo_imul (sim_imul dX1_known_118) <|
  fG mo_int (sim_iconst dX1_known_119 (by decide)) <|
  fC (ic_cs (Or.inl rfl)) (sim_cs hG dX1_known_120 M_J0_fill_2 (by rw [nm_J0_fill_2]; rfl) (by rw [nm_J0_fill_2]; exact q1163) (by rw [nm_J0_fill_2]; exact q1164)) <|
  fG mo_ild (sim_ild_n dX1_known_123 rfl) <|
  fG mo_ald (sim_ald_n dX1_known_124 rfl) <|
  fG mo_int (sim_iconst dX1_known_125 (by decide)) <|
  fG mo_ald (sim_ald_n dX1_known_126 rfl) <|
  fC (ic_cv (Or.inl rfl)) (sim_cv hG dX1_known_127 (hG.2.1 1 _ hc_1).2.1 M_X1_ship_2 (by rw [nm_X1_ship_2]; rfl) (by rw [nm_X1_ship_2]; exact q1044) (by rw [nm_X1_ship_2]; exact q1046) (by rw [nm_X1_ship_2]; exact qs30)) <|
  fG mo_int (sim_iconst dX1_known_130 (by decide)) <|
  fG mo_lda (sim_iald dX1_known_131) <|
  fG mo_ald (sim_ald_n dX1_known_132 rfl) <|
  fC (ic_cv (Or.inl rfl)) (sim_cv hG dX1_known_133 (hG.2.1 1 _ hc_1).2.1 M_X1_ship_2 (by rw [nm_X1_ship_2]; rfl) (by rw [nm_X1_ship_2]; exact q1044) (by rw [nm_X1_ship_2]; exact q1046) (by rw [nm_X1_ship_2]; exact qs30)) <|
  fG mo_int (sim_iconst dX1_known_136 (by decide)) <|
  fG mo_lda (sim_iald dX1_known_137) <|
  fG mo_ald (sim_ald_n dX1_known_138 rfl) <|
  fC (ic_cv (Or.inl rfl)) (sim_cv hG dX1_known_139 (hG.2.1 1 _ hc_1).2.1 M_X1_ship_2 (by rw [nm_X1_ship_2]; rfl) (by rw [nm_X1_ship_2]; exact q1044) (by rw [nm_X1_ship_2]; exact q1046) (by rw [nm_X1_ship_2]; exact qs30)) <|
  fG mo_int (sim_iconst dX1_known_142 (by decide)) <|
  fG mo_lda (sim_iald dX1_known_143) <|
  fC (ic_cv (Or.inl rfl)) (sim_cv hG dX1_known_144 (hG.2.1 1 _ hc_1).2.1 M_X1_soonest_2 (by rw [nm_X1_soonest_2]; rfl) (by rw [nm_X1_soonest_2]; exact q1057) (by rw [nm_X1_soonest_2]; exact q1059) (by rw [nm_X1_soonest_2]; exact qs33)) <|
  fG mo_int (sim_ldcw hG dX1_known_147 q1061 rfl) <|
  fG mo_icmpne (sim_icmpne dX1_known_150 rfl) <|
  fG mo_int (sim_iconst dX1_known_153 (by decide)) <|
  fG mo_goto (sim_goto dX1_known_154 rfl) <|
  trivial
theorem fX1_known_157 {X : tp_X} {az : Array Value} (hG : tp_Good X az) (hSt : tp_Stat X) : tp_Fit X yX1_known cX1_known (some .int) 7 tp_nm tp_by tp_ml tp_rtt 157 [o_ild (.iload 4) 4, o_fall 159] :=
  fG mo_ild (sim_ild dX1_known_157) <|
  fF
theorem fX1_known_159 {X : tp_X} {az : Array Value} (hG : tp_Good X az) (hSt : tp_Stat X) : tp_Fit X yX1_known cX1_known (some .int) 7 tp_nm tp_by tp_ml tp_rtt 159 [o_iadd, o_ist (.istore_n 2) 2, o_fall 161] :=
  fG mo_iadd (sim_iadd dX1_known_159) <|
  fG mo_ist (sim_ist_n dX1_known_160 rfl) <|
  fF
theorem fX1_known_161 {X : tp_X} {az : Array Value} (hG : tp_Good X az) (hSt : tp_Stat X) : tp_Fit X yX1_known cX1_known (some .int) 7 tp_nm tp_by tp_ml tp_rtt 161 [o_inc 3 1, o_goto (-155) 9] :=
  fG mo_inc (sim_inc dX1_known_161 (by decide)) <|
  fG mo_goto (sim_goto dX1_known_164 rfl) <|
  trivial
theorem fX1_known_167 {X : tp_X} {az : Array Value} (hG : tp_Good X az) (hSt : tp_Stat X) : tp_Fit X yX1_known cX1_known (some .int) 7 tp_nm tp_by tp_ml tp_rtt 167 [o_ild (.iload_n 2) 2, o_iret 0] :=
  fG mo_ild (sim_ild_n dX1_known_167 rfl) <|
  fE ie_iret (sim_iret dX1_known_168 rfl (Or.inl ⟨rfl, rfl⟩))
theorem F_X1_known {X : tp_X} {az : Array Value} (hG : tp_Good X az) (hSt : tp_Stat X) (pc : Nat) : tp_Fit X yX1_known cX1_known (some .int) 7 tp_nm tp_by tp_ml tp_rtt pc (mX1_known pc) :=
  fI (fX1_known_0 hG hSt) <| fI (fX1_known_9 hG hSt) <| fI (fX1_known_35 hG hSt) <| fI (fX1_known_94 hG hSt) <| fI (fX1_known_102 hG hSt) <| fI (fX1_known_157 hG hSt) <| fI (fX1_known_159 hG hSt) <| fI (fX1_known_161 hG hSt) <| fI (fX1_known_167 hG hSt) <| trivial
theorem fX1_leads_0 {X : tp_X} {az : Array Value} (hG : tp_Good X az) (hSt : tp_Stat X) : tp_Fit X yX1_leads cX1_leads (some .int) 7 tp_nm tp_by tp_ml tp_rtt 0 [o_ild (.iload_n 1) 1, o_int (.iconst (-1)) (-1), o_icmpeq 13 15, o_ald (.aload_n 0) 0, o_ild (.iload_n 1) 1, o_cv (.invokevirtual 98) 1 kX1_isCell 1 0, o_ifne 5 15, o_int (.iconst (-1)) (-1), o_iret 0] :=
  fG mo_ild (sim_ild_n dX1_leads_0 rfl) <|
  fG mo_int (sim_iconst dX1_leads_1 (by decide)) <|
  fG mo_icmpeq (sim_icmpeq dX1_leads_2 rfl) <|
  fG mo_ald (sim_ald_n dX1_leads_5 rfl) <|
  fG mo_ild (sim_ild_n dX1_leads_6 rfl) <|
  fC (ic_cv (Or.inl rfl)) (sim_cv hG dX1_leads_7 (hG.2.1 1 _ hc_1).2.1 M_X1_isCell (by rw [nm_X1_isCell]; rfl) (by rw [nm_X1_isCell]; exact q331) (by rw [nm_X1_isCell]; exact q333) (by rw [nm_X1_isCell]; exact qs0)) <|
  fG mo_ifne (sim_ifne dX1_leads_10 rfl) <|
  fG mo_int (sim_iconst dX1_leads_13 (by decide)) <|
  fE ie_iret (sim_iret dX1_leads_14 rfl (Or.inl ⟨rfl, rfl⟩))
theorem fX1_leads_15 {X : tp_X} {az : Array Value} (hG : tp_Good X az) (hSt : tp_Stat X) : tp_Fit X yX1_leads cX1_leads (some .int) 7 tp_nm tp_by tp_ml tp_rtt 15 [o_ald (.aload_n 0) 0, o_getf (.getfield 57) 1 18, o_int (.iconst (-1)) (-1), o_cs (.invokestatic 293) kJ0_fill 2 0, o_int (.iconst 1) 1, o_ist (.istore_n 2) 2, o_ald (.aload_n 0) 0, o_getf (.getfield 60) 1 19, o_int (.iconst 0) 0, o_ald (.aload_n 0) 0, o_cv (.invokevirtual 287) 1 kX1_ship_2 0 0, o_int (.iconst 0) 0, o_lda .iaload [0, 20], o_sta .iastore [0], o_ald (.aload_n 0) 0, o_getf (.getfield 57) 1 18, o_ald (.aload_n 0) 0, o_getf (.getfield 60) 1 19, o_int (.iconst 0) 0, o_lda .iaload [0, 20], o_int (.iconst 0) 0, o_sta .iastore [0], o_int (.iconst 0) 0, o_ist (.istore_n 3) 3, o_fall 51] :=
  fG mo_ald (sim_ald_n dX1_leads_15 rfl) <|
  fG mo_getf (sim_getfG hG dX1_leads_16 hc_1 (by decide) rfl in_X1 (fun _ _ _ h => h) (Or.inl q274)) <|
  fG mo_int (sim_iconst dX1_leads_19 (by decide)) <|
  fC (ic_cs (Or.inl rfl)) (sim_cs hG dX1_leads_20 M_J0_fill (by rw [nm_J0_fill]; rfl) (by rw [nm_J0_fill]; exact q1056) (by rw [nm_J0_fill]; exact q176)) <|
  fG mo_int (sim_iconst dX1_leads_23 (by decide)) <|
  fG mo_ist (sim_ist_n dX1_leads_24 rfl) <|
  fG mo_ald (sim_ald_n dX1_leads_25 rfl) <|
  fG mo_getf (sim_getfG hG dX1_leads_26 hc_1 (by decide) rfl in_X1 (fun _ _ _ h => h) (Or.inl q275)) <|
  fG mo_int (sim_iconst dX1_leads_29 (by decide)) <|
  fG mo_ald (sim_ald_n dX1_leads_30 rfl) <|
  fC (ic_cv (Or.inl rfl)) (sim_cv hG dX1_leads_31 (hG.2.1 1 _ hc_1).2.1 M_X1_ship_2 (by rw [nm_X1_ship_2]; rfl) (by rw [nm_X1_ship_2]; exact q1044) (by rw [nm_X1_ship_2]; exact q1046) (by rw [nm_X1_ship_2]; exact qs30)) <|
  fG mo_int (sim_iconst dX1_leads_34 (by decide)) <|
  fG mo_lda (sim_iald dX1_leads_35) <|
  fG mo_sta (sim_iast dX1_leads_36) <|
  fG mo_ald (sim_ald_n dX1_leads_37 rfl) <|
  fG mo_getf (sim_getfG hG dX1_leads_38 hc_1 (by decide) rfl in_X1 (fun _ _ _ h => h) (Or.inl q274)) <|
  fG mo_ald (sim_ald_n dX1_leads_41 rfl) <|
  fG mo_getf (sim_getfG hG dX1_leads_42 hc_1 (by decide) rfl in_X1 (fun _ _ _ h => h) (Or.inl q275)) <|
  fG mo_int (sim_iconst dX1_leads_45 (by decide)) <|
  fG mo_lda (sim_iald dX1_leads_46) <|
  fG mo_int (sim_iconst dX1_leads_47 (by decide)) <|
  fG mo_sta (sim_iast dX1_leads_48) <|
  fG mo_int (sim_iconst dX1_leads_49 (by decide)) <|
  fG mo_ist (sim_ist_n dX1_leads_50 rfl) <|
  fF
theorem fX1_leads_51 {X : tp_X} {az : Array Value} (hG : tp_Good X az) (hSt : tp_Stat X) : tp_Fit X yX1_leads cX1_leads (some .int) 7 tp_nm tp_by tp_ml tp_rtt 51 [o_ild (.iload_n 3) 3, o_ild (.iload_n 2) 2, o_icmpge 148 201, o_ald (.aload_n 0) 0, o_getf (.getfield 60) 1 19, o_ild (.iload_n 3) 3, o_lda .iaload [0, 20], o_ist (.istore 4) 4, o_int (.iconst 0) 0, o_ist (.istore 5) 5, o_fall 67] :=
  fG mo_ild (sim_ild_n dX1_leads_51 rfl) <|
  fG mo_ild (sim_ild_n dX1_leads_52 rfl) <|
  fG mo_icmpge (sim_icmpge dX1_leads_53 rfl) <|
  fG mo_ald (sim_ald_n dX1_leads_56 rfl) <|
  fG mo_getf (sim_getfG hG dX1_leads_57 hc_1 (by decide) rfl in_X1 (fun _ _ _ h => h) (Or.inl q275)) <|
  fG mo_ild (sim_ild_n dX1_leads_60 rfl) <|
  fG mo_lda (sim_iald dX1_leads_61) <|
  fG mo_ist (sim_ist dX1_leads_62) <|
  fG mo_int (sim_iconst dX1_leads_64 (by decide)) <|
  fG mo_ist (sim_ist dX1_leads_65) <|
  fF
theorem fX1_leads_67 {X : tp_X} {az : Array Value} (hG : tp_Good X az) (hSt : tp_Stat X) : tp_Fit X yX1_leads cX1_leads (some .int) 7 tp_nm tp_by tp_ml tp_rtt 67 [o_ild (.iload 5) 5, o_int (.iconst 4) 4, o_icmpge 125 195, o_ild (.iload_n 3) 3, o_ifeq 16 90, o_ald (.aload_n 0) 0, o_getf (.getfield 12) 1 0, o_getf (.getfield 109) 2 6, o_ild (.iload 4) 4, o_lda .baload [1, 2, 22], o_ifne 108 195, o_fall 90] :=
  fG mo_ild (sim_ild dX1_leads_67) <|
  fG mo_int (sim_iconst dX1_leads_69 (by decide)) <|
  fG mo_icmpge (sim_icmpge dX1_leads_70 rfl) <|
  fG mo_ild (sim_ild_n dX1_leads_73 rfl) <|
  fG mo_ifeq (sim_ifeq dX1_leads_74 rfl) <|
  fG mo_ald (sim_ald_n dX1_leads_77 rfl) <|
  fG mo_getf (sim_getfG hG dX1_leads_78 hc_1 (by decide) rfl in_X1 (fun _ _ _ h => h) (Or.inl q256)) <|
  fG mo_getf (sim_getfG hG dX1_leads_81 hc_2 (by decide) rfl in_X2 (fun _ _ _ h => h) (Or.inr ⟨_, q191⟩)) <|
  fG mo_ild (sim_ild dX1_leads_84) <|
  fG mo_lda (sim_bald dX1_leads_86) <|
  fG mo_ifne (sim_ifne dX1_leads_87 rfl) <|
  fF
theorem fX1_leads_90 {X : tp_X} {az : Array Value} (hG : tp_Good X az) (hSt : tp_Stat X) : tp_Fit X yX1_leads cX1_leads (some .int) 7 tp_nm tp_by tp_ml tp_rtt 90 [o_ald (.aload_n 0) 0, o_ild (.iload 4) 4, o_ild (.iload 5) 5, o_cs (.invokestatic 169) kX1_dx 1 0, o_ild (.iload 5) 5, o_cs (.invokestatic 173) kX1_dy 1 0, o_cv (.invokevirtual 165) 1 kX1_beside 3 0, o_ist (.istore 6) 6, o_ild (.iload 6) 6, o_int (.iconst (-1)) (-1), o_icmpeq 78 189, o_ald (.aload_n 0) 0, o_getf (.getfield 57) 1 18, o_ild (.iload 6) 6, o_lda .iaload [0, 20], o_int (.iconst (-1)) (-1), o_icmpne 67 189, o_ald (.aload_n 0) 0, o_ald (.aload_n 0) 0, o_getf (.getfield 12) 1 0, o_getf (.getfield 102) 2 1, o_ild (.iload 6) 6, o_ald (.aload_n 0) 0, o_getf (.getfield 12) 1 0, o_getf (.getfield 112) 2 0, o_int (.iconst 1) 1, o_lda .iaload [0, 20], o_ald (.aload_n 0) 0, o_getf (.getfield 12) 1 0, o_getf (.getfield 112) 2 0, o_int (.iconst 0) 0, o_lda .iaload [0, 20], o_cv (.invokevirtual 222) 1 kX1_may 4 0, o_ifne 6 162, o_goto 30 189] :=
  fG mo_ald (sim_ald_n dX1_leads_90 rfl) <|
  fG mo_ild (sim_ild dX1_leads_91) <|
  fG mo_ild (sim_ild dX1_leads_93) <|
  fC (ic_cs (Or.inl rfl)) (sim_cs hG dX1_leads_95 M_X1_dx (by rw [nm_X1_dx]; rfl) (by rw [nm_X1_dx]; exact q900) (by rw [nm_X1_dx]; exact q901)) <|
  fG mo_ild (sim_ild dX1_leads_98) <|
  fC (ic_cs (Or.inl rfl)) (sim_cs hG dX1_leads_100 M_X1_dy (by rw [nm_X1_dy]; rfl) (by rw [nm_X1_dy]; exact q903) (by rw [nm_X1_dy]; exact q904)) <|
  fC (ic_cv (Or.inl rfl)) (sim_cv hG dX1_leads_103 (hG.2.1 1 _ hc_1).2.1 M_X1_beside (by rw [nm_X1_beside]; rfl) (by rw [nm_X1_beside]; exact q906) (by rw [nm_X1_beside]; exact q908) (by rw [nm_X1_beside]; exact qs21)) <|
  fG mo_ist (sim_ist dX1_leads_106) <|
  fG mo_ild (sim_ild dX1_leads_108) <|
  fG mo_int (sim_iconst dX1_leads_110 (by decide)) <|
  fG mo_icmpeq (sim_icmpeq dX1_leads_111 rfl) <|
  fG mo_ald (sim_ald_n dX1_leads_114 rfl) <|
  fG mo_getf (sim_getfG hG dX1_leads_115 hc_1 (by decide) rfl in_X1 (fun _ _ _ h => h) (Or.inl q274)) <|
  fG mo_ild (sim_ild dX1_leads_118) <|
  fG mo_lda (sim_iald dX1_leads_120) <|
  fG mo_int (sim_iconst dX1_leads_121 (by decide)) <|
  fG mo_icmpne (sim_icmpne dX1_leads_122 rfl) <|
  fG mo_ald (sim_ald_n dX1_leads_125 rfl) <|
  fG mo_ald (sim_ald_n dX1_leads_126 rfl) <|
  fG mo_getf (sim_getfG hG dX1_leads_127 hc_1 (by decide) rfl in_X1 (fun _ _ _ h => h) (Or.inl q256)) <|
  fG mo_getf (sim_getfG hG dX1_leads_130 hc_2 (by decide) rfl in_X2 (fun _ _ _ h => h) (Or.inr ⟨_, q181⟩)) <|
  fG mo_ild (sim_ild dX1_leads_133) <|
  fG mo_ald (sim_ald_n dX1_leads_135 rfl) <|
  fG mo_getf (sim_getfG hG dX1_leads_136 hc_1 (by decide) rfl in_X1 (fun _ _ _ h => h) (Or.inl q256)) <|
  fG mo_getf (sim_getfG hG dX1_leads_139 hc_2 (by decide) rfl in_X2 (fun _ _ _ h => h) (Or.inr ⟨_, q179⟩)) <|
  fG mo_int (sim_iconst dX1_leads_142 (by decide)) <|
  fG mo_lda (sim_iald dX1_leads_143) <|
  fG mo_ald (sim_ald_n dX1_leads_144 rfl) <|
  fG mo_getf (sim_getfG hG dX1_leads_145 hc_1 (by decide) rfl in_X1 (fun _ _ _ h => h) (Or.inl q256)) <|
  fG mo_getf (sim_getfG hG dX1_leads_148 hc_2 (by decide) rfl in_X2 (fun _ _ _ h => h) (Or.inr ⟨_, q179⟩)) <|
  fG mo_int (sim_iconst dX1_leads_151 (by decide)) <|
  fG mo_lda (sim_iald dX1_leads_152) <|
  fC (ic_cv (Or.inl rfl)) (sim_cv hG dX1_leads_153 (hG.2.1 1 _ hc_1).2.1 M_X1_may (by rw [nm_X1_may]; rfl) (by rw [nm_X1_may]; exact q910) (by rw [nm_X1_may]; exact q912) (by rw [nm_X1_may]; exact qs22)) <|
  fG mo_ifne (sim_ifne dX1_leads_156 rfl) <|
  fG mo_goto (sim_goto dX1_leads_159 rfl) <|
  trivial
theorem fX1_leads_162 {X : tp_X} {az : Array Value} (hG : tp_Good X az) (hSt : tp_Stat X) : tp_Fit X yX1_leads cX1_leads (some .int) 7 tp_nm tp_by tp_ml tp_rtt 162 [o_ald (.aload_n 0) 0, o_getf (.getfield 57) 1 18, o_ild (.iload 6) 6, o_ald (.aload_n 0) 0, o_getf (.getfield 57) 1 18, o_ild (.iload 4) 4, o_lda .iaload [0, 20], o_int (.iconst 1) 1, o_iadd, o_sta .iastore [0], o_ald (.aload_n 0) 0, o_getf (.getfield 60) 1 19, o_ild (.iload_n 2) 2, o_ild (.iload 6) 6, o_sta .iastore [0], o_inc 2 1, o_fall 189] :=
  fG mo_ald (sim_ald_n dX1_leads_162 rfl) <|
  fG mo_getf (sim_getfG hG dX1_leads_163 hc_1 (by decide) rfl in_X1 (fun _ _ _ h => h) (Or.inl q274)) <|
  fG mo_ild (sim_ild dX1_leads_166) <|
  fG mo_ald (sim_ald_n dX1_leads_168 rfl) <|
  fG mo_getf (sim_getfG hG dX1_leads_169 hc_1 (by decide) rfl in_X1 (fun _ _ _ h => h) (Or.inl q274)) <|
  fG mo_ild (sim_ild dX1_leads_172) <|
  fG mo_lda (sim_iald dX1_leads_174) <|
  fG mo_int (sim_iconst dX1_leads_175 (by decide)) <|
  fG mo_iadd (sim_iadd dX1_leads_176) <|
  fG mo_sta (sim_iast dX1_leads_177) <|
  fG mo_ald (sim_ald_n dX1_leads_178 rfl) <|
  fG mo_getf (sim_getfG hG dX1_leads_179 hc_1 (by decide) rfl in_X1 (fun _ _ _ h => h) (Or.inl q275)) <|
  fG mo_ild (sim_ild_n dX1_leads_182 rfl) <|
  fG mo_ild (sim_ild dX1_leads_183) <|
  fG mo_sta (sim_iast dX1_leads_185) <|
  fG mo_inc (sim_inc dX1_leads_186 (by decide)) <|
  fF
theorem fX1_leads_189 {X : tp_X} {az : Array Value} (hG : tp_Good X az) (hSt : tp_Stat X) : tp_Fit X yX1_leads cX1_leads (some .int) 7 tp_nm tp_by tp_ml tp_rtt 189 [o_inc 5 1, o_goto (-125) 67] :=
  fG mo_inc (sim_inc dX1_leads_189 (by decide)) <|
  fG mo_goto (sim_goto dX1_leads_192 rfl) <|
  trivial
theorem fX1_leads_195 {X : tp_X} {az : Array Value} (hG : tp_Good X az) (hSt : tp_Stat X) : tp_Fit X yX1_leads cX1_leads (some .int) 7 tp_nm tp_by tp_ml tp_rtt 195 [o_inc 3 1, o_goto (-147) 51] :=
  fG mo_inc (sim_inc dX1_leads_195 (by decide)) <|
  fG mo_goto (sim_goto dX1_leads_198 rfl) <|
  trivial
theorem fX1_leads_201 {X : tp_X} {az : Array Value} (hG : tp_Good X az) (hSt : tp_Stat X) : tp_Fit X yX1_leads cX1_leads (some .int) 7 tp_nm tp_by tp_ml tp_rtt 201 [o_ild (.iload_n 1) 1, o_int (.iconst (-1)) (-1), o_icmpne 7 210, o_ild (.iload_n 2) 2, o_goto 9 216] :=
  fG mo_ild (sim_ild_n dX1_leads_201 rfl) <|
  fG mo_int (sim_iconst dX1_leads_202 (by decide)) <|
  fG mo_icmpne (sim_icmpne dX1_leads_203 rfl) <|
  fG mo_ild (sim_ild_n dX1_leads_206 rfl) <|
  fG mo_goto (sim_goto dX1_leads_207 rfl) <|
  trivial
theorem fX1_leads_210 {X : tp_X} {az : Array Value} (hG : tp_Good X az) (hSt : tp_Stat X) : tp_Fit X yX1_leads cX1_leads (some .int) 7 tp_nm tp_by tp_ml tp_rtt 210 [o_ald (.aload_n 0) 0, o_getf (.getfield 57) 1 18, o_ild (.iload_n 1) 1, o_lda .iaload [0, 20], o_fall 216] :=
  fG mo_ald (sim_ald_n dX1_leads_210 rfl) <|
  fG mo_getf (sim_getfG hG dX1_leads_211 hc_1 (by decide) rfl in_X1 (fun _ _ _ h => h) (Or.inl q274)) <|
  fG mo_ild (sim_ild_n dX1_leads_214 rfl) <|
  fG mo_lda (sim_iald dX1_leads_215) <|
  fF
theorem fX1_leads_216 {X : tp_X} {az : Array Value} (hG : tp_Good X az) (hSt : tp_Stat X) : tp_Fit X yX1_leads cX1_leads (some .int) 7 tp_nm tp_by tp_ml tp_rtt 216 [o_iret 0] :=
  fE ie_iret (sim_iret dX1_leads_216 rfl (Or.inl ⟨rfl, rfl⟩))
theorem F_X1_leads {X : tp_X} {az : Array Value} (hG : tp_Good X az) (hSt : tp_Stat X) (pc : Nat) : tp_Fit X yX1_leads cX1_leads (some .int) 7 tp_nm tp_by tp_ml tp_rtt pc (mX1_leads pc) :=
  fI (fX1_leads_0 hG hSt) <| fI (fX1_leads_15 hG hSt) <| fI (fX1_leads_51 hG hSt) <| fI (fX1_leads_67 hG hSt) <| fI (fX1_leads_90 hG hSt) <| fI (fX1_leads_162 hG hSt) <| fI (fX1_leads_189 hG hSt) <| fI (fX1_leads_195 hG hSt) <| fI (fX1_leads_201 hG hSt) <| fI (fX1_leads_210 hG hSt) <| fI (fX1_leads_216 hG hSt) <| trivial
