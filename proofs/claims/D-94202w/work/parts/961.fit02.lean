/-! FITS 2 -/
set_option maxRecDepth 100000
theorem fX1_does_0 {X : tp_X} {az : Array Value} (hG : tp_Good X az) (hSt : tp_Stat X) : tp_Fit X yX1_does cX1_does (some .boolean) 4 tp_nm tp_by tp_ml tp_rtt 0 [o_ald (.aload_n 0) 0, o_getf (.getfield 12) 1 0, o_getf (.getfield 130) 2 10, o_ild (.iload_n 1) 1, o_lda .aaload [4, 5, 6, 7, 28, 29], o_ast (.astore_n 3) 3, o_ild (.iload_n 2) 2, o_cs (.invokestatic 229) kX1_isOrder 1 0, o_ifeq 12 26, o_ald (.aload_n 0) 0, o_ild (.iload_n 1) 1, o_ild (.iload_n 2) 2, o_cv (.invokevirtual 235) 1 kX1_can 2 0, o_ifne 5 28, o_fall 26] :=
  fG mo_ald (sim_ald_n dX1_does_0 rfl) <|
  fG mo_getf (sim_getfG hG dX1_does_1 hc_1 (by decide) rfl in_X1 (fun _ _ _ h => h) (Or.inl q256)) <|
  fG mo_getf (sim_getfG hG dX1_does_4 hc_2 (by decide) rfl in_X2 (fun _ _ _ h => h) (Or.inr ⟨_, q199⟩)) <|
  fG mo_ild (sim_ild_n dX1_does_7 rfl) <|
  fG mo_lda (sim_aald dX1_does_8) <|
  fG mo_ast (sim_ast_n dX1_does_9 rfl) <|
  fG mo_ild (sim_ild_n dX1_does_10 rfl) <|
  fC (ic_cs (Or.inl rfl)) (sim_cs hG dX1_does_11 M_X1_isOrder (by rw [nm_X1_isOrder]; rfl) (by rw [nm_X1_isOrder]; exact q893) (by rw [nm_X1_isOrder]; exact q894)) <|
  fG mo_ifeq (sim_ifeq dX1_does_14 rfl) <|
  fG mo_ald (sim_ald_n dX1_does_17 rfl) <|
  fG mo_ild (sim_ild_n dX1_does_18 rfl) <|
  fG mo_ild (sim_ild_n dX1_does_19 rfl) <|
  fC (ic_cv (Or.inl rfl)) (sim_cv hG dX1_does_20 (hG.2.1 1 _ hc_1).2.1 M_X1_can (by rw [nm_X1_can]; rfl) (by rw [nm_X1_can]; exact q1023) (by rw [nm_X1_can]; exact q890) (by rw [nm_X1_can]; exact q891)) <|
  fG mo_ifne (sim_ifne dX1_does_23 rfl) <|
  fF
theorem fX1_does_26 {X : tp_X} {az : Array Value} (hG : tp_Good X az) (hSt : tp_Stat X) : tp_Fit X yX1_does cX1_does (some .boolean) 4 tp_nm tp_by tp_ml tp_rtt 26 [o_int (.iconst 0) 0, o_iret 1] :=
  fG mo_int (sim_iconst dX1_does_26 (by decide)) <|
  fE ie_iret (sim_iret dX1_does_27 rfl (Or.inr (Or.inl ⟨rfl, rfl⟩)))
theorem fX1_does_28 {X : tp_X} {az : Array Value} (hG : tp_Good X az) (hSt : tp_Stat X) : tp_Fit X yX1_does cX1_does (some .boolean) 4 tp_nm tp_by tp_ml tp_rtt 28 [o_ald (.aload_n 3) 3, o_int (.iconst 1) 1, o_dup2, o_lda .iaload [0, 20], o_ald (.aload_n 0) 0, o_ild (.iload_n 2) 2, o_ald (.aload_n 3) 3, o_int (.iconst 0) 0, o_lda .iaload [0, 20], o_ald (.aload_n 3) 3, o_int (.iconst 1) 1, o_lda .iaload [0, 20], o_ald (.aload_n 3) 3, o_int (.iconst 2) 2, o_lda .iaload [0, 20], o_ald (.aload_n 0) 0, o_getf (.getfield 12) 1 0, o_getf (.getfield 102) 2 1, o_ald (.aload_n 0) 0, o_getf (.getfield 12) 1 0, o_getf (.getfield 112) 2 0, o_int (.iconst 1) 1, o_lda .iaload [0, 20], o_ald (.aload_n 0) 0, o_getf (.getfield 12) 1 0, o_getf (.getfield 112) 2 0, o_int (.iconst 0) 0, o_lda .iaload [0, 20], o_cv (.invokevirtual 232) 1 kX1_costOf 7 0, o_isub, o_sta .iastore [0], o_ild (.iload_n 2) 2, o_int (.iconst 4) 4, o_icmpge 43 118, o_ald (.aload_n 3) 3, o_int (.iconst 0) 0, o_ald (.aload_n 0) 0, o_ald (.aload_n 3) 3, o_int (.iconst 0) 0, o_lda .iaload [0, 20], o_ild (.iload_n 2) 2, o_cs (.invokestatic 169) kX1_dx 1 0, o_ild (.iload_n 2) 2, o_cs (.invokestatic 173) kX1_dy 1 0, o_cv (.invokevirtual 165) 1 kX1_beside 3 0, o_sta .iastore [0], o_ald (.aload_n 3) 3, o_int (.iconst 3) 3, o_ald (.aload_n 0) 0, o_getf (.getfield 12) 1 0, o_getf (.getfield 109) 2 6, o_ald (.aload_n 3) 3, o_int (.iconst 0) 0, o_lda .iaload [0, 20], o_lda .baload [1, 2, 22], o_ifeq 7 116, o_int (.iconst 1) 1, o_goto 4 117] :=
  fG mo_ald (sim_ald_n dX1_does_28 rfl) <|
  fG mo_int (sim_iconst dX1_does_29 (by decide)) <|
  fG mo_dup2 (sim_dup2 dX1_does_30) <|
  fG mo_lda (sim_iald dX1_does_31) <|
  fG mo_ald (sim_ald_n dX1_does_32 rfl) <|
  fG mo_ild (sim_ild_n dX1_does_33 rfl) <|
  fG mo_ald (sim_ald_n dX1_does_34 rfl) <|
  fG mo_int (sim_iconst dX1_does_35 (by decide)) <|
  fG mo_lda (sim_iald dX1_does_36) <|
  fG mo_ald (sim_ald_n dX1_does_37 rfl) <|
  fG mo_int (sim_iconst dX1_does_38 (by decide)) <|
  fG mo_lda (sim_iald dX1_does_39) <|
  fG mo_ald (sim_ald_n dX1_does_40 rfl) <|
  fG mo_int (sim_iconst dX1_does_41 (by decide)) <|
  fG mo_lda (sim_iald dX1_does_42) <|
  fG mo_ald (sim_ald_n dX1_does_43 rfl) <|
  fG mo_getf (sim_getfG hG dX1_does_44 hc_1 (by decide) rfl in_X1 (fun _ _ _ h => h) (Or.inl q256)) <|
  fG mo_getf (sim_getfG hG dX1_does_47 hc_2 (by decide) rfl in_X2 (fun _ _ _ h => h) (Or.inr ⟨_, q181⟩)) <|
  fG mo_ald (sim_ald_n dX1_does_50 rfl) <|
  fG mo_getf (sim_getfG hG dX1_does_51 hc_1 (by decide) rfl in_X1 (fun _ _ _ h => h) (Or.inl q256)) <|
  fG mo_getf (sim_getfG hG dX1_does_54 hc_2 (by decide) rfl in_X2 (fun _ _ _ h => h) (Or.inr ⟨_, q179⟩)) <|
  fG mo_int (sim_iconst dX1_does_57 (by decide)) <|
  fG mo_lda (sim_iald dX1_does_58) <|
  fG mo_ald (sim_ald_n dX1_does_59 rfl) <|
  fG mo_getf (sim_getfG hG dX1_does_60 hc_1 (by decide) rfl in_X1 (fun _ _ _ h => h) (Or.inl q256)) <|
  fG mo_getf (sim_getfG hG dX1_does_63 hc_2 (by decide) rfl in_X2 (fun _ _ _ h => h) (Or.inr ⟨_, q179⟩)) <|
  fG mo_int (sim_iconst dX1_does_66 (by decide)) <|
  fG mo_lda (sim_iald dX1_does_67) <|
  fC (ic_cv (Or.inl rfl)) (sim_cv hG dX1_does_68 (hG.2.1 1 _ hc_1).2.1 M_X1_costOf (by rw [nm_X1_costOf]; rfl) (by rw [nm_X1_costOf]; exact q896) (by rw [nm_X1_costOf]; exact q898) (by rw [nm_X1_costOf]; exact qs20)) <|
  fG mo_isub (sim_isub dX1_does_71) <|
  fG mo_sta (sim_iast dX1_does_72) <|
  fG mo_ild (sim_ild_n dX1_does_73 rfl) <|
  fG mo_int (sim_iconst dX1_does_74 (by decide)) <|
  fG mo_icmpge (sim_icmpge dX1_does_75 rfl) <|
  fG mo_ald (sim_ald_n dX1_does_78 rfl) <|
  fG mo_int (sim_iconst dX1_does_79 (by decide)) <|
  fG mo_ald (sim_ald_n dX1_does_80 rfl) <|
  fG mo_ald (sim_ald_n dX1_does_81 rfl) <|
  fG mo_int (sim_iconst dX1_does_82 (by decide)) <|
  fG mo_lda (sim_iald dX1_does_83) <|
  fG mo_ild (sim_ild_n dX1_does_84 rfl) <|
  fC (ic_cs (Or.inl rfl)) (sim_cs hG dX1_does_85 M_X1_dx (by rw [nm_X1_dx]; rfl) (by rw [nm_X1_dx]; exact q900) (by rw [nm_X1_dx]; exact q901)) <|
  fG mo_ild (sim_ild_n dX1_does_88 rfl) <|
  fC (ic_cs (Or.inl rfl)) (sim_cs hG dX1_does_89 M_X1_dy (by rw [nm_X1_dy]; rfl) (by rw [nm_X1_dy]; exact q903) (by rw [nm_X1_dy]; exact q904)) <|
  fC (ic_cv (Or.inl rfl)) (sim_cv hG dX1_does_92 (hG.2.1 1 _ hc_1).2.1 M_X1_beside (by rw [nm_X1_beside]; rfl) (by rw [nm_X1_beside]; exact q906) (by rw [nm_X1_beside]; exact q908) (by rw [nm_X1_beside]; exact qs21)) <|
  fG mo_sta (sim_iast dX1_does_95) <|
  fG mo_ald (sim_ald_n dX1_does_96 rfl) <|
  fG mo_int (sim_iconst dX1_does_97 (by decide)) <|
  fG mo_ald (sim_ald_n dX1_does_98 rfl) <|
  fG mo_getf (sim_getfG hG dX1_does_99 hc_1 (by decide) rfl in_X1 (fun _ _ _ h => h) (Or.inl q256)) <|
  fG mo_getf (sim_getfG hG dX1_does_102 hc_2 (by decide) rfl in_X2 (fun _ _ _ h => h) (Or.inr ⟨_, q191⟩)) <|
  fG mo_ald (sim_ald_n dX1_does_105 rfl) <|
  fG mo_int (sim_iconst dX1_does_106 (by decide)) <|
  fG mo_lda (sim_iald dX1_does_107) <|
  fG mo_lda (sim_bald dX1_does_108) <|
  fG mo_ifeq (sim_ifeq dX1_does_109 rfl) <|
  fG mo_int (sim_iconst dX1_does_112 (by decide)) <|
  fG mo_goto (sim_goto dX1_does_113 rfl) <|
  trivial
theorem fX1_does_116 {X : tp_X} {az : Array Value} (hG : tp_Good X az) (hSt : tp_Stat X) : tp_Fit X yX1_does cX1_does (some .boolean) 4 tp_nm tp_by tp_ml tp_rtt 116 [o_int (.iconst 0) 0, o_fall 117] :=
  fG mo_int (sim_iconst dX1_does_116 (by decide)) <|
  fF
theorem fX1_does_117 {X : tp_X} {az : Array Value} (hG : tp_Good X az) (hSt : tp_Stat X) : tp_Fit X yX1_does cX1_does (some .boolean) 4 tp_nm tp_by tp_ml tp_rtt 117 [o_sta .iastore [0], o_fall 118] :=
  fG mo_sta (sim_iast dX1_does_117) <|
  fF
theorem fX1_does_118 {X : tp_X} {az : Array Value} (hG : tp_Good X az) (hSt : tp_Stat X) : tp_Fit X yX1_does cX1_does (some .boolean) 4 tp_nm tp_by tp_ml tp_rtt 118 [o_ild (.iload_n 2) 2, o_int (.bipush 6) 6, o_icmplt 17 138, o_ald (.aload_n 3) 3, o_int (.iconst 2) 2, o_ild (.iload_n 2) 2, o_int (.bipush 6) 6, o_icmpne 7 136, o_int (.iconst 1) 1, o_goto 4 137] :=
  fG mo_ild (sim_ild_n dX1_does_118 rfl) <|
  fG mo_int (sim_bipush dX1_does_119 (by decide)) <|
  fG mo_icmplt (sim_icmplt dX1_does_121 rfl) <|
  fG mo_ald (sim_ald_n dX1_does_124 rfl) <|
  fG mo_int (sim_iconst dX1_does_125 (by decide)) <|
  fG mo_ild (sim_ild_n dX1_does_126 rfl) <|
  fG mo_int (sim_bipush dX1_does_127 (by decide)) <|
  fG mo_icmpne (sim_icmpne dX1_does_129 rfl) <|
  fG mo_int (sim_iconst dX1_does_132 (by decide)) <|
  fG mo_goto (sim_goto dX1_does_133 rfl) <|
  trivial
theorem fX1_does_136 {X : tp_X} {az : Array Value} (hG : tp_Good X az) (hSt : tp_Stat X) : tp_Fit X yX1_does cX1_does (some .boolean) 4 tp_nm tp_by tp_ml tp_rtt 136 [o_int (.iconst 0) 0, o_fall 137] :=
  fG mo_int (sim_iconst dX1_does_136 (by decide)) <|
  fF
theorem fX1_does_137 {X : tp_X} {az : Array Value} (hG : tp_Good X az) (hSt : tp_Stat X) : tp_Fit X yX1_does cX1_does (some .boolean) 4 tp_nm tp_by tp_ml tp_rtt 137 [o_sta .iastore [0], o_fall 138] :=
  fG mo_sta (sim_iast dX1_does_137) <|
  fF
theorem fX1_does_138 {X : tp_X} {az : Array Value} (hG : tp_Good X az) (hSt : tp_Stat X) : tp_Fit X yX1_does cX1_does (some .boolean) 4 tp_nm tp_by tp_ml tp_rtt 138 [o_int (.iconst 1) 1, o_iret 1] :=
  fG mo_int (sim_iconst dX1_does_138 (by decide)) <|
  fE ie_iret (sim_iret dX1_does_139 rfl (Or.inr (Or.inl ⟨rfl, rfl⟩)))
theorem F_X1_does {X : tp_X} {az : Array Value} (hG : tp_Good X az) (hSt : tp_Stat X) (pc : Nat) : tp_Fit X yX1_does cX1_does (some .boolean) 4 tp_nm tp_by tp_ml tp_rtt pc (mX1_does pc) :=
  fI (fX1_does_0 hG hSt) <| fI (fX1_does_26 hG hSt) <| fI (fX1_does_28 hG hSt) <| fI (fX1_does_116 hG hSt) <| fI (fX1_does_117 hG hSt) <| fI (fX1_does_118 hG hSt) <| fI (fX1_does_136 hG hSt) <| fI (fX1_does_137 hG hSt) <| fI (fX1_does_138 hG hSt) <| trivial
theorem fX1_goes_0 {X : tp_X} {az : Array Value} (hG : tp_Good X az) (hSt : tp_Stat X) : tp_Fit X yX1_goes cX1_goes none 7 tp_nm tp_by tp_ml tp_rtt 0 [o_int (.iconst 0) 0, o_ist (.istore 5) 5, o_fall 3] :=
  fG mo_int (sim_iconst dX1_goes_0 (by decide)) <|
  fG mo_ist (sim_ist dX1_goes_1) <|
  fF
theorem fX1_goes_3 {X : tp_X} {az : Array Value} (hG : tp_Good X az) (hSt : tp_Stat X) : tp_Fit X yX1_goes cX1_goes none 7 tp_nm tp_by tp_ml tp_rtt 3 [o_ild (.iload 5) 5, o_ald (.aload_n 0) 0, o_getf (.getfield 87) 1 4, o_icmpge 71 80, o_ald (.aload_n 0) 0, o_ild (.iload 5) 5, o_ald (.aload_n 0) 0, o_getf (.getfield 12) 1 0, o_getf (.getfield 118) 2 8, o_ild (.iload_n 3) 3, o_lda .aaload [4, 5, 6, 7, 28, 29], o_int (.iconst 0) 0, o_lda .iaload [0, 20], o_ineg, o_ald (.aload_n 0) 0, o_getf (.getfield 12) 1 0, o_getf (.getfield 118) 2 8, o_ild (.iload_n 3) 3, o_lda .aaload [4, 5, 6, 7, 28, 29], o_int (.iconst 1) 1, o_lda .iaload [0, 20], o_ineg, o_cv (.invokevirtual 165) 1 kX1_beside 3 0, o_ist (.istore 6) 6, o_ald (.aload_n 0) 0, o_getf (.getfield 34) 1 10, o_ild (.iload 5) 5, o_ild (.iload 6) 6, o_int (.iconst (-1)) (-1), o_icmpne 16 69, o_ald (.aload_n 0) 0, o_getf (.getfield 12) 1 0, o_getf (.getfield 112) 2 0, o_int (.bipush 8) 8, o_lda .iaload [0, 20], o_goto 7 73] :=
  fG mo_ild (sim_ild dX1_goes_3) <|
  fG mo_ald (sim_ald_n dX1_goes_5 rfl) <|
  fG mo_getf (sim_getfG hG dX1_goes_6 hc_1 (by decide) rfl in_X1 (fun _ _ _ h => h) (Or.inl q260)) <|
  fG mo_icmpge (sim_icmpge dX1_goes_9 rfl) <|
  fG mo_ald (sim_ald_n dX1_goes_12 rfl) <|
  fG mo_ild (sim_ild dX1_goes_13) <|
  fG mo_ald (sim_ald_n dX1_goes_15 rfl) <|
  fG mo_getf (sim_getfG hG dX1_goes_16 hc_1 (by decide) rfl in_X1 (fun _ _ _ h => h) (Or.inl q256)) <|
  fG mo_getf (sim_getfG hG dX1_goes_19 hc_2 (by decide) rfl in_X2 (fun _ _ _ h => h) (Or.inr ⟨_, q195⟩)) <|
  fG mo_ild (sim_ild_n dX1_goes_22 rfl) <|
  fG mo_lda (sim_aald dX1_goes_23) <|
  fG mo_int (sim_iconst dX1_goes_24 (by decide)) <|
  fG mo_lda (sim_iald dX1_goes_25) <|
  fG mo_ineg (sim_ineg dX1_goes_26) <|
  fG mo_ald (sim_ald_n dX1_goes_27 rfl) <|
  fG mo_getf (sim_getfG hG dX1_goes_28 hc_1 (by decide) rfl in_X1 (fun _ _ _ h => h) (Or.inl q256)) <|
  fG mo_getf (sim_getfG hG dX1_goes_31 hc_2 (by decide) rfl in_X2 (fun _ _ _ h => h) (Or.inr ⟨_, q195⟩)) <|
  fG mo_ild (sim_ild_n dX1_goes_34 rfl) <|
  fG mo_lda (sim_aald dX1_goes_35) <|
  fG mo_int (sim_iconst dX1_goes_36 (by decide)) <|
  fG mo_lda (sim_iald dX1_goes_37) <|
  fG mo_ineg (sim_ineg dX1_goes_38) <|
  fC (ic_cv (Or.inl rfl)) (sim_cv hG dX1_goes_39 (hG.2.1 1 _ hc_1).2.1 M_X1_beside (by rw [nm_X1_beside]; rfl) (by rw [nm_X1_beside]; exact q906) (by rw [nm_X1_beside]; exact q908) (by rw [nm_X1_beside]; exact qs21)) <|
  fG mo_ist (sim_ist dX1_goes_42) <|
  fG mo_ald (sim_ald_n dX1_goes_44 rfl) <|
  fG mo_getf (sim_getfG hG dX1_goes_45 hc_1 (by decide) rfl in_X1 (fun _ _ _ h => h) (Or.inl q266)) <|
  fG mo_ild (sim_ild dX1_goes_48) <|
  fG mo_ild (sim_ild dX1_goes_50) <|
  fG mo_int (sim_iconst dX1_goes_52 (by decide)) <|
  fG mo_icmpne (sim_icmpne dX1_goes_53 rfl) <|
  fG mo_ald (sim_ald_n dX1_goes_56 rfl) <|
  fG mo_getf (sim_getfG hG dX1_goes_57 hc_1 (by decide) rfl in_X1 (fun _ _ _ h => h) (Or.inl q256)) <|
  fG mo_getf (sim_getfG hG dX1_goes_60 hc_2 (by decide) rfl in_X2 (fun _ _ _ h => h) (Or.inr ⟨_, q179⟩)) <|
  fG mo_int (sim_bipush dX1_goes_63 (by decide)) <|
  fG mo_lda (sim_iald dX1_goes_65) <|
  fG mo_goto (sim_goto dX1_goes_66 rfl) <|
  trivial
theorem fX1_goes_69 {X : tp_X} {az : Array Value} (hG : tp_Good X az) (hSt : tp_Stat X) : tp_Fit X yX1_goes cX1_goes none 7 tp_nm tp_by tp_ml tp_rtt 69 [o_ald (.aload_n 1) 1, o_ild (.iload 6) 6, o_lda .iaload [0, 20], o_fall 73] :=
  fG mo_ald (sim_ald_n dX1_goes_69 rfl) <|
  fG mo_ild (sim_ild dX1_goes_70) <|
  fG mo_lda (sim_iald dX1_goes_72) <|
  fF
theorem fX1_goes_73 {X : tp_X} {az : Array Value} (hG : tp_Good X az) (hSt : tp_Stat X) : tp_Fit X yX1_goes cX1_goes none 7 tp_nm tp_by tp_ml tp_rtt 73 [o_sta .iastore [0], o_inc 5 1, o_goto (-74) 3] :=
  fG mo_sta (sim_iast dX1_goes_73) <|
  fG mo_inc (sim_inc dX1_goes_74 (by decide)) <|
  fG mo_goto (sim_goto dX1_goes_77 rfl) <|
  trivial
theorem fX1_goes_80 {X : tp_X} {az : Array Value} (hG : tp_Good X az) (hSt : tp_Stat X) : tp_Fit X yX1_goes cX1_goes none 7 tp_nm tp_by tp_ml tp_rtt 80 [o_ald (.aload_n 0) 0, o_cv (.invokevirtual 176) 1 kX1_rules 0 0, o_ast (.astore 5) 5, o_int (.iconst 0) 0, o_ist (.istore 6) 6, o_fall 89] :=
  fG mo_ald (sim_ald_n dX1_goes_80 rfl) <|
  fC (ic_cv (Or.inl rfl)) (sim_cv hG dX1_goes_81 (hG.2.1 1 _ hc_1).2.1 M_X1_rules (by rw [nm_X1_rules]; rfl) (by rw [nm_X1_rules]; exact q914) (by rw [nm_X1_rules]; exact q916) (by rw [nm_X1_rules]; exact qs23)) <|
  fG mo_ast (sim_ast dX1_goes_84) <|
  fG mo_int (sim_iconst dX1_goes_86 (by decide)) <|
  fG mo_ist (sim_ist dX1_goes_87) <|
  fF
theorem fX1_goes_89 {X : tp_X} {az : Array Value} (hG : tp_Good X az) (hSt : tp_Stat X) : tp_Fit X yX1_goes cX1_goes none 7 tp_nm tp_by tp_ml tp_rtt 89 [o_ild (.iload 6) 6, o_ald (.aload_n 0) 0, o_getf (.getfield 87) 1 4, o_icmpge 78 173, o_ald (.aload_n 2) 2, o_ild (.iload 6) 6, o_ald (.aload_n 0) 0, o_getf (.getfield 34) 1 10, o_ild (.iload 6) 6, o_lda .iaload [0, 20], o_sta .iastore [0], o_ald (.aload 5) 5, o_ifnull 56 167, o_ald (.aload 5) 5, o_getf (.getfield 220) 5 5, o_ifnon 6 125, o_goto 45 167] :=
  fG mo_ild (sim_ild dX1_goes_89) <|
  fG mo_ald (sim_ald_n dX1_goes_91 rfl) <|
  fG mo_getf (sim_getfG hG dX1_goes_92 hc_1 (by decide) rfl in_X1 (fun _ _ _ h => h) (Or.inl q260)) <|
  fG mo_icmpge (sim_icmpge dX1_goes_95 rfl) <|
  fG mo_ald (sim_ald_n dX1_goes_98 rfl) <|
  fG mo_ild (sim_ild dX1_goes_99) <|
  fG mo_ald (sim_ald_n dX1_goes_101 rfl) <|
  fG mo_getf (sim_getfG hG dX1_goes_102 hc_1 (by decide) rfl in_X1 (fun _ _ _ h => h) (Or.inl q266)) <|
  fG mo_ild (sim_ild dX1_goes_105) <|
  fG mo_lda (sim_iald dX1_goes_107) <|
  fG mo_sta (sim_iast dX1_goes_108) <|
  fG mo_ald (sim_ald dX1_goes_109) <|
  fG mo_ifnull (sim_ifnull dX1_goes_111 rfl) <|
  fG mo_ald (sim_ald dX1_goes_114) <|
  fG mo_getf (sim_getfG hG dX1_goes_116 hc_5 (by decide) rfl in_X5 (fun _ _ _ h => h) (Or.inr ⟨_, q473⟩)) <|
  fG mo_ifnon (sim_ifnon dX1_goes_119 rfl) <|
  fG mo_goto (sim_goto dX1_goes_122 rfl) <|
  trivial
theorem fX1_goes_125 {X : tp_X} {az : Array Value} (hG : tp_Good X az) (hSt : tp_Stat X) : tp_Fit X yX1_goes cX1_goes none 7 tp_nm tp_by tp_ml tp_rtt 125 [o_ald (.aload_n 0) 0, o_ald (.aload_n 0) 0, o_getf (.getfield 34) 1 10, o_ild (.iload 6) 6, o_ild (.iload_n 3) 3, o_ild (.iload 4) 4, o_cv (.invokevirtual 191) 1 kX1_names 4 0, o_ald (.aload_n 2) 2, o_ild (.iload 6) 6, o_lng (.lconst 0) 0, o_lng (.ldc2_w 201) 99, o_ald (.aload 5) 5, o_getf (.getfield 220) 5 5, o_ald (.aload_n 0) 0, o_getf (.getfield 30) 1 9, o_ci (.invokeinterface 203 2) [(8, kX8_of), (9, kX9_of), (10, kX10_of), (11, kX11_of)] 1 0, o_lmin (.invokestatic 209), o_lmax (.invokestatic 212), o_l2i, o_sta .iastore [0], o_fall 167] :=
  fG mo_ald (sim_ald_n dX1_goes_125 rfl) <|
  fG mo_ald (sim_ald_n dX1_goes_126 rfl) <|
  fG mo_getf (sim_getfG hG dX1_goes_127 hc_1 (by decide) rfl in_X1 (fun _ _ _ h => h) (Or.inl q266)) <|
  fG mo_ild (sim_ild dX1_goes_130) <|
  fG mo_ild (sim_ild_n dX1_goes_132 rfl) <|
  fG mo_ild (sim_ild dX1_goes_133) <|
  fC (ic_cv (Or.inl rfl)) (sim_cv hG dX1_goes_135 (hG.2.1 1 _ hc_1).2.1 M_X1_names (by rw [nm_X1_names]; rfl) (by rw [nm_X1_names]; exact q919) (by rw [nm_X1_names]; exact q921) (by rw [nm_X1_names]; exact qs24)) <|
  fG mo_ald (sim_ald_n dX1_goes_138 rfl) <|
  fG mo_ild (sim_ild dX1_goes_139) <|
  fG mo_lng (sim_lconst0 dX1_goes_141) <|
  fG mo_lng (sim_ldc2 hG dX1_goes_142 q1010 rfl) <|
  fG mo_ald (sim_ald dX1_goes_145) <|
  fG mo_getf (sim_getfG hG dX1_goes_147 hc_5 (by decide) rfl in_X5 (fun _ _ _ h => h) (Or.inr ⟨_, q473⟩)) <|
  fG mo_ald (sim_ald_n dX1_goes_150 rfl) <|
  fG mo_getf (sim_getfG hG dX1_goes_151 hc_1 (by decide) rfl in_X1 (fun _ _ _ h => h) (Or.inl q265)) <|
  fC (ic_ci (Or.inl rfl)) (sim_ci hG dX1_goes_154 q1012 q953 q952 (by decide +kernel) (fun q hq => by
    simp only [List.mem_cons, List.not_mem_nil, or_false] at hq
    rcases hq with rfl | rfl | rfl | rfl
    · exact ⟨_, _, _, hc_8, M_X8_of, by rw [nm_X8_of]; rfl, by rw [nm_X8_of]; exact q955, by rw [nm_X8_of]; exact q957, by rw [nm_X8_of]; exact q958, q956, q954, by rw [nm_X8_of]; rfl⟩
    · exact ⟨_, _, _, hc_9, M_X9_of, by rw [nm_X9_of]; rfl, by rw [nm_X9_of]; exact q977, by rw [nm_X9_of]; exact q979, by rw [nm_X9_of]; exact q980, q978, q976, by rw [nm_X9_of]; rfl⟩
    · exact ⟨_, _, _, hc_10, M_X10_of, by rw [nm_X10_of]; rfl, by rw [nm_X10_of]; exact q971, by rw [nm_X10_of]; exact q973, by rw [nm_X10_of]; exact q974, q972, q970, by rw [nm_X10_of]; rfl⟩
    · exact ⟨_, _, _, hc_11, M_X11_of, by rw [nm_X11_of]; rfl, by rw [nm_X11_of]; exact q963, by rw [nm_X11_of]; exact q965, by rw [nm_X11_of]; exact q966, q964, q962, by rw [nm_X11_of]; rfl⟩
    )) <|
  fG mo_lmin (sim_lmin hG dX1_goes_159 q1013 q993 q128 q994) <|
  fG mo_lmax (sim_lmax hG dX1_goes_162 q1014 q996 q128 q997) <|
  fG mo_l2i (sim_l2i dX1_goes_165) <|
  fG mo_sta (sim_iast dX1_goes_166) <|
  fF
theorem fX1_goes_167 {X : tp_X} {az : Array Value} (hG : tp_Good X az) (hSt : tp_Stat X) : tp_Fit X yX1_goes cX1_goes none 7 tp_nm tp_by tp_ml tp_rtt 167 [o_inc 6 1, o_goto (-81) 89] :=
  fG mo_inc (sim_inc dX1_goes_167 (by decide)) <|
  fG mo_goto (sim_goto dX1_goes_170 rfl) <|
  trivial
theorem fX1_goes_173 {X : tp_X} {az : Array Value} (hG : tp_Good X az) (hSt : tp_Stat X) : tp_Fit X yX1_goes cX1_goes none 7 tp_nm tp_by tp_ml tp_rtt 173 [o_vret] :=
  fE ie_vret (sim_vret dX1_goes_173 rfl)
theorem F_X1_goes {X : tp_X} {az : Array Value} (hG : tp_Good X az) (hSt : tp_Stat X) (pc : Nat) : tp_Fit X yX1_goes cX1_goes none 7 tp_nm tp_by tp_ml tp_rtt pc (mX1_goes pc) :=
  fI (fX1_goes_0 hG hSt) <| fI (fX1_goes_3 hG hSt) <| fI (fX1_goes_69 hG hSt) <| fI (fX1_goes_73 hG hSt) <| fI (fX1_goes_80 hG hSt) <| fI (fX1_goes_89 hG hSt) <| fI (fX1_goes_125 hG hSt) <| fI (fX1_goes_167 hG hSt) <| fI (fX1_goes_173 hG hSt) <| trivial
theorem fX1_drifts_0 {X : tp_X} {az : Array Value} (hG : tp_Good X az) (hSt : tp_Stat X) : tp_Fit X yX1_drifts cX1_drifts (some .int) 4 tp_nm tp_by tp_ml tp_rtt 0 [o_ald (.aload_n 0) 0, o_ild (.iload_n 1) 1, o_ald (.aload_n 0) 0, o_getf (.getfield 12) 1 0, o_getf (.getfield 118) 2 8, o_ild (.iload_n 2) 2, o_lda .aaload [4, 5, 6, 7, 28, 29], o_int (.iconst 0) 0, o_lda .iaload [0, 20], o_ald (.aload_n 0) 0, o_getf (.getfield 12) 1 0, o_getf (.getfield 118) 2 8, o_ild (.iload_n 2) 2, o_lda .aaload [4, 5, 6, 7, 28, 29], o_int (.iconst 1) 1, o_lda .iaload [0, 20], o_cv (.invokevirtual 165) 1 kX1_beside 3 0, o_ist (.istore_n 3) 3, o_ild (.iload_n 3) 3, o_int (.iconst (-1)) (-1), o_icmpne 7 37, o_ild (.iload_n 1) 1, o_goto 4 38] :=
  fG mo_ald (sim_ald_n dX1_drifts_0 rfl) <|
  fG mo_ild (sim_ild_n dX1_drifts_1 rfl) <|
  fG mo_ald (sim_ald_n dX1_drifts_2 rfl) <|
  fG mo_getf (sim_getfG hG dX1_drifts_3 hc_1 (by decide) rfl in_X1 (fun _ _ _ h => h) (Or.inl q256)) <|
  fG mo_getf (sim_getfG hG dX1_drifts_6 hc_2 (by decide) rfl in_X2 (fun _ _ _ h => h) (Or.inr ⟨_, q195⟩)) <|
  fG mo_ild (sim_ild_n dX1_drifts_9 rfl) <|
  fG mo_lda (sim_aald dX1_drifts_10) <|
  fG mo_int (sim_iconst dX1_drifts_11 (by decide)) <|
  fG mo_lda (sim_iald dX1_drifts_12) <|
  fG mo_ald (sim_ald_n dX1_drifts_13 rfl) <|
  fG mo_getf (sim_getfG hG dX1_drifts_14 hc_1 (by decide) rfl in_X1 (fun _ _ _ h => h) (Or.inl q256)) <|
  fG mo_getf (sim_getfG hG dX1_drifts_17 hc_2 (by decide) rfl in_X2 (fun _ _ _ h => h) (Or.inr ⟨_, q195⟩)) <|
  fG mo_ild (sim_ild_n dX1_drifts_20 rfl) <|
  fG mo_lda (sim_aald dX1_drifts_21) <|
  fG mo_int (sim_iconst dX1_drifts_22 (by decide)) <|
  fG mo_lda (sim_iald dX1_drifts_23) <|
  fC (ic_cv (Or.inl rfl)) (sim_cv hG dX1_drifts_24 (hG.2.1 1 _ hc_1).2.1 M_X1_beside (by rw [nm_X1_beside]; rfl) (by rw [nm_X1_beside]; exact q906) (by rw [nm_X1_beside]; exact q908) (by rw [nm_X1_beside]; exact qs21)) <|
  fG mo_ist (sim_ist_n dX1_drifts_27 rfl) <|
  fG mo_ild (sim_ild_n dX1_drifts_28 rfl) <|
  fG mo_int (sim_iconst dX1_drifts_29 (by decide)) <|
  fG mo_icmpne (sim_icmpne dX1_drifts_30 rfl) <|
  fG mo_ild (sim_ild_n dX1_drifts_33 rfl) <|
  fG mo_goto (sim_goto dX1_drifts_34 rfl) <|
  trivial
theorem fX1_drifts_37 {X : tp_X} {az : Array Value} (hG : tp_Good X az) (hSt : tp_Stat X) : tp_Fit X yX1_drifts cX1_drifts (some .int) 4 tp_nm tp_by tp_ml tp_rtt 37 [o_ild (.iload_n 3) 3, o_fall 38] :=
  fG mo_ild (sim_ild_n dX1_drifts_37 rfl) <|
  fF
theorem fX1_drifts_38 {X : tp_X} {az : Array Value} (hG : tp_Good X az) (hSt : tp_Stat X) : tp_Fit X yX1_drifts cX1_drifts (some .int) 4 tp_nm tp_by tp_ml tp_rtt 38 [o_iret 0] :=
  fE ie_iret (sim_iret dX1_drifts_38 rfl (Or.inl ⟨rfl, rfl⟩))
theorem F_X1_drifts {X : tp_X} {az : Array Value} (hG : tp_Good X az) (hSt : tp_Stat X) (pc : Nat) : tp_Fit X yX1_drifts cX1_drifts (some .int) 4 tp_nm tp_by tp_ml tp_rtt pc (mX1_drifts pc) :=
  fI (fX1_drifts_0 hG hSt) <| fI (fX1_drifts_37 hG hSt) <| fI (fX1_drifts_38 hG hSt) <| trivial
theorem fX1_nips_0 {X : tp_X} {az : Array Value} (hG : tp_Good X az) (hSt : tp_Stat X) : tp_Fit X yX1_nips cX1_nips (some .boolean) 6 tp_nm tp_by tp_ml tp_rtt 0 [o_ald (.aload_n 0) 0, o_cv (.invokevirtual 176) 1 kX1_rules 0 0, o_ast (.astore 5) 5, o_ald (.aload 5) 5, o_ifnon 5 13, o_int (.iconst 0) 0, o_iret 1] :=
  fG mo_ald (sim_ald_n dX1_nips_0 rfl) <|
  fC (ic_cv (Or.inl rfl)) (sim_cv hG dX1_nips_1 (hG.2.1 1 _ hc_1).2.1 M_X1_rules (by rw [nm_X1_rules]; rfl) (by rw [nm_X1_rules]; exact q914) (by rw [nm_X1_rules]; exact q916) (by rw [nm_X1_rules]; exact qs23)) <|
  fG mo_ast (sim_ast dX1_nips_4) <|
  fG mo_ald (sim_ald dX1_nips_6) <|
  fG mo_ifnon (sim_ifnon dX1_nips_8 rfl) <|
  fG mo_int (sim_iconst dX1_nips_11 (by decide)) <|
  fE ie_iret (sim_iret dX1_nips_12 rfl (Or.inr (Or.inl ⟨rfl, rfl⟩)))
theorem fX1_nips_13 {X : tp_X} {az : Array Value} (hG : tp_Good X az) (hSt : tp_Stat X) : tp_Fit X yX1_nips cX1_nips (some .boolean) 6 tp_nm tp_by tp_ml tp_rtt 13 [o_ald (.aload_n 0) 0, o_ald (.aload_n 1) 1, o_ild (.iload_n 2) 2, o_ild (.iload_n 3) 3, o_ild (.iload 4) 4, o_cv (.invokevirtual 191) 1 kX1_names 4 0, o_ald (.aload 5) 5, o_getf (.getfield 214) 5 1, o_ald (.aload_n 0) 0, o_getf (.getfield 30) 1 9, o_cs (.invokestatic 194) kX5_some 2 0, o_iret 1] :=
  fG mo_ald (sim_ald_n dX1_nips_13 rfl) <|
  fG mo_ald (sim_ald_n dX1_nips_14 rfl) <|
  fG mo_ild (sim_ild_n dX1_nips_15 rfl) <|
  fG mo_ild (sim_ild_n dX1_nips_16 rfl) <|
  fG mo_ild (sim_ild dX1_nips_17) <|
  fC (ic_cv (Or.inl rfl)) (sim_cv hG dX1_nips_19 (hG.2.1 1 _ hc_1).2.1 M_X1_names (by rw [nm_X1_names]; rfl) (by rw [nm_X1_names]; exact q919) (by rw [nm_X1_names]; exact q921) (by rw [nm_X1_names]; exact qs24)) <|
  fG mo_ald (sim_ald dX1_nips_22) <|
  fG mo_getf (sim_getfG hG dX1_nips_24 hc_5 (by decide) rfl in_X5 (fun _ _ _ h => h) (Or.inr ⟨_, q463⟩)) <|
  fG mo_ald (sim_ald_n dX1_nips_27 rfl) <|
  fG mo_getf (sim_getfG hG dX1_nips_28 hc_1 (by decide) rfl in_X1 (fun _ _ _ h => h) (Or.inl q265)) <|
  fC (ic_cs (Or.inl rfl)) (sim_cs hG dX1_nips_31 M_X5_some (by rw [nm_X5_some]; rfl) (by rw [nm_X5_some]; exact q923) (by rw [nm_X5_some]; exact q924)) <|
  fE ie_iret (sim_iret dX1_nips_34 rfl (Or.inr (Or.inl ⟨rfl, rfl⟩)))
theorem F_X1_nips {X : tp_X} {az : Array Value} (hG : tp_Good X az) (hSt : tp_Stat X) (pc : Nat) : tp_Fit X yX1_nips cX1_nips (some .boolean) 6 tp_nm tp_by tp_ml tp_rtt pc (mX1_nips pc) :=
  fI (fX1_nips_0 hG hSt) <| fI (fX1_nips_13 hG hSt) <| trivial
theorem fX1_of_0 {X : tp_X} {az : Array Value} (hG : tp_Good X az) (hSt : tp_Stat X) : tp_Fit X yX1_of cX1_of (some .int) 3 tp_nm tp_by tp_ml tp_rtt 0 [o_ild (.iload_n 1) 1, o_int (.iconst 0) 0, o_int (.iconst 1) 1, o_cs (.invokestatic 94) kX1_in 3 0, o_ifeq 41 47, o_ild (.iload_n 2) 2, o_int (.iconst 0) 0, o_int (.iconst 3) 3, o_cs (.invokestatic 94) kX1_in 3 0, o_ifeq 32 47, o_ald (.aload_n 0) 0, o_getf (.getfield 12) 1 0, o_getf (.getfield 130) 2 10, o_ild (.iload_n 1) 1, o_lda .aaload [4, 5, 6, 7, 28, 29], o_int (.iconst 0) 0, o_lda .iaload [0, 20], o_int (.iconst (-1)) (-1), o_icmpeq 17 47, o_ald (.aload_n 0) 0, o_getf (.getfield 12) 1 0, o_getf (.getfield 130) 2 10, o_ild (.iload_n 1) 1, o_lda .aaload [4, 5, 6, 7, 28, 29], o_ild (.iload_n 2) 2, o_lda .iaload [0, 20], o_goto 4 48] :=
  fG mo_ild (sim_ild_n dX1_of_0 rfl) <|
  fG mo_int (sim_iconst dX1_of_1 (by decide)) <|
  fG mo_int (sim_iconst dX1_of_2 (by decide)) <|
  fC (ic_cs (Or.inl rfl)) (sim_cs hG dX1_of_3 M_X1_in (by rw [nm_X1_in]; rfl) (by rw [nm_X1_in]; exact q335) (by rw [nm_X1_in]; exact q336)) <|
  fG mo_ifeq (sim_ifeq dX1_of_6 rfl) <|
  fG mo_ild (sim_ild_n dX1_of_9 rfl) <|
  fG mo_int (sim_iconst dX1_of_10 (by decide)) <|
  fG mo_int (sim_iconst dX1_of_11 (by decide)) <|
  fC (ic_cs (Or.inl rfl)) (sim_cs hG dX1_of_12 M_X1_in (by rw [nm_X1_in]; rfl) (by rw [nm_X1_in]; exact q335) (by rw [nm_X1_in]; exact q336)) <|
  fG mo_ifeq (sim_ifeq dX1_of_15 rfl) <|
  fG mo_ald (sim_ald_n dX1_of_18 rfl) <|
  fG mo_getf (sim_getfG hG dX1_of_19 hc_1 (by decide) rfl in_X1 (fun _ _ _ h => h) (Or.inl q256)) <|
  fG mo_getf (sim_getfG hG dX1_of_22 hc_2 (by decide) rfl in_X2 (fun _ _ _ h => h) (Or.inr ⟨_, q199⟩)) <|
  fG mo_ild (sim_ild_n dX1_of_25 rfl) <|
  fG mo_lda (sim_aald dX1_of_26) <|
  fG mo_int (sim_iconst dX1_of_27 (by decide)) <|
  fG mo_lda (sim_iald dX1_of_28) <|
  fG mo_int (sim_iconst dX1_of_29 (by decide)) <|
  fG mo_icmpeq (sim_icmpeq dX1_of_30 rfl) <|
  fG mo_ald (sim_ald_n dX1_of_33 rfl) <|
  fG mo_getf (sim_getfG hG dX1_of_34 hc_1 (by decide) rfl in_X1 (fun _ _ _ h => h) (Or.inl q256)) <|
  fG mo_getf (sim_getfG hG dX1_of_37 hc_2 (by decide) rfl in_X2 (fun _ _ _ h => h) (Or.inr ⟨_, q199⟩)) <|
  fG mo_ild (sim_ild_n dX1_of_40 rfl) <|
  fG mo_lda (sim_aald dX1_of_41) <|
  fG mo_ild (sim_ild_n dX1_of_42 rfl) <|
  fG mo_lda (sim_iald dX1_of_43) <|
  fG mo_goto (sim_goto dX1_of_44 rfl) <|
  trivial
theorem fX1_of_47 {X : tp_X} {az : Array Value} (hG : tp_Good X az) (hSt : tp_Stat X) : tp_Fit X yX1_of cX1_of (some .int) 3 tp_nm tp_by tp_ml tp_rtt 47 [o_int (.iconst (-1)) (-1), o_fall 48] :=
  fG mo_int (sim_iconst dX1_of_47 (by decide)) <|
  fF
theorem fX1_of_48 {X : tp_X} {az : Array Value} (hG : tp_Good X az) (hSt : tp_Stat X) : tp_Fit X yX1_of cX1_of (some .int) 3 tp_nm tp_by tp_ml tp_rtt 48 [o_iret 0] :=
  fE ie_iret (sim_iret dX1_of_48 rfl (Or.inl ⟨rfl, rfl⟩))
theorem F_X1_of {X : tp_X} {az : Array Value} (hG : tp_Good X az) (hSt : tp_Stat X) (pc : Nat) : tp_Fit X yX1_of cX1_of (some .int) 3 tp_nm tp_by tp_ml tp_rtt pc (mX1_of pc) :=
  fI (fX1_of_0 hG hSt) <| fI (fX1_of_47 hG hSt) <| fI (fX1_of_48 hG hSt) <| trivial
theorem fX1_soonest_0 {X : tp_X} {az : Array Value} (hG : tp_Good X az) (hSt : tp_Stat X) : tp_Fit X yX1_soonest cX1_soonest (some .int) 8 tp_nm tp_by tp_ml tp_rtt 0 [o_ild (.iload_n 1) 1, o_int (.iconst 0) 0, o_int (.iconst 1) 1, o_cs (.invokestatic 94) kX1_in 3 0, o_ifne 14 20, o_ild (.iload_n 1) 1, o_int (.bipush 10) 10, o_int (.bipush 21) 21, o_cs (.invokestatic 94) kX1_in 3 0, o_ifeq 12 29, o_fall 20] :=
  fG mo_ild (sim_ild_n dX1_soonest_0 rfl) <|
  fG mo_int (sim_iconst dX1_soonest_1 (by decide)) <|
  fG mo_int (sim_iconst dX1_soonest_2 (by decide)) <|
  fC (ic_cs (Or.inl rfl)) (sim_cs hG dX1_soonest_3 M_X1_in (by rw [nm_X1_in]; rfl) (by rw [nm_X1_in]; exact q335) (by rw [nm_X1_in]; exact q336)) <|
  fG mo_ifne (sim_ifne dX1_soonest_6 rfl) <|
  fG mo_ild (sim_ild_n dX1_soonest_9 rfl) <|
  fG mo_int (sim_bipush dX1_soonest_10 (by decide)) <|
  fG mo_int (sim_bipush dX1_soonest_12 (by decide)) <|
  fC (ic_cs (Or.inl rfl)) (sim_cs hG dX1_soonest_14 M_X1_in (by rw [nm_X1_in]; rfl) (by rw [nm_X1_in]; exact q335) (by rw [nm_X1_in]; exact q336)) <|
  fG mo_ifeq (sim_ifeq dX1_soonest_17 rfl) <|
  fF
theorem fX1_soonest_20 {X : tp_X} {az : Array Value} (hG : tp_Good X az) (hSt : tp_Stat X) : tp_Fit X yX1_soonest cX1_soonest (some .int) 8 tp_nm tp_by tp_ml tp_rtt 20 [o_ald (.aload_n 0) 0, o_cv (.invokevirtual 287) 1 kX1_ship_2 0 0, o_int (.iconst 3) 3, o_lda .iaload [0, 20], o_ifeq 5 31, o_fall 29] :=
  fG mo_ald (sim_ald_n dX1_soonest_20 rfl) <|
  fC (ic_cv (Or.inl rfl)) (sim_cv hG dX1_soonest_21 (hG.2.1 1 _ hc_1).2.1 M_X1_ship_2 (by rw [nm_X1_ship_2]; rfl) (by rw [nm_X1_ship_2]; exact q1044) (by rw [nm_X1_ship_2]; exact q1046) (by rw [nm_X1_ship_2]; exact qs30)) <|
  fG mo_int (sim_iconst dX1_soonest_24 (by decide)) <|
  fG mo_lda (sim_iald dX1_soonest_25) <|
  fG mo_ifeq (sim_ifeq dX1_soonest_26 rfl) <|
  fF
theorem fX1_soonest_29 {X : tp_X} {az : Array Value} (hG : tp_Good X az) (hSt : tp_Stat X) : tp_Fit X yX1_soonest cX1_soonest (some .int) 8 tp_nm tp_by tp_ml tp_rtt 29 [o_int (.iconst (-1)) (-1), o_iret 0] :=
  fG mo_int (sim_iconst dX1_soonest_29 (by decide)) <|
  fE ie_iret (sim_iret dX1_soonest_30 rfl (Or.inl ⟨rfl, rfl⟩))
theorem fX1_soonest_31 {X : tp_X} {az : Array Value} (hG : tp_Good X az) (hSt : tp_Stat X) : tp_Fit X yX1_soonest cX1_soonest (some .int) 8 tp_nm tp_by tp_ml tp_rtt 31 [o_ald (.aload_n 0) 0, o_cv (.invokevirtual 290) 1 kX1_laysAhead 0 0, o_ald (.aload_n 0) 0, o_getf (.getfield 46) 1 14, o_int (.iconst (-1)) (-1), o_cs (.invokestatic 293) kJ0_fill 2 0, o_ald (.aload_n 0) 0, o_cv (.invokevirtual 287) 1 kX1_ship_2 0 0, o_int (.iconst 0) 0, o_lda .iaload [0, 20], o_ist (.istore_n 2) 2, o_ald (.aload_n 0) 0, o_cv (.invokevirtual 287) 1 kX1_ship_2 0 0, o_int (.iconst 1) 1, o_lda .iaload [0, 20], o_ist (.istore_n 3) 3, o_ald (.aload_n 0) 0, o_cv (.invokevirtual 287) 1 kX1_ship_2 0 0, o_int (.iconst 2) 2, o_lda .iaload [0, 20], o_ist (.istore 4) 4, o_ald (.aload_n 0) 0, o_int (.iconst 0) 0, o_ild (.iload_n 2) 2, o_ild (.iload_n 3) 3, o_ild (.iload 4) 4, o_cv (.invokevirtual 283) 1 kX1_soonest_2 4 0, o_ist (.istore 5) 5, o_ild (.iload 5) 5, o_int (.ldc_w 266) 1000000, o_icmpne 5 86, o_int (.iconst (-1)) (-1), o_iret 0] :=
  fG mo_ald (sim_ald_n dX1_soonest_31 rfl) <|
  fC (ic_cv (Or.inl rfl)) (sim_cv hG dX1_soonest_32 (hG.2.1 1 _ hc_1).2.1 M_X1_laysAhead (by rw [nm_X1_laysAhead]; rfl) (by rw [nm_X1_laysAhead]; exact q1048) (by rw [nm_X1_laysAhead]; exact q1050) (by rw [nm_X1_laysAhead]; exact qs31)) <|
  fG mo_ald (sim_ald_n dX1_soonest_35 rfl) <|
  fG mo_getf (sim_getfG hG dX1_soonest_36 hc_1 (by decide) rfl in_X1 (fun _ _ _ h => h) (Or.inl q270)) <|
  fG mo_int (sim_iconst dX1_soonest_39 (by decide)) <|
  fC (ic_cs (Or.inl rfl)) (sim_cs hG dX1_soonest_40 M_J0_fill (by rw [nm_J0_fill]; rfl) (by rw [nm_J0_fill]; exact q1056) (by rw [nm_J0_fill]; exact q176)) <|
  fG mo_ald (sim_ald_n dX1_soonest_43 rfl) <|
  fC (ic_cv (Or.inl rfl)) (sim_cv hG dX1_soonest_44 (hG.2.1 1 _ hc_1).2.1 M_X1_ship_2 (by rw [nm_X1_ship_2]; rfl) (by rw [nm_X1_ship_2]; exact q1044) (by rw [nm_X1_ship_2]; exact q1046) (by rw [nm_X1_ship_2]; exact qs30)) <|
  fG mo_int (sim_iconst dX1_soonest_47 (by decide)) <|
  fG mo_lda (sim_iald dX1_soonest_48) <|
  fG mo_ist (sim_ist_n dX1_soonest_49 rfl) <|
  fG mo_ald (sim_ald_n dX1_soonest_50 rfl) <|
  fC (ic_cv (Or.inl rfl)) (sim_cv hG dX1_soonest_51 (hG.2.1 1 _ hc_1).2.1 M_X1_ship_2 (by rw [nm_X1_ship_2]; rfl) (by rw [nm_X1_ship_2]; exact q1044) (by rw [nm_X1_ship_2]; exact q1046) (by rw [nm_X1_ship_2]; exact qs30)) <|
  fG mo_int (sim_iconst dX1_soonest_54 (by decide)) <|
  fG mo_lda (sim_iald dX1_soonest_55) <|
  fG mo_ist (sim_ist_n dX1_soonest_56 rfl) <|
  fG mo_ald (sim_ald_n dX1_soonest_57 rfl) <|
  fC (ic_cv (Or.inl rfl)) (sim_cv hG dX1_soonest_58 (hG.2.1 1 _ hc_1).2.1 M_X1_ship_2 (by rw [nm_X1_ship_2]; rfl) (by rw [nm_X1_ship_2]; exact q1044) (by rw [nm_X1_ship_2]; exact q1046) (by rw [nm_X1_ship_2]; exact qs30)) <|
  fG mo_int (sim_iconst dX1_soonest_61 (by decide)) <|
  fG mo_lda (sim_iald dX1_soonest_62) <|
  fG mo_ist (sim_ist dX1_soonest_63) <|
  fG mo_ald (sim_ald_n dX1_soonest_65 rfl) <|
  fG mo_int (sim_iconst dX1_soonest_66 (by decide)) <|
  fG mo_ild (sim_ild_n dX1_soonest_67 rfl) <|
  fG mo_ild (sim_ild_n dX1_soonest_68 rfl) <|
  fG mo_ild (sim_ild dX1_soonest_69) <|
  fC (ic_cv (Or.inl rfl)) (sim_cv hG dX1_soonest_71 (hG.2.1 1 _ hc_1).2.1 M_X1_soonest_2 (by rw [nm_X1_soonest_2]; rfl) (by rw [nm_X1_soonest_2]; exact q1057) (by rw [nm_X1_soonest_2]; exact q1059) (by rw [nm_X1_soonest_2]; exact qs33)) <|
  fG mo_ist (sim_ist dX1_soonest_74) <|
  fG mo_ild (sim_ild dX1_soonest_76) <|
  fG mo_int (sim_ldcw hG dX1_soonest_78 q1061 rfl) <|
  fG mo_icmpne (sim_icmpne dX1_soonest_81 rfl) <|
  fG mo_int (sim_iconst dX1_soonest_84 (by decide)) <|
  fE ie_iret (sim_iret dX1_soonest_85 rfl (Or.inl ⟨rfl, rfl⟩))
theorem fX1_soonest_86 {X : tp_X} {az : Array Value} (hG : tp_Good X az) (hSt : tp_Stat X) : tp_Fit X yX1_soonest cX1_soonest (some .int) 8 tp_nm tp_by tp_ml tp_rtt 86 [o_ild (.iload_n 1) 1, o_int (.iconst 2) 2, o_icmpge 24 112, o_ild (.iload_n 1) 1, o_ifne 11 103, o_ild (.iload 5) 5, o_int (.bipush 100) 100, o_idiv, o_goto 11 111] :=
  fG mo_ild (sim_ild_n dX1_soonest_86 rfl) <|
  fG mo_int (sim_iconst dX1_soonest_87 (by decide)) <|
  fG mo_icmpge (sim_icmpge dX1_soonest_88 rfl) <|
  fG mo_ild (sim_ild_n dX1_soonest_91 rfl) <|
  fG mo_ifne (sim_ifne dX1_soonest_92 rfl) <|
  fG mo_ild (sim_ild dX1_soonest_95) <|
  fG mo_int (sim_bipush dX1_soonest_97 (by decide)) <|
  fG mo_idiv (sim_idiv dX1_soonest_99) <|
  fG mo_goto (sim_goto dX1_soonest_100 rfl) <|
  trivial
theorem fX1_soonest_103 {X : tp_X} {az : Array Value} (hG : tp_Good X az) (hSt : tp_Stat X) : tp_Fit X yX1_soonest cX1_soonest (some .int) 8 tp_nm tp_by tp_ml tp_rtt 103 [o_int (.bipush 99) 99, o_ild (.iload 5) 5, o_int (.bipush 100) 100, o_irem, o_isub, o_fall 111] :=
  fG mo_int (sim_bipush dX1_soonest_103 (by decide)) <|
  fG mo_ild (sim_ild dX1_soonest_105) <|
  fG mo_int (sim_bipush dX1_soonest_107 (by decide)) <|
  fG mo_irem (sim_irem dX1_soonest_109) <|
  fG mo_isub (sim_isub dX1_soonest_110) <|
  fF
theorem fX1_soonest_111 {X : tp_X} {az : Array Value} (hG : tp_Good X az) (hSt : tp_Stat X) : tp_Fit X yX1_soonest cX1_soonest (some .int) 8 tp_nm tp_by tp_ml tp_rtt 111 [o_iret 0] :=
  fE ie_iret (sim_iret dX1_soonest_111 rfl (Or.inl ⟨rfl, rfl⟩))
theorem fX1_soonest_112 {X : tp_X} {az : Array Value} (hG : tp_Good X az) (hSt : tp_Stat X) : tp_Fit X yX1_soonest cX1_soonest (some .int) 8 tp_nm tp_by tp_ml tp_rtt 112 [o_int (.iconst 0) 0, o_ist (.istore 6) 6, o_fall 115] :=
  fG mo_int (sim_iconst dX1_soonest_112 (by decide)) <|
  fG mo_ist (sim_ist dX1_soonest_113) <|
  fF
theorem fX1_soonest_115 {X : tp_X} {az : Array Value} (hG : tp_Good X az) (hSt : tp_Stat X) : tp_Fit X yX1_soonest cX1_soonest (some .int) 8 tp_nm tp_by tp_ml tp_rtt 115 [o_ild (.iload 6) 6, o_ild (.iload 5) 5, o_int (.bipush 100) 100, o_idiv, o_icmpge 81 203, o_int (.iconst 0) 0, o_ist (.istore 7) 7, o_fall 128] :=
  fG mo_ild (sim_ild dX1_soonest_115) <|
  fG mo_ild (sim_ild dX1_soonest_117) <|
  fG mo_int (sim_bipush dX1_soonest_119 (by decide)) <|
  fG mo_idiv (sim_idiv dX1_soonest_121) <|
  fG mo_icmpge (sim_icmpge dX1_soonest_122 rfl) <|
  fG mo_int (sim_iconst dX1_soonest_125 (by decide)) <|
  fG mo_ist (sim_ist dX1_soonest_126) <|
  fF
theorem fX1_soonest_128 {X : tp_X} {az : Array Value} (hG : tp_Good X az) (hSt : tp_Stat X) : tp_Fit X yX1_soonest cX1_soonest (some .int) 8 tp_nm tp_by tp_ml tp_rtt 128 [o_ald (.aload_n 0) 0, o_ild (.iload 6) 6, o_ild (.iload_n 2) 2, o_ild (.iload_n 3) 3, o_ild (.iload 4) 4, o_ild (.iload 7) 7, o_cv (.invokevirtual 267) 1 kX1_soonestBy 5 0, o_ild (.iload 5) 5, o_icmpeq 9 151, o_inc 7 1, o_goto (-20) 128] :=
  fG mo_ald (sim_ald_n dX1_soonest_128 rfl) <|
  fG mo_ild (sim_ild dX1_soonest_129) <|
  fG mo_ild (sim_ild_n dX1_soonest_131 rfl) <|
  fG mo_ild (sim_ild_n dX1_soonest_132 rfl) <|
  fG mo_ild (sim_ild dX1_soonest_133) <|
  fG mo_ild (sim_ild dX1_soonest_135) <|
  fC (ic_cv (Or.inl rfl)) (sim_cv hG dX1_soonest_137 (hG.2.1 1 _ hc_1).2.1 M_X1_soonestBy (by rw [nm_X1_soonestBy]; rfl) (by rw [nm_X1_soonestBy]; exact q1062) (by rw [nm_X1_soonestBy]; exact q1064) (by rw [nm_X1_soonestBy]; exact qs34)) <|
  fG mo_ild (sim_ild dX1_soonest_140) <|
  fG mo_icmpeq (sim_icmpeq dX1_soonest_142 rfl) <|
  fG mo_inc (sim_inc dX1_soonest_145 (by decide)) <|
  fG mo_goto (sim_goto dX1_soonest_148 rfl) <|
  trivial
theorem fX1_soonest_151 {X : tp_X} {az : Array Value} (hG : tp_Good X az) (hSt : tp_Stat X) : tp_Fit X yX1_soonest cX1_soonest (some .int) 8 tp_nm tp_by tp_ml tp_rtt 151 [o_ild (.iload 6) 6, o_ild (.iload_n 1) 1, o_int (.bipush 10) 10, o_isub, o_icmpne 6 163, o_ild (.iload 7) 7, o_iret 0] :=
  fG mo_ild (sim_ild dX1_soonest_151) <|
  fG mo_ild (sim_ild_n dX1_soonest_153 rfl) <|
  fG mo_int (sim_bipush dX1_soonest_154 (by decide)) <|
  fG mo_isub (sim_isub dX1_soonest_156) <|
  fG mo_icmpne (sim_icmpne dX1_soonest_157 rfl) <|
  fG mo_ild (sim_ild dX1_soonest_160) <|
  fE ie_iret (sim_iret dX1_soonest_162 rfl (Or.inl ⟨rfl, rfl⟩))
theorem fX1_soonest_163 {X : tp_X} {az : Array Value} (hG : tp_Good X az) (hSt : tp_Stat X) : tp_Fit X yX1_soonest cX1_soonest (some .int) 8 tp_nm tp_by tp_ml tp_rtt 163 [o_ild (.iload_n 3) 3, o_ald (.aload_n 0) 0, o_ild (.iload 6) 6, o_ild (.iload 7) 7, o_ild (.iload_n 2) 2, o_ild (.iload_n 3) 3, o_ild (.iload 4) 4, o_cv (.invokevirtual 271) 1 kX1_costAt 5 0, o_isub, o_ist (.istore_n 3) 3, o_ald (.aload_n 0) 0, o_ild (.iload 6) 6, o_ild (.iload 7) 7, o_ild (.iload_n 2) 2, o_cv (.invokevirtual 274) 1 kX1_cellBehind 3 0, o_ist (.istore_n 2) 2, o_ild (.iload 7) 7, o_ild (.iload 4) 4, o_cs (.invokestatic 280) kX1_fires 2 0, o_ist (.istore 4) 4, o_inc 6 1, o_goto (-85) 115] :=
  fG mo_ild (sim_ild_n dX1_soonest_163 rfl) <|
  fG mo_ald (sim_ald_n dX1_soonest_164 rfl) <|
  fG mo_ild (sim_ild dX1_soonest_165) <|
  fG mo_ild (sim_ild dX1_soonest_167) <|
  fG mo_ild (sim_ild_n dX1_soonest_169 rfl) <|
  fG mo_ild (sim_ild_n dX1_soonest_170 rfl) <|
  fG mo_ild (sim_ild dX1_soonest_171) <|
  fC (ic_cv (Or.inl rfl)) (sim_cv hG dX1_soonest_173 (hG.2.1 1 _ hc_1).2.1 M_X1_costAt (by rw [nm_X1_costAt]; rfl) (by rw [nm_X1_costAt]; exact q1066) (by rw [nm_X1_costAt]; exact q1068) (by rw [nm_X1_costAt]; exact qs35)) <|
  fG mo_isub (sim_isub dX1_soonest_176) <|
  fG mo_ist (sim_ist_n dX1_soonest_177 rfl) <|
  fG mo_ald (sim_ald_n dX1_soonest_178 rfl) <|
  fG mo_ild (sim_ild dX1_soonest_179) <|
  fG mo_ild (sim_ild dX1_soonest_181) <|
  fG mo_ild (sim_ild_n dX1_soonest_183 rfl) <|
  fC (ic_cv (Or.inl rfl)) (sim_cv hG dX1_soonest_184 (hG.2.1 1 _ hc_1).2.1 M_X1_cellBehind (by rw [nm_X1_cellBehind]; rfl) (by rw [nm_X1_cellBehind]; exact q1074) (by rw [nm_X1_cellBehind]; exact q1076) (by rw [nm_X1_cellBehind]; exact qs37)) <|
  fG mo_ist (sim_ist_n dX1_soonest_187 rfl) <|
  fG mo_ild (sim_ild dX1_soonest_188) <|
  fG mo_ild (sim_ild dX1_soonest_190) <|
  fC (ic_cs (Or.inl rfl)) (sim_cs hG dX1_soonest_192 M_X1_fires (by rw [nm_X1_fires]; rfl) (by rw [nm_X1_fires]; exact q1082) (by rw [nm_X1_fires]; exact q1083)) <|
  fG mo_ist (sim_ist dX1_soonest_195) <|
  fG mo_inc (sim_inc dX1_soonest_197 (by decide)) <|
  fG mo_goto (sim_goto dX1_soonest_200 rfl) <|
  trivial
theorem fX1_soonest_203 {X : tp_X} {az : Array Value} (hG : tp_Good X az) (hSt : tp_Stat X) : tp_Fit X yX1_soonest cX1_soonest (some .int) 8 tp_nm tp_by tp_ml tp_rtt 203 [o_int (.iconst (-1)) (-1), o_iret 0] :=
  fG mo_int (sim_iconst dX1_soonest_203 (by decide)) <|
  fE ie_iret (sim_iret dX1_soonest_204 rfl (Or.inl ⟨rfl, rfl⟩))
theorem F_X1_soonest {X : tp_X} {az : Array Value} (hG : tp_Good X az) (hSt : tp_Stat X) (pc : Nat) : tp_Fit X yX1_soonest cX1_soonest (some .int) 8 tp_nm tp_by tp_ml tp_rtt pc (mX1_soonest pc) :=
  fI (fX1_soonest_0 hG hSt) <| fI (fX1_soonest_20 hG hSt) <| fI (fX1_soonest_29 hG hSt) <| fI (fX1_soonest_31 hG hSt) <| fI (fX1_soonest_86 hG hSt) <| fI (fX1_soonest_103 hG hSt) <| fI (fX1_soonest_111 hG hSt) <| fI (fX1_soonest_112 hG hSt) <| fI (fX1_soonest_115 hG hSt) <| fI (fX1_soonest_128 hG hSt) <| fI (fX1_soonest_151 hG hSt) <| fI (fX1_soonest_163 hG hSt) <| fI (fX1_soonest_203 hG hSt) <| trivial
theorem fX1_ship_2_0 {X : tp_X} {az : Array Value} (hG : tp_Good X az) (hSt : tp_Stat X) : tp_Fit X yX1_ship_2 cX1_ship_2 (some (.array .int)) 1 tp_nm tp_by tp_ml tp_rtt 0 [o_ald (.aload_n 0) 0, o_getf (.getfield 12) 1 0, o_getf (.getfield 130) 2 10, o_int (.iconst 0) 0, o_lda .aaload [4, 5, 6, 7, 28, 29], o_aret] :=
  fG mo_ald (sim_ald_n dX1_ship_2_0 rfl) <|
  fG mo_getf (sim_getfG hG dX1_ship_2_1 hc_1 (by decide) rfl in_X1 (fun _ _ _ h => h) (Or.inl q256)) <|
  fG mo_getf (sim_getfG hG dX1_ship_2_4 hc_2 (by decide) rfl in_X2 (fun _ _ _ h => h) (Or.inr ⟨_, q199⟩)) <|
  fG mo_int (sim_iconst dX1_ship_2_7 (by decide)) <|
  fG mo_lda (sim_aald dX1_ship_2_8) <|
  fE ie_aret (sim_aret dX1_ship_2_9 rfl (Or.inr ⟨_, rfl⟩))
theorem F_X1_ship_2 {X : tp_X} {az : Array Value} (hG : tp_Good X az) (hSt : tp_Stat X) (pc : Nat) : tp_Fit X yX1_ship_2 cX1_ship_2 (some (.array .int)) 1 tp_nm tp_by tp_ml tp_rtt pc (mX1_ship_2 pc) :=
  fI (fX1_ship_2_0 hG hSt) <| trivial
theorem fX1_laysAhead_0 {X : tp_X} {az : Array Value} (hG : tp_Good X az) (hSt : tp_Stat X) : tp_Fit X yX1_laysAhead cX1_laysAhead none 1 tp_nm tp_by tp_ml tp_rtt 0 [o_ald (.aload_n 0) 0, o_ald (.aload_n 0) 0, o_getf (.getfield 12) 1 0, o_getf (.getfield 112) 2 0, o_int (.iconst 4) 4, o_lda .iaload [0, 20], o_putf (.putfield 254) 1 11 0, o_ald (.aload_n 0) 0, o_getf (.getfield 12) 1 0, o_getf (.getfield 257) 2 3, o_int (.iconst 0) 0, o_ald (.aload_n 0) 0, o_getf (.getfield 37) 1 12, o_int (.iconst 0) 0, o_int (.bipush 12) 12, o_acopy (.invokestatic 124), o_ald (.aload_n 0) 0, o_cv (.invokevirtual 260) 1 kX1_laysSea 0 0, o_vret] :=
  fG mo_ald (sim_ald_n dX1_laysAhead_0 rfl) <|
  fG mo_ald (sim_ald_n dX1_laysAhead_1 rfl) <|
  fG mo_getf (sim_getfG hG dX1_laysAhead_2 hc_1 (by decide) rfl in_X1 (fun _ _ _ h => h) (Or.inl q256)) <|
  fG mo_getf (sim_getfG hG dX1_laysAhead_5 hc_2 (by decide) rfl in_X2 (fun _ _ _ h => h) (Or.inr ⟨_, q179⟩)) <|
  fG mo_int (sim_iconst dX1_laysAhead_8 (by decide)) <|
  fG mo_lda (sim_iald dX1_laysAhead_9) <|
  fG mo_putf (sim_putf hG dX1_laysAhead_10 hc_1 (by decide) rfl (by decide) in_X1 tyX1_ok nmX1 (Or.inl ⟨rfl, rfl⟩) (fun _ _ _ h => h) rfl q267) <|
  fG mo_ald (sim_ald_n dX1_laysAhead_13 rfl) <|
  fG mo_getf (sim_getfG hG dX1_laysAhead_14 hc_1 (by decide) rfl in_X1 (fun _ _ _ h => h) (Or.inl q256)) <|
  fG mo_getf (sim_getfG hG dX1_laysAhead_17 hc_2 (by decide) rfl in_X2 (fun _ _ _ h => h) (Or.inr ⟨_, q185⟩)) <|
  fG mo_int (sim_iconst dX1_laysAhead_20 (by decide)) <|
  fG mo_ald (sim_ald_n dX1_laysAhead_21 rfl) <|
  fG mo_getf (sim_getfG hG dX1_laysAhead_22 hc_1 (by decide) rfl in_X1 (fun _ _ _ h => h) (Or.inl q268)) <|
  fG mo_int (sim_iconst dX1_laysAhead_25 (by decide)) <|
  fG mo_int (sim_bipush dX1_laysAhead_26 (by decide)) <|
  fG mo_acopy (sim_acopy hG dX1_laysAhead_28 q361 q252 q251 q129) <|
  fG mo_ald (sim_ald_n dX1_laysAhead_31 rfl) <|
  fC (ic_cv (Or.inl rfl)) (sim_cv hG dX1_laysAhead_32 (hG.2.1 1 _ hc_1).2.1 M_X1_laysSea (by rw [nm_X1_laysSea]; rfl) (by rw [nm_X1_laysSea]; exact q1052) (by rw [nm_X1_laysSea]; exact q1054) (by rw [nm_X1_laysSea]; exact qs32)) <|
  fE ie_vret (sim_vret dX1_laysAhead_35 rfl)
theorem F_X1_laysAhead {X : tp_X} {az : Array Value} (hG : tp_Good X az) (hSt : tp_Stat X) (pc : Nat) : tp_Fit X yX1_laysAhead cX1_laysAhead none 1 tp_nm tp_by tp_ml tp_rtt pc (mX1_laysAhead pc) :=
  fI (fX1_laysAhead_0 hG hSt) <| trivial
theorem fX1_laysSea_0 {X : tp_X} {az : Array Value} (hG : tp_Good X az) (hSt : tp_Stat X) : tp_Fit X yX1_laysSea cX1_laysSea none 2 tp_nm tp_by tp_ml tp_rtt 0 [o_ald (.aload_n 0) 0, o_getf (.getfield 12) 1 0, o_getf (.getfield 102) 2 1, o_int (.iconst 0) 0, o_ald (.aload_n 0) 0, o_getf (.getfield 42) 1 13, o_int (.iconst 0) 0, o_lda .aaload [4, 5, 6, 7, 28, 29], o_int (.iconst 0) 0, o_int (.bipush 36) 36, o_acopy (.invokestatic 124), o_int (.iconst 0) 0, o_ist (.istore_n 1) 1, o_fall 22] :=
  fG mo_ald (sim_ald_n dX1_laysSea_0 rfl) <|
  fG mo_getf (sim_getfG hG dX1_laysSea_1 hc_1 (by decide) rfl in_X1 (fun _ _ _ h => h) (Or.inl q256)) <|
  fG mo_getf (sim_getfG hG dX1_laysSea_4 hc_2 (by decide) rfl in_X2 (fun _ _ _ h => h) (Or.inr ⟨_, q181⟩)) <|
  fG mo_int (sim_iconst dX1_laysSea_7 (by decide)) <|
  fG mo_ald (sim_ald_n dX1_laysSea_8 rfl) <|
  fG mo_getf (sim_getfG hG dX1_laysSea_9 hc_1 (by decide) rfl in_X1 (fun _ _ _ h => h) (Or.inl q269)) <|
  fG mo_int (sim_iconst dX1_laysSea_12 (by decide)) <|
  fG mo_lda (sim_aald dX1_laysSea_13) <|
  fG mo_int (sim_iconst dX1_laysSea_14 (by decide)) <|
  fG mo_int (sim_bipush dX1_laysSea_15 (by decide)) <|
  fG mo_acopy (sim_acopy hG dX1_laysSea_17 q361 q252 q251 q129) <|
  fG mo_int (sim_iconst dX1_laysSea_20 (by decide)) <|
  fG mo_ist (sim_ist_n dX1_laysSea_21 rfl) <|
  fF
theorem fX1_laysSea_22 {X : tp_X} {az : Array Value} (hG : tp_Good X az) (hSt : tp_Stat X) : tp_Fit X yX1_laysSea cX1_laysSea none 2 tp_nm tp_by tp_ml tp_rtt 22 [o_ild (.iload_n 1) 1, o_ald (.aload_n 0) 0, o_getf (.getfield 254) 1 11, o_icmpge 44 71, o_ald (.aload_n 0) 0, o_ald (.aload_n 0) 0, o_getf (.getfield 42) 1 13, o_ild (.iload_n 1) 1, o_lda .aaload [4, 5, 6, 7, 28, 29], o_ald (.aload_n 0) 0, o_getf (.getfield 42) 1 13, o_ild (.iload_n 1) 1, o_int (.iconst 1) 1, o_iadd, o_lda .aaload [4, 5, 6, 7, 28, 29], o_ald (.aload_n 0) 0, o_getf (.getfield 37) 1 12, o_ild (.iload_n 1) 1, o_lda .iaload [0, 20], o_ald (.aload_n 0) 0, o_getf (.getfield 12) 1 0, o_getf (.getfield 112) 2 0, o_int (.iconst 0) 0, o_lda .iaload [0, 20], o_ild (.iload_n 1) 1, o_iadd, o_cv (.invokevirtual 242) 1 kX1_goes 4 0, o_inc 1 1, o_goto (-46) 22] :=
  fG mo_ild (sim_ild_n dX1_laysSea_22 rfl) <|
  fG mo_ald (sim_ald_n dX1_laysSea_23 rfl) <|
  fG mo_getf (sim_getfG hG dX1_laysSea_24 hc_1 (by decide) rfl in_X1 (fun _ _ _ h => h) (Or.inl q267)) <|
  fG mo_icmpge (sim_icmpge dX1_laysSea_27 rfl) <|
  fG mo_ald (sim_ald_n dX1_laysSea_30 rfl) <|
  fG mo_ald (sim_ald_n dX1_laysSea_31 rfl) <|
  fG mo_getf (sim_getfG hG dX1_laysSea_32 hc_1 (by decide) rfl in_X1 (fun _ _ _ h => h) (Or.inl q269)) <|
  fG mo_ild (sim_ild_n dX1_laysSea_35 rfl) <|
  fG mo_lda (sim_aald dX1_laysSea_36) <|
  fG mo_ald (sim_ald_n dX1_laysSea_37 rfl) <|
  fG mo_getf (sim_getfG hG dX1_laysSea_38 hc_1 (by decide) rfl in_X1 (fun _ _ _ h => h) (Or.inl q269)) <|
  fG mo_ild (sim_ild_n dX1_laysSea_41 rfl) <|
  fG mo_int (sim_iconst dX1_laysSea_42 (by decide)) <|
  fG mo_iadd (sim_iadd dX1_laysSea_43) <|
  fG mo_lda (sim_aald dX1_laysSea_44) <|
  fG mo_ald (sim_ald_n dX1_laysSea_45 rfl) <|
  fG mo_getf (sim_getfG hG dX1_laysSea_46 hc_1 (by decide) rfl in_X1 (fun _ _ _ h => h) (Or.inl q268)) <|
  fG mo_ild (sim_ild_n dX1_laysSea_49 rfl) <|
  fG mo_lda (sim_iald dX1_laysSea_50) <|
  fG mo_ald (sim_ald_n dX1_laysSea_51 rfl) <|
  fG mo_getf (sim_getfG hG dX1_laysSea_52 hc_1 (by decide) rfl in_X1 (fun _ _ _ h => h) (Or.inl q256)) <|
  fG mo_getf (sim_getfG hG dX1_laysSea_55 hc_2 (by decide) rfl in_X2 (fun _ _ _ h => h) (Or.inr ⟨_, q179⟩)) <|
  fG mo_int (sim_iconst dX1_laysSea_58 (by decide)) <|
  fG mo_lda (sim_iald dX1_laysSea_59) <|
  fG mo_ild (sim_ild_n dX1_laysSea_60 rfl) <|
  fG mo_iadd (sim_iadd dX1_laysSea_61) <|
  fC (ic_cv (Or.inl rfl)) (sim_cv hG dX1_laysSea_62 (hG.2.1 1 _ hc_1).2.1 M_X1_goes (by rw [nm_X1_goes]; rfl) (by rw [nm_X1_goes]; exact q1024) (by rw [nm_X1_goes]; exact q1026) (by rw [nm_X1_goes]; exact qs27)) <|
  fG mo_inc (sim_inc dX1_laysSea_65 (by decide)) <|
  fG mo_goto (sim_goto dX1_laysSea_68 rfl) <|
  trivial
theorem fX1_laysSea_71 {X : tp_X} {az : Array Value} (hG : tp_Good X az) (hSt : tp_Stat X) : tp_Fit X yX1_laysSea cX1_laysSea none 2 tp_nm tp_by tp_ml tp_rtt 71 [o_vret] :=
  fE ie_vret (sim_vret dX1_laysSea_71 rfl)
theorem F_X1_laysSea {X : tp_X} {az : Array Value} (hG : tp_Good X az) (hSt : tp_Stat X) (pc : Nat) : tp_Fit X yX1_laysSea cX1_laysSea none 2 tp_nm tp_by tp_ml tp_rtt pc (mX1_laysSea pc) :=
  fI (fX1_laysSea_0 hG hSt) <| fI (fX1_laysSea_22 hG hSt) <| fI (fX1_laysSea_71 hG hSt) <| trivial
theorem fX1_soonest_2_0 {X : tp_X} {az : Array Value} (hG : tp_Good X az) (hSt : tp_Stat X) : tp_Fit X yX1_soonest_2 cX1_soonest_2 (some .int) 8 tp_nm tp_by tp_ml tp_rtt 0 [o_ild (.iload_n 1) 1, o_ald (.aload_n 0) 0, o_getf (.getfield 254) 1 11, o_icmpne 7 12, o_int (.ldc_w 266) 1000000, o_iret 0] :=
  fG mo_ild (sim_ild_n dX1_soonest_2_0 rfl) <|
  fG mo_ald (sim_ald_n dX1_soonest_2_1 rfl) <|
  fG mo_getf (sim_getfG hG dX1_soonest_2_2 hc_1 (by decide) rfl in_X1 (fun _ _ _ h => h) (Or.inl q267)) <|
  fG mo_icmpne (sim_icmpne dX1_soonest_2_5 rfl) <|
  fG mo_int (sim_ldcw hG dX1_soonest_2_8 q1061 rfl) <|
  fE ie_iret (sim_iret dX1_soonest_2_11 rfl (Or.inl ⟨rfl, rfl⟩))
theorem fX1_soonest_2_12 {X : tp_X} {az : Array Value} (hG : tp_Good X az) (hSt : tp_Stat X) : tp_Fit X yX1_soonest_2 cX1_soonest_2 (some .int) 8 tp_nm tp_by tp_ml tp_rtt 12 [o_int (.sipush 200) 200, o_int (.bipush 36) 36, o_ild (.iload_n 1) 1, o_imul, o_ild (.iload_n 2) 2, o_iadd, o_imul, o_int (.iconst 2) 2, o_ild (.iload_n 3) 3, o_imul, o_iadd, o_ild (.iload 4) 4, o_iadd, o_ist (.istore 5) 5, o_ald (.aload_n 0) 0, o_getf (.getfield 46) 1 14, o_ild (.iload 5) 5, o_lda .iaload [0, 20], o_int (.iconst (-1)) (-1), o_icmpeq 11 50, o_ald (.aload_n 0) 0, o_getf (.getfield 46) 1 14, o_ild (.iload 5) 5, o_lda .iaload [0, 20], o_iret 0] :=
  fG mo_int (sim_sipush dX1_soonest_2_12 (by decide)) <|
  fG mo_int (sim_bipush dX1_soonest_2_15 (by decide)) <|
  fG mo_ild (sim_ild_n dX1_soonest_2_17 rfl) <|
  fG mo_imul (sim_imul dX1_soonest_2_18) <|
  fG mo_ild (sim_ild_n dX1_soonest_2_19 rfl) <|
  fG mo_iadd (sim_iadd dX1_soonest_2_20) <|
  fG mo_imul (sim_imul dX1_soonest_2_21) <|
  fG mo_int (sim_iconst dX1_soonest_2_22 (by decide)) <|
  fG mo_ild (sim_ild_n dX1_soonest_2_23 rfl) <|
  fG mo_imul (sim_imul dX1_soonest_2_24) <|
  fG mo_iadd (sim_iadd dX1_soonest_2_25) <|
  fG mo_ild (sim_ild dX1_soonest_2_26) <|
  fG mo_iadd (sim_iadd dX1_soonest_2_28) <|
  fG mo_ist (sim_ist dX1_soonest_2_29) <|
  fG mo_ald (sim_ald_n dX1_soonest_2_31 rfl) <|
  fG mo_getf (sim_getfG hG dX1_soonest_2_32 hc_1 (by decide) rfl in_X1 (fun _ _ _ h => h) (Or.inl q270)) <|
  fG mo_ild (sim_ild dX1_soonest_2_35) <|
  fG mo_lda (sim_iald dX1_soonest_2_37) <|
  fG mo_int (sim_iconst dX1_soonest_2_38 (by decide)) <|
  fG mo_icmpeq (sim_icmpeq dX1_soonest_2_39 rfl) <|
  fG mo_ald (sim_ald_n dX1_soonest_2_42 rfl) <|
  fG mo_getf (sim_getfG hG dX1_soonest_2_43 hc_1 (by decide) rfl in_X1 (fun _ _ _ h => h) (Or.inl q270)) <|
  fG mo_ild (sim_ild dX1_soonest_2_46) <|
  fG mo_lda (sim_iald dX1_soonest_2_48) <|
  fE ie_iret (sim_iret dX1_soonest_2_49 rfl (Or.inl ⟨rfl, rfl⟩))
theorem fX1_soonest_2_50 {X : tp_X} {az : Array Value} (hG : tp_Good X az) (hSt : tp_Stat X) : tp_Fit X yX1_soonest_2 cX1_soonest_2 (some .int) 8 tp_nm tp_by tp_ml tp_rtt 50 [o_int (.ldc_w 266) 1000000, o_ist (.istore 6) 6, o_int (.iconst 0) 0, o_ist (.istore 7) 7, o_fall 58] :=
  fG mo_int (sim_ldcw hG dX1_soonest_2_50 q1061 rfl) <|
  fG mo_ist (sim_ist dX1_soonest_2_53) <|
  fG mo_int (sim_iconst dX1_soonest_2_55 (by decide)) <|
  fG mo_ist (sim_ist dX1_soonest_2_56) <|
  fF
theorem fX1_soonest_2_58 {X : tp_X} {az : Array Value} (hG : tp_Good X az) (hSt : tp_Stat X) : tp_Fit X yX1_soonest_2 cX1_soonest_2 (some .int) 8 tp_nm tp_by tp_ml tp_rtt 58 [o_ild (.iload 7) 7, o_int (.bipush 7) 7, o_icmpgt 27 89, o_ild (.iload 6) 6, o_ald (.aload_n 0) 0, o_ild (.iload_n 1) 1, o_ild (.iload_n 2) 2, o_ild (.iload_n 3) 3, o_ild (.iload 4) 4, o_ild (.iload 7) 7, o_cv (.invokevirtual 267) 1 kX1_soonestBy 5 0, o_mmin (.invokestatic 72), o_ist (.istore 6) 6, o_inc 7 1, o_goto (-28) 58] :=
  fG mo_ild (sim_ild dX1_soonest_2_58) <|
  fG mo_int (sim_bipush dX1_soonest_2_60 (by decide)) <|
  fG mo_icmpgt (sim_icmpgt dX1_soonest_2_62 rfl) <|
  fG mo_ild (sim_ild dX1_soonest_2_65) <|
  fG mo_ald (sim_ald_n dX1_soonest_2_67 rfl) <|
  fG mo_ild (sim_ild_n dX1_soonest_2_68 rfl) <|
  fG mo_ild (sim_ild_n dX1_soonest_2_69 rfl) <|
  fG mo_ild (sim_ild_n dX1_soonest_2_70 rfl) <|
  fG mo_ild (sim_ild dX1_soonest_2_71) <|
  fG mo_ild (sim_ild dX1_soonest_2_73) <|
  fC (ic_cv (Or.inl rfl)) (sim_cv hG dX1_soonest_2_75 (hG.2.1 1 _ hc_1).2.1 M_X1_soonestBy (by rw [nm_X1_soonestBy]; rfl) (by rw [nm_X1_soonestBy]; exact q1062) (by rw [nm_X1_soonestBy]; exact q1064) (by rw [nm_X1_soonestBy]; exact qs34)) <|
  fG mo_mmin (sim_mmin hG dX1_soonest_2_78 q237 q238 q128 q239) <|
  fG mo_ist (sim_ist dX1_soonest_2_81) <|
  fG mo_inc (sim_inc dX1_soonest_2_83 (by decide)) <|
  fG mo_goto (sim_goto dX1_soonest_2_86 rfl) <|
  trivial
theorem fX1_soonest_2_89 {X : tp_X} {az : Array Value} (hG : tp_Good X az) (hSt : tp_Stat X) : tp_Fit X yX1_soonest_2 cX1_soonest_2 (some .int) 8 tp_nm tp_by tp_ml tp_rtt 89 [o_ald (.aload_n 0) 0, o_getf (.getfield 46) 1 14, o_ild (.iload 5) 5, o_ild (.iload 6) 6, o_sta .iastore [0], o_ild (.iload 6) 6, o_iret 0] :=
  fG mo_ald (sim_ald_n dX1_soonest_2_89 rfl) <|
  fG mo_getf (sim_getfG hG dX1_soonest_2_90 hc_1 (by decide) rfl in_X1 (fun _ _ _ h => h) (Or.inl q270)) <|
  fG mo_ild (sim_ild dX1_soonest_2_93) <|
  fG mo_ild (sim_ild dX1_soonest_2_95) <|
  fG mo_sta (sim_iast dX1_soonest_2_97) <|
  fG mo_ild (sim_ild dX1_soonest_2_98) <|
  fE ie_iret (sim_iret dX1_soonest_2_100 rfl (Or.inl ⟨rfl, rfl⟩))
theorem F_X1_soonest_2 {X : tp_X} {az : Array Value} (hG : tp_Good X az) (hSt : tp_Stat X) (pc : Nat) : tp_Fit X yX1_soonest_2 cX1_soonest_2 (some .int) 8 tp_nm tp_by tp_ml tp_rtt pc (mX1_soonest_2 pc) :=
  fI (fX1_soonest_2_0 hG hSt) <| fI (fX1_soonest_2_12 hG hSt) <| fI (fX1_soonest_2_50 hG hSt) <| fI (fX1_soonest_2_58 hG hSt) <| fI (fX1_soonest_2_89 hG hSt) <| trivial
theorem fX1_soonestBy_0 {X : tp_X} {az : Array Value} (hG : tp_Good X az) (hSt : tp_Stat X) : tp_Fit X yX1_soonestBy cX1_soonestBy (some .int) 8 tp_nm tp_by tp_ml tp_rtt 0 [o_ald (.aload_n 0) 0, o_ild (.iload_n 1) 1, o_ild (.iload 5) 5, o_ild (.iload_n 2) 2, o_ild (.iload_n 3) 3, o_ild (.iload 4) 4, o_cv (.invokevirtual 271) 1 kX1_costAt 5 0, o_ist (.istore 6) 6, o_ild (.iload 6) 6, o_int (.iconst (-1)) (-1), o_icmpne 7 23, o_int (.ldc_w 266) 1000000, o_iret 0] :=
  fG mo_ald (sim_ald_n dX1_soonestBy_0 rfl) <|
  fG mo_ild (sim_ild_n dX1_soonestBy_1 rfl) <|
  fG mo_ild (sim_ild dX1_soonestBy_2) <|
  fG mo_ild (sim_ild_n dX1_soonestBy_4 rfl) <|
  fG mo_ild (sim_ild_n dX1_soonestBy_5 rfl) <|
  fG mo_ild (sim_ild dX1_soonestBy_6) <|
  fC (ic_cv (Or.inl rfl)) (sim_cv hG dX1_soonestBy_8 (hG.2.1 1 _ hc_1).2.1 M_X1_costAt (by rw [nm_X1_costAt]; rfl) (by rw [nm_X1_costAt]; exact q1066) (by rw [nm_X1_costAt]; exact q1068) (by rw [nm_X1_costAt]; exact qs35)) <|
  fG mo_ist (sim_ist dX1_soonestBy_11) <|
  fG mo_ild (sim_ild dX1_soonestBy_13) <|
  fG mo_int (sim_iconst dX1_soonestBy_15 (by decide)) <|
  fG mo_icmpne (sim_icmpne dX1_soonestBy_16 rfl) <|
  fG mo_int (sim_ldcw hG dX1_soonestBy_19 q1061 rfl) <|
  fE ie_iret (sim_iret dX1_soonestBy_22 rfl (Or.inl ⟨rfl, rfl⟩))
theorem fX1_soonestBy_23 {X : tp_X} {az : Array Value} (hG : tp_Good X az) (hSt : tp_Stat X) : tp_Fit X yX1_soonestBy cX1_soonestBy (some .int) 8 tp_nm tp_by tp_ml tp_rtt 23 [o_ald (.aload_n 0) 0, o_ild (.iload_n 1) 1, o_ild (.iload 5) 5, o_ild (.iload_n 2) 2, o_cv (.invokevirtual 274) 1 kX1_cellBehind 3 0, o_ist (.istore 7) 7, o_ild (.iload 5) 5, o_int (.iconst 4) 4, o_icmpge 31 67, o_ald (.aload_n 0) 0, o_getf (.getfield 12) 1 0, o_getf (.getfield 109) 2 6, o_ild (.iload 7) 7, o_lda .baload [1, 2, 22], o_ifeq 18 67, o_int (.bipush 100) 100, o_ild (.iload_n 1) 1, o_int (.iconst 1) 1, o_iadd, o_imul, o_int (.bipush 99) 99, o_iadd, o_ild (.iload_n 3) 3, o_ild (.iload 6) 6, o_isub, o_isub, o_iret 0] :=
  fG mo_ald (sim_ald_n dX1_soonestBy_23 rfl) <|
  fG mo_ild (sim_ild_n dX1_soonestBy_24 rfl) <|
  fG mo_ild (sim_ild dX1_soonestBy_25) <|
  fG mo_ild (sim_ild_n dX1_soonestBy_27 rfl) <|
  fC (ic_cv (Or.inl rfl)) (sim_cv hG dX1_soonestBy_28 (hG.2.1 1 _ hc_1).2.1 M_X1_cellBehind (by rw [nm_X1_cellBehind]; rfl) (by rw [nm_X1_cellBehind]; exact q1074) (by rw [nm_X1_cellBehind]; exact q1076) (by rw [nm_X1_cellBehind]; exact qs37)) <|
  fG mo_ist (sim_ist dX1_soonestBy_31) <|
  fG mo_ild (sim_ild dX1_soonestBy_33) <|
  fG mo_int (sim_iconst dX1_soonestBy_35 (by decide)) <|
  fG mo_icmpge (sim_icmpge dX1_soonestBy_36 rfl) <|
  fG mo_ald (sim_ald_n dX1_soonestBy_39 rfl) <|
  fG mo_getf (sim_getfG hG dX1_soonestBy_40 hc_1 (by decide) rfl in_X1 (fun _ _ _ h => h) (Or.inl q256)) <|
  fG mo_getf (sim_getfG hG dX1_soonestBy_43 hc_2 (by decide) rfl in_X2 (fun _ _ _ h => h) (Or.inr ⟨_, q191⟩)) <|
  fG mo_ild (sim_ild dX1_soonestBy_46) <|
  fG mo_lda (sim_bald dX1_soonestBy_48) <|
  fG mo_ifeq (sim_ifeq dX1_soonestBy_49 rfl) <|
  fG mo_int (sim_bipush dX1_soonestBy_52 (by decide)) <|
  fG mo_ild (sim_ild_n dX1_soonestBy_54 rfl) <|
  fG mo_int (sim_iconst dX1_soonestBy_55 (by decide)) <|
  fG mo_iadd (sim_iadd dX1_soonestBy_56) <|
  fG mo_imul (sim_imul dX1_soonestBy_57) <|
  fG mo_int (sim_bipush dX1_soonestBy_58 (by decide)) <|
  fG mo_iadd (sim_iadd dX1_soonestBy_60) <|
  fG mo_ild (sim_ild_n dX1_soonestBy_61 rfl) <|
  fG mo_ild (sim_ild dX1_soonestBy_62) <|
  fG mo_isub (sim_isub dX1_soonestBy_64) <|
  fG mo_isub (sim_isub dX1_soonestBy_65) <|
  fE ie_iret (sim_iret dX1_soonestBy_66 rfl (Or.inl ⟨rfl, rfl⟩))
theorem fX1_soonestBy_67 {X : tp_X} {az : Array Value} (hG : tp_Good X az) (hSt : tp_Stat X) : tp_Fit X yX1_soonestBy cX1_soonestBy (some .int) 8 tp_nm tp_by tp_ml tp_rtt 67 [o_ald (.aload_n 0) 0, o_ild (.iload_n 1) 1, o_ild (.iload 7) 7, o_cv (.invokevirtual 277) 1 kX1_nippedAt 2 0, o_ifeq 9 83, o_int (.ldc_w 266) 1000000, o_goto 23 103] :=
  fG mo_ald (sim_ald_n dX1_soonestBy_67 rfl) <|
  fG mo_ild (sim_ild_n dX1_soonestBy_68 rfl) <|
  fG mo_ild (sim_ild dX1_soonestBy_69) <|
  fC (ic_cv (Or.inl rfl)) (sim_cv hG dX1_soonestBy_71 (hG.2.1 1 _ hc_1).2.1 M_X1_nippedAt (by rw [nm_X1_nippedAt]; rfl) (by rw [nm_X1_nippedAt]; exact q1078) (by rw [nm_X1_nippedAt]; exact q1080) (by rw [nm_X1_nippedAt]; exact qs38)) <|
  fG mo_ifeq (sim_ifeq dX1_soonestBy_74 rfl) <|
  fG mo_int (sim_ldcw hG dX1_soonestBy_77 q1061 rfl) <|
  fG mo_goto (sim_goto dX1_soonestBy_80 rfl) <|
  trivial
theorem fX1_soonestBy_83 {X : tp_X} {az : Array Value} (hG : tp_Good X az) (hSt : tp_Stat X) : tp_Fit X yX1_soonestBy cX1_soonestBy (some .int) 8 tp_nm tp_by tp_ml tp_rtt 83 [o_ald (.aload_n 0) 0, o_ild (.iload_n 1) 1, o_int (.iconst 1) 1, o_iadd, o_ild (.iload 7) 7, o_ild (.iload_n 3) 3, o_ild (.iload 6) 6, o_isub, o_ild (.iload 5) 5, o_ild (.iload 4) 4, o_cs (.invokestatic 280) kX1_fires 2 0, o_cv (.invokevirtual 283) 1 kX1_soonest_2 4 0, o_fall 103] :=
  fG mo_ald (sim_ald_n dX1_soonestBy_83 rfl) <|
  fG mo_ild (sim_ild_n dX1_soonestBy_84 rfl) <|
  fG mo_int (sim_iconst dX1_soonestBy_85 (by decide)) <|
  fG mo_iadd (sim_iadd dX1_soonestBy_86) <|
  fG mo_ild (sim_ild dX1_soonestBy_87) <|
  fG mo_ild (sim_ild_n dX1_soonestBy_89 rfl) <|
  fG mo_ild (sim_ild dX1_soonestBy_90) <|
  fG mo_isub (sim_isub dX1_soonestBy_92) <|
  fG mo_ild (sim_ild dX1_soonestBy_93) <|
  fG mo_ild (sim_ild dX1_soonestBy_95) <|
  fC (ic_cs (Or.inl rfl)) (sim_cs hG dX1_soonestBy_97 M_X1_fires (by rw [nm_X1_fires]; rfl) (by rw [nm_X1_fires]; exact q1082) (by rw [nm_X1_fires]; exact q1083)) <|
  fC (ic_cv (Or.inl rfl)) (sim_cv hG dX1_soonestBy_100 (hG.2.1 1 _ hc_1).2.1 M_X1_soonest_2 (by rw [nm_X1_soonest_2]; rfl) (by rw [nm_X1_soonest_2]; exact q1057) (by rw [nm_X1_soonest_2]; exact q1059) (by rw [nm_X1_soonest_2]; exact qs33)) <|
  fF
theorem fX1_soonestBy_103 {X : tp_X} {az : Array Value} (hG : tp_Good X az) (hSt : tp_Stat X) : tp_Fit X yX1_soonestBy cX1_soonestBy (some .int) 8 tp_nm tp_by tp_ml tp_rtt 103 [o_iret 0] :=
  fE ie_iret (sim_iret dX1_soonestBy_103 rfl (Or.inl ⟨rfl, rfl⟩))
theorem F_X1_soonestBy {X : tp_X} {az : Array Value} (hG : tp_Good X az) (hSt : tp_Stat X) (pc : Nat) : tp_Fit X yX1_soonestBy cX1_soonestBy (some .int) 8 tp_nm tp_by tp_ml tp_rtt pc (mX1_soonestBy pc) :=
  fI (fX1_soonestBy_0 hG hSt) <| fI (fX1_soonestBy_23 hG hSt) <| fI (fX1_soonestBy_67 hG hSt) <| fI (fX1_soonestBy_83 hG hSt) <| fI (fX1_soonestBy_103 hG hSt) <| trivial
theorem fX1_costAt_0 {X : tp_X} {az : Array Value} (hG : tp_Good X az) (hSt : tp_Stat X) : tp_Fit X yX1_costAt cX1_costAt (some .int) 6 tp_nm tp_by tp_ml tp_rtt 0 [o_ald (.aload_n 0) 0, o_ild (.iload_n 2) 2, o_ild (.iload_n 3) 3, o_ild (.iload 4) 4, o_ild (.iload 5) 5, o_ald (.aload_n 0) 0, o_getf (.getfield 42) 1 13, o_ild (.iload_n 1) 1, o_lda .aaload [4, 5, 6, 7, 28, 29], o_ald (.aload_n 0) 0, o_ild (.iload_n 1) 1, o_cv (.invokevirtual 263) 1 kX1_windAt 1 0, o_ald (.aload_n 0) 0, o_getf (.getfield 12) 1 0, o_getf (.getfield 112) 2 0, o_int (.iconst 0) 0, o_lda .iaload [0, 20], o_ild (.iload_n 1) 1, o_iadd, o_cv (.invokevirtual 232) 1 kX1_costOf 7 0, o_iret 0] :=
  fG mo_ald (sim_ald_n dX1_costAt_0 rfl) <|
  fG mo_ild (sim_ild_n dX1_costAt_1 rfl) <|
  fG mo_ild (sim_ild_n dX1_costAt_2 rfl) <|
  fG mo_ild (sim_ild dX1_costAt_3) <|
  fG mo_ild (sim_ild dX1_costAt_5) <|
  fG mo_ald (sim_ald_n dX1_costAt_7 rfl) <|
  fG mo_getf (sim_getfG hG dX1_costAt_8 hc_1 (by decide) rfl in_X1 (fun _ _ _ h => h) (Or.inl q269)) <|
  fG mo_ild (sim_ild_n dX1_costAt_11 rfl) <|
  fG mo_lda (sim_aald dX1_costAt_12) <|
  fG mo_ald (sim_ald_n dX1_costAt_13 rfl) <|
  fG mo_ild (sim_ild_n dX1_costAt_14 rfl) <|
  fC (ic_cv (Or.inl rfl)) (sim_cv hG dX1_costAt_15 (hG.2.1 1 _ hc_1).2.1 M_X1_windAt (by rw [nm_X1_windAt]; rfl) (by rw [nm_X1_windAt]; exact q1070) (by rw [nm_X1_windAt]; exact q1072) (by rw [nm_X1_windAt]; exact qs36)) <|
  fG mo_ald (sim_ald_n dX1_costAt_18 rfl) <|
  fG mo_getf (sim_getfG hG dX1_costAt_19 hc_1 (by decide) rfl in_X1 (fun _ _ _ h => h) (Or.inl q256)) <|
  fG mo_getf (sim_getfG hG dX1_costAt_22 hc_2 (by decide) rfl in_X2 (fun _ _ _ h => h) (Or.inr ⟨_, q179⟩)) <|
  fG mo_int (sim_iconst dX1_costAt_25 (by decide)) <|
  fG mo_lda (sim_iald dX1_costAt_26) <|
  fG mo_ild (sim_ild_n dX1_costAt_27 rfl) <|
  fG mo_iadd (sim_iadd dX1_costAt_28) <|
  fC (ic_cv (Or.inl rfl)) (sim_cv hG dX1_costAt_29 (hG.2.1 1 _ hc_1).2.1 M_X1_costOf (by rw [nm_X1_costOf]; rfl) (by rw [nm_X1_costOf]; exact q896) (by rw [nm_X1_costOf]; exact q898) (by rw [nm_X1_costOf]; exact qs20)) <|
  fE ie_iret (sim_iret dX1_costAt_32 rfl (Or.inl ⟨rfl, rfl⟩))
theorem F_X1_costAt {X : tp_X} {az : Array Value} (hG : tp_Good X az) (hSt : tp_Stat X) (pc : Nat) : tp_Fit X yX1_costAt cX1_costAt (some .int) 6 tp_nm tp_by tp_ml tp_rtt pc (mX1_costAt pc) :=
  fI (fX1_costAt_0 hG hSt) <| trivial
theorem fX1_windAt_0 {X : tp_X} {az : Array Value} (hG : tp_Good X az) (hSt : tp_Stat X) : tp_Fit X yX1_windAt cX1_windAt (some .int) 2 tp_nm tp_by tp_ml tp_rtt 0 [o_ild (.iload_n 1) 1, o_ifne 15 16, o_ald (.aload_n 0) 0, o_getf (.getfield 12) 1 0, o_getf (.getfield 112) 2 0, o_int (.iconst 1) 1, o_lda .iaload [0, 20], o_goto 11 24] :=
  fG mo_ild (sim_ild_n dX1_windAt_0 rfl) <|
  fG mo_ifne (sim_ifne dX1_windAt_1 rfl) <|
  fG mo_ald (sim_ald_n dX1_windAt_4 rfl) <|
  fG mo_getf (sim_getfG hG dX1_windAt_5 hc_1 (by decide) rfl in_X1 (fun _ _ _ h => h) (Or.inl q256)) <|
  fG mo_getf (sim_getfG hG dX1_windAt_8 hc_2 (by decide) rfl in_X2 (fun _ _ _ h => h) (Or.inr ⟨_, q179⟩)) <|
  fG mo_int (sim_iconst dX1_windAt_11 (by decide)) <|
  fG mo_lda (sim_iald dX1_windAt_12) <|
  fG mo_goto (sim_goto dX1_windAt_13 rfl) <|
  trivial
theorem fX1_windAt_16 {X : tp_X} {az : Array Value} (hG : tp_Good X az) (hSt : tp_Stat X) : tp_Fit X yX1_windAt cX1_windAt (some .int) 2 tp_nm tp_by tp_ml tp_rtt 16 [o_ald (.aload_n 0) 0, o_getf (.getfield 37) 1 12, o_ild (.iload_n 1) 1, o_int (.iconst 1) 1, o_isub, o_lda .iaload [0, 20], o_fall 24] :=
  fG mo_ald (sim_ald_n dX1_windAt_16 rfl) <|
  fG mo_getf (sim_getfG hG dX1_windAt_17 hc_1 (by decide) rfl in_X1 (fun _ _ _ h => h) (Or.inl q268)) <|
  fG mo_ild (sim_ild_n dX1_windAt_20 rfl) <|
  fG mo_int (sim_iconst dX1_windAt_21 (by decide)) <|
  fG mo_isub (sim_isub dX1_windAt_22) <|
  fG mo_lda (sim_iald dX1_windAt_23) <|
  fF
theorem fX1_windAt_24 {X : tp_X} {az : Array Value} (hG : tp_Good X az) (hSt : tp_Stat X) : tp_Fit X yX1_windAt cX1_windAt (some .int) 2 tp_nm tp_by tp_ml tp_rtt 24 [o_iret 0] :=
  fE ie_iret (sim_iret dX1_windAt_24 rfl (Or.inl ⟨rfl, rfl⟩))
theorem F_X1_windAt {X : tp_X} {az : Array Value} (hG : tp_Good X az) (hSt : tp_Stat X) (pc : Nat) : tp_Fit X yX1_windAt cX1_windAt (some .int) 2 tp_nm tp_by tp_ml tp_rtt pc (mX1_windAt pc) :=
  fI (fX1_windAt_0 hG hSt) <| fI (fX1_windAt_16 hG hSt) <| fI (fX1_windAt_24 hG hSt) <| trivial
theorem fX1_cellBehind_0 {X : tp_X} {az : Array Value} (hG : tp_Good X az) (hSt : tp_Stat X) : tp_Fit X yX1_cellBehind cX1_cellBehind (some .int) 4 tp_nm tp_by tp_ml tp_rtt 0 [o_ild (.iload_n 2) 2, o_int (.iconst 4) 4, o_icmpge 19 21, o_ald (.aload_n 0) 0, o_ild (.iload_n 3) 3, o_ild (.iload_n 2) 2, o_cs (.invokestatic 169) kX1_dx 1 0, o_ild (.iload_n 2) 2, o_cs (.invokestatic 173) kX1_dy 1 0, o_cv (.invokevirtual 165) 1 kX1_beside 3 0, o_goto 23 41] :=
  fG mo_ild (sim_ild_n dX1_cellBehind_0 rfl) <|
  fG mo_int (sim_iconst dX1_cellBehind_1 (by decide)) <|
  fG mo_icmpge (sim_icmpge dX1_cellBehind_2 rfl) <|
  fG mo_ald (sim_ald_n dX1_cellBehind_5 rfl) <|
  fG mo_ild (sim_ild_n dX1_cellBehind_6 rfl) <|
  fG mo_ild (sim_ild_n dX1_cellBehind_7 rfl) <|
  fC (ic_cs (Or.inl rfl)) (sim_cs hG dX1_cellBehind_8 M_X1_dx (by rw [nm_X1_dx]; rfl) (by rw [nm_X1_dx]; exact q900) (by rw [nm_X1_dx]; exact q901)) <|
  fG mo_ild (sim_ild_n dX1_cellBehind_11 rfl) <|
  fC (ic_cs (Or.inl rfl)) (sim_cs hG dX1_cellBehind_12 M_X1_dy (by rw [nm_X1_dy]; rfl) (by rw [nm_X1_dy]; exact q903) (by rw [nm_X1_dy]; exact q904)) <|
  fC (ic_cv (Or.inl rfl)) (sim_cv hG dX1_cellBehind_15 (hG.2.1 1 _ hc_1).2.1 M_X1_beside (by rw [nm_X1_beside]; rfl) (by rw [nm_X1_beside]; exact q906) (by rw [nm_X1_beside]; exact q908) (by rw [nm_X1_beside]; exact qs21)) <|
  fG mo_goto (sim_goto dX1_cellBehind_18 rfl) <|
  trivial
theorem fX1_cellBehind_21 {X : tp_X} {az : Array Value} (hG : tp_Good X az) (hSt : tp_Stat X) : tp_Fit X yX1_cellBehind cX1_cellBehind (some .int) 4 tp_nm tp_by tp_ml tp_rtt 21 [o_ild (.iload_n 2) 2, o_int (.iconst 5) 5, o_icmpne 7 30, o_ild (.iload_n 3) 3, o_goto 14 41] :=
  fG mo_ild (sim_ild_n dX1_cellBehind_21 rfl) <|
  fG mo_int (sim_iconst dX1_cellBehind_22 (by decide)) <|
  fG mo_icmpne (sim_icmpne dX1_cellBehind_23 rfl) <|
  fG mo_ild (sim_ild_n dX1_cellBehind_26 rfl) <|
  fG mo_goto (sim_goto dX1_cellBehind_27 rfl) <|
  trivial
theorem fX1_cellBehind_30 {X : tp_X} {az : Array Value} (hG : tp_Good X az) (hSt : tp_Stat X) : tp_Fit X yX1_cellBehind cX1_cellBehind (some .int) 4 tp_nm tp_by tp_ml tp_rtt 30 [o_ald (.aload_n 0) 0, o_ild (.iload_n 3) 3, o_ald (.aload_n 0) 0, o_getf (.getfield 37) 1 12, o_ild (.iload_n 1) 1, o_lda .iaload [0, 20], o_cv (.invokevirtual 246) 1 kX1_drifts 2 0, o_fall 41] :=
  fG mo_ald (sim_ald_n dX1_cellBehind_30 rfl) <|
  fG mo_ild (sim_ild_n dX1_cellBehind_31 rfl) <|
  fG mo_ald (sim_ald_n dX1_cellBehind_32 rfl) <|
  fG mo_getf (sim_getfG hG dX1_cellBehind_33 hc_1 (by decide) rfl in_X1 (fun _ _ _ h => h) (Or.inl q268)) <|
  fG mo_ild (sim_ild_n dX1_cellBehind_36 rfl) <|
  fG mo_lda (sim_iald dX1_cellBehind_37) <|
  fC (ic_cv (Or.inl rfl)) (sim_cv hG dX1_cellBehind_38 (hG.2.1 1 _ hc_1).2.1 M_X1_drifts (by rw [nm_X1_drifts]; rfl) (by rw [nm_X1_drifts]; exact q1028) (by rw [nm_X1_drifts]; exact q1030) (by rw [nm_X1_drifts]; exact qs28)) <|
  fF
theorem fX1_cellBehind_41 {X : tp_X} {az : Array Value} (hG : tp_Good X az) (hSt : tp_Stat X) : tp_Fit X yX1_cellBehind cX1_cellBehind (some .int) 4 tp_nm tp_by tp_ml tp_rtt 41 [o_iret 0] :=
  fE ie_iret (sim_iret dX1_cellBehind_41 rfl (Or.inl ⟨rfl, rfl⟩))
theorem F_X1_cellBehind {X : tp_X} {az : Array Value} (hG : tp_Good X az) (hSt : tp_Stat X) (pc : Nat) : tp_Fit X yX1_cellBehind cX1_cellBehind (some .int) 4 tp_nm tp_by tp_ml tp_rtt pc (mX1_cellBehind pc) :=
  fI (fX1_cellBehind_0 hG hSt) <| fI (fX1_cellBehind_21 hG hSt) <| fI (fX1_cellBehind_30 hG hSt) <| fI (fX1_cellBehind_41 hG hSt) <| trivial
theorem fX1_nippedAt_0 {X : tp_X} {az : Array Value} (hG : tp_Good X az) (hSt : tp_Stat X) : tp_Fit X yX1_nippedAt cX1_nippedAt (some .boolean) 3 tp_nm tp_by tp_ml tp_rtt 0 [o_ald (.aload_n 0) 0, o_ald (.aload_n 0) 0, o_getf (.getfield 42) 1 13, o_ild (.iload_n 1) 1, o_int (.iconst 1) 1, o_iadd, o_lda .aaload [4, 5, 6, 7, 28, 29], o_ild (.iload_n 2) 2, o_ald (.aload_n 0) 0, o_getf (.getfield 37) 1 12, o_ild (.iload_n 1) 1, o_lda .iaload [0, 20], o_ald (.aload_n 0) 0, o_getf (.getfield 12) 1 0, o_getf (.getfield 112) 2 0, o_int (.iconst 0) 0, o_lda .iaload [0, 20], o_ild (.iload_n 1) 1, o_iadd, o_cv (.invokevirtual 249) 1 kX1_nips 4 0, o_iret 1] :=
  fG mo_ald (sim_ald_n dX1_nippedAt_0 rfl) <|
  fG mo_ald (sim_ald_n dX1_nippedAt_1 rfl) <|
  fG mo_getf (sim_getfG hG dX1_nippedAt_2 hc_1 (by decide) rfl in_X1 (fun _ _ _ h => h) (Or.inl q269)) <|
  fG mo_ild (sim_ild_n dX1_nippedAt_5 rfl) <|
  fG mo_int (sim_iconst dX1_nippedAt_6 (by decide)) <|
  fG mo_iadd (sim_iadd dX1_nippedAt_7) <|
  fG mo_lda (sim_aald dX1_nippedAt_8) <|
  fG mo_ild (sim_ild_n dX1_nippedAt_9 rfl) <|
  fG mo_ald (sim_ald_n dX1_nippedAt_10 rfl) <|
  fG mo_getf (sim_getfG hG dX1_nippedAt_11 hc_1 (by decide) rfl in_X1 (fun _ _ _ h => h) (Or.inl q268)) <|
  fG mo_ild (sim_ild_n dX1_nippedAt_14 rfl) <|
  fG mo_lda (sim_iald dX1_nippedAt_15) <|
  fG mo_ald (sim_ald_n dX1_nippedAt_16 rfl) <|
  fG mo_getf (sim_getfG hG dX1_nippedAt_17 hc_1 (by decide) rfl in_X1 (fun _ _ _ h => h) (Or.inl q256)) <|
  fG mo_getf (sim_getfG hG dX1_nippedAt_20 hc_2 (by decide) rfl in_X2 (fun _ _ _ h => h) (Or.inr ⟨_, q179⟩)) <|
  fG mo_int (sim_iconst dX1_nippedAt_23 (by decide)) <|
  fG mo_lda (sim_iald dX1_nippedAt_24) <|
  fG mo_ild (sim_ild_n dX1_nippedAt_25 rfl) <|
  fG mo_iadd (sim_iadd dX1_nippedAt_26) <|
  fC (ic_cv (Or.inl rfl)) (sim_cv hG dX1_nippedAt_27 (hG.2.1 1 _ hc_1).2.1 M_X1_nips (by rw [nm_X1_nips]; rfl) (by rw [nm_X1_nips]; exact q1032) (by rw [nm_X1_nips]; exact q1034) (by rw [nm_X1_nips]; exact qs29)) <|
  fE ie_iret (sim_iret dX1_nippedAt_30 rfl (Or.inr (Or.inl ⟨rfl, rfl⟩)))
theorem F_X1_nippedAt {X : tp_X} {az : Array Value} (hG : tp_Good X az) (hSt : tp_Stat X) (pc : Nat) : tp_Fit X yX1_nippedAt cX1_nippedAt (some .boolean) 3 tp_nm tp_by tp_ml tp_rtt pc (mX1_nippedAt pc) :=
  fI (fX1_nippedAt_0 hG hSt) <| trivial
theorem fX1_fires_0 {X : tp_X} {az : Array Value} (hG : tp_Good X az) (hSt : tp_Stat X) : tp_Fit X yX1_fires cX1_fires (some .int) 2 tp_nm tp_by tp_ml tp_rtt 0 [o_ild (.iload_n 0) 0, o_int (.bipush 6) 6, o_icmpne 7 10, o_int (.iconst 1) 1, o_goto 14 21] :=
  fG mo_ild (sim_ild_n dX1_fires_0 rfl) <|
  fG mo_int (sim_bipush dX1_fires_1 (by decide)) <|
  fG mo_icmpne (sim_icmpne dX1_fires_3 rfl) <|
  fG mo_int (sim_iconst dX1_fires_6 (by decide)) <|
  fG mo_goto (sim_goto dX1_fires_7 rfl) <|
  trivial
theorem fX1_fires_10 {X : tp_X} {az : Array Value} (hG : tp_Good X az) (hSt : tp_Stat X) : tp_Fit X yX1_fires cX1_fires (some .int) 2 tp_nm tp_by tp_ml tp_rtt 10 [o_ild (.iload_n 0) 0, o_int (.bipush 7) 7, o_icmpne 7 20, o_int (.iconst 0) 0, o_goto 4 21] :=
  fG mo_ild (sim_ild_n dX1_fires_10 rfl) <|
  fG mo_int (sim_bipush dX1_fires_11 (by decide)) <|
  fG mo_icmpne (sim_icmpne dX1_fires_13 rfl) <|
  fG mo_int (sim_iconst dX1_fires_16 (by decide)) <|
  fG mo_goto (sim_goto dX1_fires_17 rfl) <|
  trivial
theorem fX1_fires_20 {X : tp_X} {az : Array Value} (hG : tp_Good X az) (hSt : tp_Stat X) : tp_Fit X yX1_fires cX1_fires (some .int) 2 tp_nm tp_by tp_ml tp_rtt 20 [o_ild (.iload_n 1) 1, o_fall 21] :=
  fG mo_ild (sim_ild_n dX1_fires_20 rfl) <|
  fF
theorem fX1_fires_21 {X : tp_X} {az : Array Value} (hG : tp_Good X az) (hSt : tp_Stat X) : tp_Fit X yX1_fires cX1_fires (some .int) 2 tp_nm tp_by tp_ml tp_rtt 21 [o_iret 0] :=
  fE ie_iret (sim_iret dX1_fires_21 rfl (Or.inl ⟨rfl, rfl⟩))
theorem F_X1_fires {X : tp_X} {az : Array Value} (hG : tp_Good X az) (hSt : tp_Stat X) (pc : Nat) : tp_Fit X yX1_fires cX1_fires (some .int) 2 tp_nm tp_by tp_ml tp_rtt pc (mX1_fires pc) :=
  fI (fX1_fires_0 hG hSt) <| fI (fX1_fires_10 hG hSt) <| fI (fX1_fires_20 hG hSt) <| fI (fX1_fires_21 hG hSt) <| trivial
theorem fX1_least_0 {X : tp_X} {az : Array Value} (hG : tp_Good X az) (hSt : tp_Stat X) : tp_Fit X yX1_least cX1_least (some .int) 2 tp_nm tp_by tp_ml tp_rtt 0 [o_ald (.aload_n 0) 0, o_cv (.invokevirtual 287) 1 kX1_ship_2 0 0, o_int (.iconst 3) 3, o_lda .iaload [0, 20], o_ifeq 5 11, o_int (.iconst (-1)) (-1), o_iret 0] :=
  fG mo_ald (sim_ald_n dX1_least_0 rfl) <|
  fC (ic_cv (Or.inl rfl)) (sim_cv hG dX1_least_1 (hG.2.1 1 _ hc_1).2.1 M_X1_ship_2 (by rw [nm_X1_ship_2]; rfl) (by rw [nm_X1_ship_2]; exact q1044) (by rw [nm_X1_ship_2]; exact q1046) (by rw [nm_X1_ship_2]; exact qs30)) <|
  fG mo_int (sim_iconst dX1_least_4 (by decide)) <|
  fG mo_lda (sim_iald dX1_least_5) <|
  fG mo_ifeq (sim_ifeq dX1_least_6 rfl) <|
  fG mo_int (sim_iconst dX1_least_9 (by decide)) <|
  fE ie_iret (sim_iret dX1_least_10 rfl (Or.inl ⟨rfl, rfl⟩))
theorem fX1_least_11 {X : tp_X} {az : Array Value} (hG : tp_Good X az) (hSt : tp_Stat X) : tp_Fit X yX1_least cX1_least (some .int) 2 tp_nm tp_by tp_ml tp_rtt 11 [o_ald (.aload_n 0) 0, o_cv (.invokevirtual 290) 1 kX1_laysAhead 0 0, o_ald (.aload_n 0) 0, o_getf (.getfield 46) 1 14, o_int (.iconst (-1)) (-1), o_cs (.invokestatic 293) kJ0_fill 2 0, o_int (.iconst 0) 0, o_ist (.istore_n 1) 1, o_fall 25] :=
  fG mo_ald (sim_ald_n dX1_least_11 rfl) <|
  fC (ic_cv (Or.inl rfl)) (sim_cv hG dX1_least_12 (hG.2.1 1 _ hc_1).2.1 M_X1_laysAhead (by rw [nm_X1_laysAhead]; rfl) (by rw [nm_X1_laysAhead]; exact q1048) (by rw [nm_X1_laysAhead]; exact q1050) (by rw [nm_X1_laysAhead]; exact qs31)) <|
  fG mo_ald (sim_ald_n dX1_least_15 rfl) <|
  fG mo_getf (sim_getfG hG dX1_least_16 hc_1 (by decide) rfl in_X1 (fun _ _ _ h => h) (Or.inl q270)) <|
  fG mo_int (sim_iconst dX1_least_19 (by decide)) <|
  fC (ic_cs (Or.inl rfl)) (sim_cs hG dX1_least_20 M_J0_fill (by rw [nm_J0_fill]; rfl) (by rw [nm_J0_fill]; exact q1056) (by rw [nm_J0_fill]; exact q176)) <|
  fG mo_int (sim_iconst dX1_least_23 (by decide)) <|
  fG mo_ist (sim_ist_n dX1_least_24 rfl) <|
  fF
theorem fX1_least_25 {X : tp_X} {az : Array Value} (hG : tp_Good X az) (hSt : tp_Stat X) : tp_Fit X yX1_least cX1_least (some .int) 2 tp_nm tp_by tp_ml tp_rtt 25 [o_ild (.iload_n 1) 1, o_int (.bipush 99) 99, o_icmpgt 35 63, o_ald (.aload_n 0) 0, o_int (.iconst 0) 0, o_ald (.aload_n 0) 0, o_cv (.invokevirtual 287) 1 kX1_ship_2 0 0, o_int (.iconst 0) 0, o_lda .iaload [0, 20], o_ild (.iload_n 1) 1, o_ald (.aload_n 0) 0, o_cv (.invokevirtual 287) 1 kX1_ship_2 0 0, o_int (.iconst 2) 2, o_lda .iaload [0, 20], o_cv (.invokevirtual 283) 1 kX1_soonest_2 4 0, o_int (.ldc_w 266) 1000000, o_icmpeq 5 57, o_ild (.iload_n 1) 1, o_iret 0] :=
  fG mo_ild (sim_ild_n dX1_least_25 rfl) <|
  fG mo_int (sim_bipush dX1_least_26 (by decide)) <|
  fG mo_icmpgt (sim_icmpgt dX1_least_28 rfl) <|
  fG mo_ald (sim_ald_n dX1_least_31 rfl) <|
  fG mo_int (sim_iconst dX1_least_32 (by decide)) <|
  fG mo_ald (sim_ald_n dX1_least_33 rfl) <|
  fC (ic_cv (Or.inl rfl)) (sim_cv hG dX1_least_34 (hG.2.1 1 _ hc_1).2.1 M_X1_ship_2 (by rw [nm_X1_ship_2]; rfl) (by rw [nm_X1_ship_2]; exact q1044) (by rw [nm_X1_ship_2]; exact q1046) (by rw [nm_X1_ship_2]; exact qs30)) <|
  fG mo_int (sim_iconst dX1_least_37 (by decide)) <|
  fG mo_lda (sim_iald dX1_least_38) <|
  fG mo_ild (sim_ild_n dX1_least_39 rfl) <|
  fG mo_ald (sim_ald_n dX1_least_40 rfl) <|
  fC (ic_cv (Or.inl rfl)) (sim_cv hG dX1_least_41 (hG.2.1 1 _ hc_1).2.1 M_X1_ship_2 (by rw [nm_X1_ship_2]; rfl) (by rw [nm_X1_ship_2]; exact q1044) (by rw [nm_X1_ship_2]; exact q1046) (by rw [nm_X1_ship_2]; exact qs30)) <|
  fG mo_int (sim_iconst dX1_least_44 (by decide)) <|
  fG mo_lda (sim_iald dX1_least_45) <|
  fC (ic_cv (Or.inl rfl)) (sim_cv hG dX1_least_46 (hG.2.1 1 _ hc_1).2.1 M_X1_soonest_2 (by rw [nm_X1_soonest_2]; rfl) (by rw [nm_X1_soonest_2]; exact q1057) (by rw [nm_X1_soonest_2]; exact q1059) (by rw [nm_X1_soonest_2]; exact qs33)) <|
  fG mo_int (sim_ldcw hG dX1_least_49 q1061 rfl) <|
  fG mo_icmpeq (sim_icmpeq dX1_least_52 rfl) <|
  fG mo_ild (sim_ild_n dX1_least_55 rfl) <|
  fE ie_iret (sim_iret dX1_least_56 rfl (Or.inl ⟨rfl, rfl⟩))
theorem fX1_least_57 {X : tp_X} {az : Array Value} (hG : tp_Good X az) (hSt : tp_Stat X) : tp_Fit X yX1_least cX1_least (some .int) 2 tp_nm tp_by tp_ml tp_rtt 57 [o_inc 1 1, o_goto (-35) 25] :=
  fG mo_inc (sim_inc dX1_least_57 (by decide)) <|
  fG mo_goto (sim_goto dX1_least_60 rfl) <|
  trivial
theorem fX1_least_63 {X : tp_X} {az : Array Value} (hG : tp_Good X az) (hSt : tp_Stat X) : tp_Fit X yX1_least cX1_least (some .int) 2 tp_nm tp_by tp_ml tp_rtt 63 [o_int (.iconst (-1)) (-1), o_iret 0] :=
  fG mo_int (sim_iconst dX1_least_63 (by decide)) <|
  fE ie_iret (sim_iret dX1_least_64 rfl (Or.inl ⟨rfl, rfl⟩))
theorem F_X1_least {X : tp_X} {az : Array Value} (hG : tp_Good X az) (hSt : tp_Stat X) (pc : Nat) : tp_Fit X yX1_least cX1_least (some .int) 2 tp_nm tp_by tp_ml tp_rtt pc (mX1_least pc) :=
  fI (fX1_least_0 hG hSt) <| fI (fX1_least_11 hG hSt) <| fI (fX1_least_25 hG hSt) <| fI (fX1_least_57 hG hSt) <| fI (fX1_least_63 hG hSt) <| trivial
theorem fX1_ahead_0 {X : tp_X} {az : Array Value} (hG : tp_Good X az) (hSt : tp_Stat X) : tp_Fit X yX1_ahead cX1_ahead (some .int) 3 tp_nm tp_by tp_ml tp_rtt 0 [o_ild (.iload_n 1) 1, o_int (.iconst 0) 0, o_int (.bipush 11) 11, o_cs (.invokestatic 94) kX1_in 3 0, o_ifeq 10 17, o_ild (.iload_n 2) 2, o_cs (.invokestatic 115) kX1_isWind 1 0, o_ifne 5 19, o_fall 17] :=
  fG mo_ild (sim_ild_n dX1_ahead_0 rfl) <|
  fG mo_int (sim_iconst dX1_ahead_1 (by decide)) <|
  fG mo_int (sim_bipush dX1_ahead_2 (by decide)) <|
  fC (ic_cs (Or.inl rfl)) (sim_cs hG dX1_ahead_4 M_X1_in (by rw [nm_X1_in]; rfl) (by rw [nm_X1_in]; exact q335) (by rw [nm_X1_in]; exact q336)) <|
  fG mo_ifeq (sim_ifeq dX1_ahead_7 rfl) <|
  fG mo_ild (sim_ild_n dX1_ahead_10 rfl) <|
  fC (ic_cs (Or.inl rfl)) (sim_cs hG dX1_ahead_11 M_X1_isWind (by rw [nm_X1_isWind]; rfl) (by rw [nm_X1_isWind]; exact q354) (by rw [nm_X1_isWind]; exact q355)) <|
  fG mo_ifne (sim_ifne dX1_ahead_14 rfl) <|
  fF
theorem fX1_ahead_17 {X : tp_X} {az : Array Value} (hG : tp_Good X az) (hSt : tp_Stat X) : tp_Fit X yX1_ahead cX1_ahead (some .int) 3 tp_nm tp_by tp_ml tp_rtt 17 [o_int (.iconst (-1)) (-1), o_iret 0] :=
  fG mo_int (sim_iconst dX1_ahead_17 (by decide)) <|
  fE ie_iret (sim_iret dX1_ahead_18 rfl (Or.inl ⟨rfl, rfl⟩))
theorem fX1_ahead_19 {X : tp_X} {az : Array Value} (hG : tp_Good X az) (hSt : tp_Stat X) : tp_Fit X yX1_ahead cX1_ahead (some .int) 3 tp_nm tp_by tp_ml tp_rtt 19 [o_ald (.aload_n 0) 0, o_getf (.getfield 12) 1 0, o_getf (.getfield 257) 2 3, o_ild (.iload_n 1) 1, o_ild (.iload_n 2) 2, o_sta .iastore [0], o_ald (.aload_n 0) 0, o_getf (.getfield 12) 1 0, o_getf (.getfield 112) 2 0, o_int (.iconst 4) 4, o_ald (.aload_n 0) 0, o_getf (.getfield 12) 1 0, o_getf (.getfield 112) 2 0, o_int (.iconst 4) 4, o_lda .iaload [0, 20], o_ild (.iload_n 1) 1, o_int (.iconst 1) 1, o_iadd, o_mmax (.invokestatic 78), o_sta .iastore [0], o_ald (.aload_n 0) 0, o_getf (.getfield 12) 1 0, o_getf (.getfield 112) 2 0, o_int (.iconst 4) 4, o_lda .iaload [0, 20], o_iret 0] :=
  fG mo_ald (sim_ald_n dX1_ahead_19 rfl) <|
  fG mo_getf (sim_getfG hG dX1_ahead_20 hc_1 (by decide) rfl in_X1 (fun _ _ _ h => h) (Or.inl q256)) <|
  fG mo_getf (sim_getfG hG dX1_ahead_23 hc_2 (by decide) rfl in_X2 (fun _ _ _ h => h) (Or.inr ⟨_, q185⟩)) <|
  fG mo_ild (sim_ild_n dX1_ahead_26 rfl) <|
  fG mo_ild (sim_ild_n dX1_ahead_27 rfl) <|
  fG mo_sta (sim_iast dX1_ahead_28) <|
  fG mo_ald (sim_ald_n dX1_ahead_29 rfl) <|
  fG mo_getf (sim_getfG hG dX1_ahead_30 hc_1 (by decide) rfl in_X1 (fun _ _ _ h => h) (Or.inl q256)) <|
  fG mo_getf (sim_getfG hG dX1_ahead_33 hc_2 (by decide) rfl in_X2 (fun _ _ _ h => h) (Or.inr ⟨_, q179⟩)) <|
  fG mo_int (sim_iconst dX1_ahead_36 (by decide)) <|
  fG mo_ald (sim_ald_n dX1_ahead_37 rfl) <|
  fG mo_getf (sim_getfG hG dX1_ahead_38 hc_1 (by decide) rfl in_X1 (fun _ _ _ h => h) (Or.inl q256)) <|
  fG mo_getf (sim_getfG hG dX1_ahead_41 hc_2 (by decide) rfl in_X2 (fun _ _ _ h => h) (Or.inr ⟨_, q179⟩)) <|
  fG mo_int (sim_iconst dX1_ahead_44 (by decide)) <|
  fG mo_lda (sim_iald dX1_ahead_45) <|
  fG mo_ild (sim_ild_n dX1_ahead_46 rfl) <|
  fG mo_int (sim_iconst dX1_ahead_47 (by decide)) <|
  fG mo_iadd (sim_iadd dX1_ahead_48) <|
  fG mo_mmax (sim_mmax hG dX1_ahead_49 q240 q241 q128 q242) <|
  fG mo_sta (sim_iast dX1_ahead_52) <|
  fG mo_ald (sim_ald_n dX1_ahead_53 rfl) <|
  fG mo_getf (sim_getfG hG dX1_ahead_54 hc_1 (by decide) rfl in_X1 (fun _ _ _ h => h) (Or.inl q256)) <|
  fG mo_getf (sim_getfG hG dX1_ahead_57 hc_2 (by decide) rfl in_X2 (fun _ _ _ h => h) (Or.inr ⟨_, q179⟩)) <|
  fG mo_int (sim_iconst dX1_ahead_60 (by decide)) <|
  fG mo_lda (sim_iald dX1_ahead_61) <|
  fE ie_iret (sim_iret dX1_ahead_62 rfl (Or.inl ⟨rfl, rfl⟩))
theorem F_X1_ahead {X : tp_X} {az : Array Value} (hG : tp_Good X az) (hSt : tp_Stat X) (pc : Nat) : tp_Fit X yX1_ahead cX1_ahead (some .int) 3 tp_nm tp_by tp_ml tp_rtt pc (mX1_ahead pc) :=
  fI (fX1_ahead_0 hG hSt) <| fI (fX1_ahead_17 hG hSt) <| fI (fX1_ahead_19 hG hSt) <| trivial
theorem fX1_many_0 {X : tp_X} {az : Array Value} (hG : tp_Good X az) (hSt : tp_Stat X) : tp_Fit X yX1_many cX1_many (some .boolean) 3 tp_nm tp_by tp_ml tp_rtt 0 [o_ild (.iload_n 1) 1, o_int (.iconst 0) 0, o_int (.bipush 12) 12, o_cs (.invokestatic 94) kX1_in 3 0, o_ifeq 12 19, o_ild (.iload_n 2) 2, o_int (.iconst 0) 0, o_ild (.iload_n 1) 1, o_cs (.invokestatic 94) kX1_in 3 0, o_ifne 5 21, o_fall 19] :=
  fG mo_ild (sim_ild_n dX1_many_0 rfl) <|
  fG mo_int (sim_iconst dX1_many_1 (by decide)) <|
  fG mo_int (sim_bipush dX1_many_2 (by decide)) <|
  fC (ic_cs (Or.inl rfl)) (sim_cs hG dX1_many_4 M_X1_in (by rw [nm_X1_in]; rfl) (by rw [nm_X1_in]; exact q335) (by rw [nm_X1_in]; exact q336)) <|
  fG mo_ifeq (sim_ifeq dX1_many_7 rfl) <|
  fG mo_ild (sim_ild_n dX1_many_10 rfl) <|
  fG mo_int (sim_iconst dX1_many_11 (by decide)) <|
  fG mo_ild (sim_ild_n dX1_many_12 rfl) <|
  fC (ic_cs (Or.inl rfl)) (sim_cs hG dX1_many_13 M_X1_in (by rw [nm_X1_in]; rfl) (by rw [nm_X1_in]; exact q335) (by rw [nm_X1_in]; exact q336)) <|
  fG mo_ifne (sim_ifne dX1_many_16 rfl) <|
  fF
theorem fX1_many_19 {X : tp_X} {az : Array Value} (hG : tp_Good X az) (hSt : tp_Stat X) : tp_Fit X yX1_many cX1_many (some .boolean) 3 tp_nm tp_by tp_ml tp_rtt 19 [o_int (.iconst 0) 0, o_iret 1] :=
  fG mo_int (sim_iconst dX1_many_19 (by decide)) <|
  fE ie_iret (sim_iret dX1_many_20 rfl (Or.inr (Or.inl ⟨rfl, rfl⟩)))
theorem fX1_many_21 {X : tp_X} {az : Array Value} (hG : tp_Good X az) (hSt : tp_Stat X) : tp_Fit X yX1_many cX1_many (some .boolean) 3 tp_nm tp_by tp_ml tp_rtt 21 [o_ald (.aload_n 0) 0, o_getf (.getfield 12) 1 0, o_getf (.getfield 112) 2 0, o_int (.iconst 4) 4, o_ild (.iload_n 1) 1, o_sta .iastore [0], o_ald (.aload_n 0) 0, o_getf (.getfield 12) 1 0, o_getf (.getfield 112) 2 0, o_int (.iconst 5) 5, o_ild (.iload_n 2) 2, o_sta .iastore [0], o_int (.iconst 1) 1, o_iret 1] :=
  fG mo_ald (sim_ald_n dX1_many_21 rfl) <|
  fG mo_getf (sim_getfG hG dX1_many_22 hc_1 (by decide) rfl in_X1 (fun _ _ _ h => h) (Or.inl q256)) <|
  fG mo_getf (sim_getfG hG dX1_many_25 hc_2 (by decide) rfl in_X2 (fun _ _ _ h => h) (Or.inr ⟨_, q179⟩)) <|
  fG mo_int (sim_iconst dX1_many_28 (by decide)) <|
  fG mo_ild (sim_ild_n dX1_many_29 rfl) <|
  fG mo_sta (sim_iast dX1_many_30) <|
  fG mo_ald (sim_ald_n dX1_many_31 rfl) <|
  fG mo_getf (sim_getfG hG dX1_many_32 hc_1 (by decide) rfl in_X1 (fun _ _ _ h => h) (Or.inl q256)) <|
  fG mo_getf (sim_getfG hG dX1_many_35 hc_2 (by decide) rfl in_X2 (fun _ _ _ h => h) (Or.inr ⟨_, q179⟩)) <|
  fG mo_int (sim_iconst dX1_many_38 (by decide)) <|
  fG mo_ild (sim_ild_n dX1_many_39 rfl) <|
  fG mo_sta (sim_iast dX1_many_40) <|
  fG mo_int (sim_iconst dX1_many_41 (by decide)) <|
  fE ie_iret (sim_iret dX1_many_42 rfl (Or.inr (Or.inl ⟨rfl, rfl⟩)))
theorem F_X1_many {X : tp_X} {az : Array Value} (hG : tp_Good X az) (hSt : tp_Stat X) (pc : Nat) : tp_Fit X yX1_many cX1_many (some .boolean) 3 tp_nm tp_by tp_ml tp_rtt pc (mX1_many pc) :=
  fI (fX1_many_0 hG hSt) <| fI (fX1_many_19 hG hSt) <| fI (fX1_many_21 hG hSt) <| trivial
theorem fX1_order_0 {X : tp_X} {az : Array Value} (hG : tp_Good X az) (hSt : tp_Stat X) : tp_Fit X yX1_order cX1_order (some .int) 3 tp_nm tp_by tp_ml tp_rtt 0 [o_ild (.iload_n 1) 1, o_int (.iconst 0) 0, o_ald (.aload_n 0) 0, o_getf (.getfield 12) 1 0, o_getf (.getfield 112) 2 0, o_int (.iconst 4) 4, o_lda .iaload [0, 20], o_int (.iconst 1) 1, o_isub, o_cs (.invokestatic 94) kX1_in 3 0, o_ifeq 10 26, o_ild (.iload_n 2) 2, o_cs (.invokestatic 229) kX1_isOrder 1 0, o_ifne 5 28, o_fall 26] :=
  fG mo_ild (sim_ild_n dX1_order_0 rfl) <|
  fG mo_int (sim_iconst dX1_order_1 (by decide)) <|
  fG mo_ald (sim_ald_n dX1_order_2 rfl) <|
  fG mo_getf (sim_getfG hG dX1_order_3 hc_1 (by decide) rfl in_X1 (fun _ _ _ h => h) (Or.inl q256)) <|
  fG mo_getf (sim_getfG hG dX1_order_6 hc_2 (by decide) rfl in_X2 (fun _ _ _ h => h) (Or.inr ⟨_, q179⟩)) <|
  fG mo_int (sim_iconst dX1_order_9 (by decide)) <|
  fG mo_lda (sim_iald dX1_order_10) <|
  fG mo_int (sim_iconst dX1_order_11 (by decide)) <|
  fG mo_isub (sim_isub dX1_order_12) <|
  fC (ic_cs (Or.inl rfl)) (sim_cs hG dX1_order_13 M_X1_in (by rw [nm_X1_in]; rfl) (by rw [nm_X1_in]; exact q335) (by rw [nm_X1_in]; exact q336)) <|
  fG mo_ifeq (sim_ifeq dX1_order_16 rfl) <|
  fG mo_ild (sim_ild_n dX1_order_19 rfl) <|
  fC (ic_cs (Or.inl rfl)) (sim_cs hG dX1_order_20 M_X1_isOrder (by rw [nm_X1_isOrder]; rfl) (by rw [nm_X1_isOrder]; exact q893) (by rw [nm_X1_isOrder]; exact q894)) <|
  fG mo_ifne (sim_ifne dX1_order_23 rfl) <|
  fF
theorem fX1_order_26 {X : tp_X} {az : Array Value} (hG : tp_Good X az) (hSt : tp_Stat X) : tp_Fit X yX1_order cX1_order (some .int) 3 tp_nm tp_by tp_ml tp_rtt 26 [o_int (.iconst (-1)) (-1), o_iret 0] :=
  fG mo_int (sim_iconst dX1_order_26 (by decide)) <|
  fE ie_iret (sim_iret dX1_order_27 rfl (Or.inl ⟨rfl, rfl⟩))
theorem fX1_order_28 {X : tp_X} {az : Array Value} (hG : tp_Good X az) (hSt : tp_Stat X) : tp_Fit X yX1_order cX1_order (some .int) 3 tp_nm tp_by tp_ml tp_rtt 28 [o_ald (.aload_n 0) 0, o_getf (.getfield 12) 1 0, o_getf (.getfield 299) 2 4, o_ild (.iload_n 1) 1, o_ild (.iload_n 2) 2, o_sta .iastore [0], o_ald (.aload_n 0) 0, o_getf (.getfield 12) 1 0, o_getf (.getfield 112) 2 0, o_int (.iconst 5) 5, o_ald (.aload_n 0) 0, o_getf (.getfield 12) 1 0, o_getf (.getfield 112) 2 0, o_int (.iconst 5) 5, o_lda .iaload [0, 20], o_ild (.iload_n 1) 1, o_int (.iconst 1) 1, o_iadd, o_mmax (.invokestatic 78), o_sta .iastore [0], o_ald (.aload_n 0) 0, o_getf (.getfield 12) 1 0, o_getf (.getfield 112) 2 0, o_int (.iconst 5) 5, o_lda .iaload [0, 20], o_iret 0] :=
  fG mo_ald (sim_ald_n dX1_order_28 rfl) <|
  fG mo_getf (sim_getfG hG dX1_order_29 hc_1 (by decide) rfl in_X1 (fun _ _ _ h => h) (Or.inl q256)) <|
  fG mo_getf (sim_getfG hG dX1_order_32 hc_2 (by decide) rfl in_X2 (fun _ _ _ h => h) (Or.inr ⟨_, q187⟩)) <|
  fG mo_ild (sim_ild_n dX1_order_35 rfl) <|
  fG mo_ild (sim_ild_n dX1_order_36 rfl) <|
  fG mo_sta (sim_iast dX1_order_37) <|
  fG mo_ald (sim_ald_n dX1_order_38 rfl) <|
  fG mo_getf (sim_getfG hG dX1_order_39 hc_1 (by decide) rfl in_X1 (fun _ _ _ h => h) (Or.inl q256)) <|
  fG mo_getf (sim_getfG hG dX1_order_42 hc_2 (by decide) rfl in_X2 (fun _ _ _ h => h) (Or.inr ⟨_, q179⟩)) <|
  fG mo_int (sim_iconst dX1_order_45 (by decide)) <|
  fG mo_ald (sim_ald_n dX1_order_46 rfl) <|
  fG mo_getf (sim_getfG hG dX1_order_47 hc_1 (by decide) rfl in_X1 (fun _ _ _ h => h) (Or.inl q256)) <|
  fG mo_getf (sim_getfG hG dX1_order_50 hc_2 (by decide) rfl in_X2 (fun _ _ _ h => h) (Or.inr ⟨_, q179⟩)) <|
  fG mo_int (sim_iconst dX1_order_53 (by decide)) <|
  fG mo_lda (sim_iald dX1_order_54) <|
  fG mo_ild (sim_ild_n dX1_order_55 rfl) <|
  fG mo_int (sim_iconst dX1_order_56 (by decide)) <|
  fG mo_iadd (sim_iadd dX1_order_57) <|
  fG mo_mmax (sim_mmax hG dX1_order_58 q240 q241 q128 q242) <|
  fG mo_sta (sim_iast dX1_order_61) <|
  fG mo_ald (sim_ald_n dX1_order_62 rfl) <|
  fG mo_getf (sim_getfG hG dX1_order_63 hc_1 (by decide) rfl in_X1 (fun _ _ _ h => h) (Or.inl q256)) <|
  fG mo_getf (sim_getfG hG dX1_order_66 hc_2 (by decide) rfl in_X2 (fun _ _ _ h => h) (Or.inr ⟨_, q179⟩)) <|
  fG mo_int (sim_iconst dX1_order_69 (by decide)) <|
  fG mo_lda (sim_iald dX1_order_70) <|
  fE ie_iret (sim_iret dX1_order_71 rfl (Or.inl ⟨rfl, rfl⟩))
theorem F_X1_order {X : tp_X} {az : Array Value} (hG : tp_Good X az) (hSt : tp_Stat X) (pc : Nat) : tp_Fit X yX1_order cX1_order (some .int) 3 tp_nm tp_by tp_ml tp_rtt pc (mX1_order pc) :=
  fI (fX1_order_0 hG hSt) <| fI (fX1_order_26 hG hSt) <| fI (fX1_order_28 hG hSt) <| trivial
theorem fX1_told_0 {X : tp_X} {az : Array Value} (hG : tp_Good X az) (hSt : tp_Stat X) : tp_Fit X yX1_told cX1_told (some .int) 2 tp_nm tp_by tp_ml tp_rtt 0 [o_ald (.aload_n 0) 0, o_cv (.invokevirtual 305) 1 kX1_laysPath 0 0, o_ild (.iload_n 1) 1, o_int (.iconst (-1)) (-1), o_icmpne 10 16, o_ald (.aload_n 0) 0, o_getf (.getfield 302) 1 16, o_goto 31 44] :=
  fG mo_ald (sim_ald_n dX1_told_0 rfl) <|
  fC (ic_cv (Or.inl rfl)) (sim_cv hG dX1_told_1 (hG.2.1 1 _ hc_1).2.1 M_X1_laysPath (by rw [nm_X1_laysPath]; rfl) (by rw [nm_X1_laysPath]; exact q1105) (by rw [nm_X1_laysPath]; exact q1107) (by rw [nm_X1_laysPath]; exact qs39)) <|
  fG mo_ild (sim_ild_n dX1_told_4 rfl) <|
  fG mo_int (sim_iconst dX1_told_5 (by decide)) <|
  fG mo_icmpne (sim_icmpne dX1_told_6 rfl) <|
  fG mo_ald (sim_ald_n dX1_told_9 rfl) <|
  fG mo_getf (sim_getfG hG dX1_told_10 hc_1 (by decide) rfl in_X1 (fun _ _ _ h => h) (Or.inl q272)) <|
  fG mo_goto (sim_goto dX1_told_13 rfl) <|
  trivial
theorem fX1_told_16 {X : tp_X} {az : Array Value} (hG : tp_Good X az) (hSt : tp_Stat X) : tp_Fit X yX1_told cX1_told (some .int) 2 tp_nm tp_by tp_ml tp_rtt 16 [o_ild (.iload_n 1) 1, o_int (.iconst 0) 0, o_ald (.aload_n 0) 0, o_getf (.getfield 302) 1 16, o_int (.iconst 1) 1, o_isub, o_cs (.invokestatic 94) kX1_in 3 0, o_ifeq 16 43, o_ald (.aload_n 0) 0, o_getf (.getfield 49) 1 15, o_ild (.iload_n 1) 1, o_int (.iconst 1) 1, o_iadd, o_lda .aaload [4, 5, 6, 7, 28, 29], o_int (.iconst 0) 0, o_lda .iaload [0, 20], o_goto 4 44] :=
  fG mo_ild (sim_ild_n dX1_told_16 rfl) <|
  fG mo_int (sim_iconst dX1_told_17 (by decide)) <|
  fG mo_ald (sim_ald_n dX1_told_18 rfl) <|
  fG mo_getf (sim_getfG hG dX1_told_19 hc_1 (by decide) rfl in_X1 (fun _ _ _ h => h) (Or.inl q272)) <|
  fG mo_int (sim_iconst dX1_told_22 (by decide)) <|
  fG mo_isub (sim_isub dX1_told_23) <|
  fC (ic_cs (Or.inl rfl)) (sim_cs hG dX1_told_24 M_X1_in (by rw [nm_X1_in]; rfl) (by rw [nm_X1_in]; exact q335) (by rw [nm_X1_in]; exact q336)) <|
  fG mo_ifeq (sim_ifeq dX1_told_27 rfl) <|
  fG mo_ald (sim_ald_n dX1_told_30 rfl) <|
  fG mo_getf (sim_getfG hG dX1_told_31 hc_1 (by decide) rfl in_X1 (fun _ _ _ h => h) (Or.inl q271)) <|
  fG mo_ild (sim_ild_n dX1_told_34 rfl) <|
  fG mo_int (sim_iconst dX1_told_35 (by decide)) <|
  fG mo_iadd (sim_iadd dX1_told_36) <|
  fG mo_lda (sim_aald dX1_told_37) <|
  fG mo_int (sim_iconst dX1_told_38 (by decide)) <|
  fG mo_lda (sim_iald dX1_told_39) <|
  fG mo_goto (sim_goto dX1_told_40 rfl) <|
  trivial
theorem fX1_told_43 {X : tp_X} {az : Array Value} (hG : tp_Good X az) (hSt : tp_Stat X) : tp_Fit X yX1_told cX1_told (some .int) 2 tp_nm tp_by tp_ml tp_rtt 43 [o_int (.iconst (-1)) (-1), o_fall 44] :=
  fG mo_int (sim_iconst dX1_told_43 (by decide)) <|
  fF
theorem fX1_told_44 {X : tp_X} {az : Array Value} (hG : tp_Good X az) (hSt : tp_Stat X) : tp_Fit X yX1_told cX1_told (some .int) 2 tp_nm tp_by tp_ml tp_rtt 44 [o_iret 0] :=
  fE ie_iret (sim_iret dX1_told_44 rfl (Or.inl ⟨rfl, rfl⟩))
theorem F_X1_told {X : tp_X} {az : Array Value} (hG : tp_Good X az) (hSt : tp_Stat X) (pc : Nat) : tp_Fit X yX1_told cX1_told (some .int) 2 tp_nm tp_by tp_ml tp_rtt pc (mX1_told pc) :=
  fI (fX1_told_0 hG hSt) <| fI (fX1_told_16 hG hSt) <| fI (fX1_told_43 hG hSt) <| fI (fX1_told_44 hG hSt) <| trivial
theorem fX1_laysPath_0 {X : tp_X} {az : Array Value} (hG : tp_Good X az) (hSt : tp_Stat X) : tp_Fit X yX1_laysPath cX1_laysPath none 7 tp_nm tp_by tp_ml tp_rtt 0 [o_ald (.aload_n 0) 0, o_cv (.invokevirtual 290) 1 kX1_laysAhead 0 0, o_ald (.aload_n 0) 0, o_cv (.invokevirtual 287) 1 kX1_ship_2 0 0, o_int (.iconst 0) 0, o_ald (.aload_n 0) 0, o_getf (.getfield 49) 1 15, o_int (.iconst 0) 0, o_lda .aaload [4, 5, 6, 7, 28, 29], o_int (.iconst 0) 0, o_int (.iconst 3) 3, o_acopy (.invokestatic 124), o_ald (.aload_n 0) 0, o_int (.iconst 0) 0, o_putf (.putfield 302) 1 16 0, o_int (.iconst 0) 0, o_ist (.istore_n 1) 1, o_fall 27] :=
  fG mo_ald (sim_ald_n dX1_laysPath_0 rfl) <|
  fC (ic_cv (Or.inl rfl)) (sim_cv hG dX1_laysPath_1 (hG.2.1 1 _ hc_1).2.1 M_X1_laysAhead (by rw [nm_X1_laysAhead]; rfl) (by rw [nm_X1_laysAhead]; exact q1048) (by rw [nm_X1_laysAhead]; exact q1050) (by rw [nm_X1_laysAhead]; exact qs31)) <|
  fG mo_ald (sim_ald_n dX1_laysPath_4 rfl) <|
  fC (ic_cv (Or.inl rfl)) (sim_cv hG dX1_laysPath_5 (hG.2.1 1 _ hc_1).2.1 M_X1_ship_2 (by rw [nm_X1_ship_2]; rfl) (by rw [nm_X1_ship_2]; exact q1044) (by rw [nm_X1_ship_2]; exact q1046) (by rw [nm_X1_ship_2]; exact qs30)) <|
  fG mo_int (sim_iconst dX1_laysPath_8 (by decide)) <|
  fG mo_ald (sim_ald_n dX1_laysPath_9 rfl) <|
  fG mo_getf (sim_getfG hG dX1_laysPath_10 hc_1 (by decide) rfl in_X1 (fun _ _ _ h => h) (Or.inl q271)) <|
  fG mo_int (sim_iconst dX1_laysPath_13 (by decide)) <|
  fG mo_lda (sim_aald dX1_laysPath_14) <|
  fG mo_int (sim_iconst dX1_laysPath_15 (by decide)) <|
  fG mo_int (sim_iconst dX1_laysPath_16 (by decide)) <|
  fG mo_acopy (sim_acopy hG dX1_laysPath_17 q361 q252 q251 q129) <|
  fG mo_ald (sim_ald_n dX1_laysPath_20 rfl) <|
  fG mo_int (sim_iconst dX1_laysPath_21 (by decide)) <|
  fG mo_putf (sim_putf hG dX1_laysPath_22 hc_1 (by decide) rfl (by decide) in_X1 tyX1_ok nmX1 (Or.inl ⟨rfl, rfl⟩) (fun _ _ _ h => h) rfl q272) <|
  fG mo_int (sim_iconst dX1_laysPath_25 (by decide)) <|
  fG mo_ist (sim_ist_n dX1_laysPath_26 rfl) <|
  fF
theorem fX1_laysPath_27 {X : tp_X} {az : Array Value} (hG : tp_Good X az) (hSt : tp_Stat X) : tp_Fit X yX1_laysPath cX1_laysPath none 7 tp_nm tp_by tp_ml tp_rtt 27 [o_ild (.iload_n 1) 1, o_ald (.aload_n 0) 0, o_getf (.getfield 12) 1 0, o_getf (.getfield 112) 2 0, o_int (.iconst 5) 5, o_lda .iaload [0, 20], o_icmpge 154 191, o_ald (.aload_n 0) 0, o_cv (.invokevirtual 287) 1 kX1_ship_2 0 0, o_int (.iconst 3) 3, o_lda .iaload [0, 20], o_ifne 145 191, o_ald (.aload_n 0) 0, o_getf (.getfield 49) 1 15, o_ild (.iload_n 1) 1, o_lda .aaload [4, 5, 6, 7, 28, 29], o_ast (.astore_n 2) 2, o_ald (.aload_n 0) 0, o_getf (.getfield 12) 1 0, o_getf (.getfield 299) 2 4, o_ild (.iload_n 1) 1, o_lda .iaload [0, 20], o_ist (.istore_n 3) 3, o_ald (.aload_n 0) 0, o_ild (.iload_n 1) 1, o_ild (.iload_n 3) 3, o_ald (.aload_n 2) 2, o_int (.iconst 0) 0, o_lda .iaload [0, 20], o_ald (.aload_n 2) 2, o_int (.iconst 1) 1, o_lda .iaload [0, 20], o_ald (.aload_n 2) 2, o_int (.iconst 2) 2, o_lda .iaload [0, 20], o_cv (.invokevirtual 271) 1 kX1_costAt 5 0, o_ist (.istore 4) 4, o_ild (.iload 4) 4, o_int (.iconst (-1)) (-1), o_icmpne 4 90, o_vret] :=
  fG mo_ild (sim_ild_n dX1_laysPath_27 rfl) <|
  fG mo_ald (sim_ald_n dX1_laysPath_28 rfl) <|
  fG mo_getf (sim_getfG hG dX1_laysPath_29 hc_1 (by decide) rfl in_X1 (fun _ _ _ h => h) (Or.inl q256)) <|
  fG mo_getf (sim_getfG hG dX1_laysPath_32 hc_2 (by decide) rfl in_X2 (fun _ _ _ h => h) (Or.inr ⟨_, q179⟩)) <|
  fG mo_int (sim_iconst dX1_laysPath_35 (by decide)) <|
  fG mo_lda (sim_iald dX1_laysPath_36) <|
  fG mo_icmpge (sim_icmpge dX1_laysPath_37 rfl) <|
  fG mo_ald (sim_ald_n dX1_laysPath_40 rfl) <|
  fC (ic_cv (Or.inl rfl)) (sim_cv hG dX1_laysPath_41 (hG.2.1 1 _ hc_1).2.1 M_X1_ship_2 (by rw [nm_X1_ship_2]; rfl) (by rw [nm_X1_ship_2]; exact q1044) (by rw [nm_X1_ship_2]; exact q1046) (by rw [nm_X1_ship_2]; exact qs30)) <|
  fG mo_int (sim_iconst dX1_laysPath_44 (by decide)) <|
  fG mo_lda (sim_iald dX1_laysPath_45) <|
  fG mo_ifne (sim_ifne dX1_laysPath_46 rfl) <|
  fG mo_ald (sim_ald_n dX1_laysPath_49 rfl) <|
  fG mo_getf (sim_getfG hG dX1_laysPath_50 hc_1 (by decide) rfl in_X1 (fun _ _ _ h => h) (Or.inl q271)) <|
  fG mo_ild (sim_ild_n dX1_laysPath_53 rfl) <|
  fG mo_lda (sim_aald dX1_laysPath_54) <|
  fG mo_ast (sim_ast_n dX1_laysPath_55 rfl) <|
  fG mo_ald (sim_ald_n dX1_laysPath_56 rfl) <|
  fG mo_getf (sim_getfG hG dX1_laysPath_57 hc_1 (by decide) rfl in_X1 (fun _ _ _ h => h) (Or.inl q256)) <|
  fG mo_getf (sim_getfG hG dX1_laysPath_60 hc_2 (by decide) rfl in_X2 (fun _ _ _ h => h) (Or.inr ⟨_, q187⟩)) <|
  fG mo_ild (sim_ild_n dX1_laysPath_63 rfl) <|
  fG mo_lda (sim_iald dX1_laysPath_64) <|
  fG mo_ist (sim_ist_n dX1_laysPath_65 rfl) <|
  fG mo_ald (sim_ald_n dX1_laysPath_66 rfl) <|
  fG mo_ild (sim_ild_n dX1_laysPath_67 rfl) <|
  fG mo_ild (sim_ild_n dX1_laysPath_68 rfl) <|
  fG mo_ald (sim_ald_n dX1_laysPath_69 rfl) <|
  fG mo_int (sim_iconst dX1_laysPath_70 (by decide)) <|
  fG mo_lda (sim_iald dX1_laysPath_71) <|
  fG mo_ald (sim_ald_n dX1_laysPath_72 rfl) <|
  fG mo_int (sim_iconst dX1_laysPath_73 (by decide)) <|
  fG mo_lda (sim_iald dX1_laysPath_74) <|
  fG mo_ald (sim_ald_n dX1_laysPath_75 rfl) <|
  fG mo_int (sim_iconst dX1_laysPath_76 (by decide)) <|
  fG mo_lda (sim_iald dX1_laysPath_77) <|
  fC (ic_cv (Or.inl rfl)) (sim_cv hG dX1_laysPath_78 (hG.2.1 1 _ hc_1).2.1 M_X1_costAt (by rw [nm_X1_costAt]; rfl) (by rw [nm_X1_costAt]; exact q1066) (by rw [nm_X1_costAt]; exact q1068) (by rw [nm_X1_costAt]; exact qs35)) <|
  fG mo_ist (sim_ist dX1_laysPath_81) <|
  fG mo_ild (sim_ild dX1_laysPath_83) <|
  fG mo_int (sim_iconst dX1_laysPath_85 (by decide)) <|
  fG mo_icmpne (sim_icmpne dX1_laysPath_86 rfl) <|
  fE ie_vret (sim_vret dX1_laysPath_89 rfl)
theorem fX1_laysPath_90 {X : tp_X} {az : Array Value} (hG : tp_Good X az) (hSt : tp_Stat X) : tp_Fit X yX1_laysPath cX1_laysPath none 7 tp_nm tp_by tp_ml tp_rtt 90 [o_ald (.aload_n 0) 0, o_ild (.iload_n 1) 1, o_ild (.iload_n 3) 3, o_ald (.aload_n 2) 2, o_int (.iconst 0) 0, o_lda .iaload [0, 20], o_cv (.invokevirtual 274) 1 kX1_cellBehind 3 0, o_ist (.istore 5) 5, o_ild (.iload_n 3) 3, o_int (.iconst 4) 4, o_icmpge 16 119, o_ald (.aload_n 0) 0, o_getf (.getfield 12) 1 0, o_getf (.getfield 109) 2 6, o_ild (.iload 5) 5, o_lda .baload [1, 2, 22], o_ifne 13 129, o_fall 119] :=
  fG mo_ald (sim_ald_n dX1_laysPath_90 rfl) <|
  fG mo_ild (sim_ild_n dX1_laysPath_91 rfl) <|
  fG mo_ild (sim_ild_n dX1_laysPath_92 rfl) <|
  fG mo_ald (sim_ald_n dX1_laysPath_93 rfl) <|
  fG mo_int (sim_iconst dX1_laysPath_94 (by decide)) <|
  fG mo_lda (sim_iald dX1_laysPath_95) <|
  fC (ic_cv (Or.inl rfl)) (sim_cv hG dX1_laysPath_96 (hG.2.1 1 _ hc_1).2.1 M_X1_cellBehind (by rw [nm_X1_cellBehind]; rfl) (by rw [nm_X1_cellBehind]; exact q1074) (by rw [nm_X1_cellBehind]; exact q1076) (by rw [nm_X1_cellBehind]; exact qs37)) <|
  fG mo_ist (sim_ist dX1_laysPath_99) <|
  fG mo_ild (sim_ild_n dX1_laysPath_101 rfl) <|
  fG mo_int (sim_iconst dX1_laysPath_102 (by decide)) <|
  fG mo_icmpge (sim_icmpge dX1_laysPath_103 rfl) <|
  fG mo_ald (sim_ald_n dX1_laysPath_106 rfl) <|
  fG mo_getf (sim_getfG hG dX1_laysPath_107 hc_1 (by decide) rfl in_X1 (fun _ _ _ h => h) (Or.inl q256)) <|
  fG mo_getf (sim_getfG hG dX1_laysPath_110 hc_2 (by decide) rfl in_X2 (fun _ _ _ h => h) (Or.inr ⟨_, q191⟩)) <|
  fG mo_ild (sim_ild dX1_laysPath_113) <|
  fG mo_lda (sim_bald dX1_laysPath_115) <|
  fG mo_ifne (sim_ifne dX1_laysPath_116 rfl) <|
  fF
theorem fX1_laysPath_119 {X : tp_X} {az : Array Value} (hG : tp_Good X az) (hSt : tp_Stat X) : tp_Fit X yX1_laysPath cX1_laysPath none 7 tp_nm tp_by tp_ml tp_rtt 119 [o_ald (.aload_n 0) 0, o_ild (.iload_n 1) 1, o_ild (.iload 5) 5, o_cv (.invokevirtual 277) 1 kX1_nippedAt 2 0, o_ifeq 4 130, o_fall 129] :=
  fG mo_ald (sim_ald_n dX1_laysPath_119 rfl) <|
  fG mo_ild (sim_ild_n dX1_laysPath_120 rfl) <|
  fG mo_ild (sim_ild dX1_laysPath_121) <|
  fC (ic_cv (Or.inl rfl)) (sim_cv hG dX1_laysPath_123 (hG.2.1 1 _ hc_1).2.1 M_X1_nippedAt (by rw [nm_X1_nippedAt]; rfl) (by rw [nm_X1_nippedAt]; exact q1078) (by rw [nm_X1_nippedAt]; exact q1080) (by rw [nm_X1_nippedAt]; exact qs38)) <|
  fG mo_ifeq (sim_ifeq dX1_laysPath_126 rfl) <|
  fF
theorem fX1_laysPath_129 {X : tp_X} {az : Array Value} (hG : tp_Good X az) (hSt : tp_Stat X) : tp_Fit X yX1_laysPath cX1_laysPath none 7 tp_nm tp_by tp_ml tp_rtt 129 [o_vret] :=
  fE ie_vret (sim_vret dX1_laysPath_129 rfl)
theorem fX1_laysPath_130 {X : tp_X} {az : Array Value} (hG : tp_Good X az) (hSt : tp_Stat X) : tp_Fit X yX1_laysPath cX1_laysPath none 7 tp_nm tp_by tp_ml tp_rtt 130 [o_int (.iconst 3) 3, o_newa (.newarray .int) 0, o_dup, o_int (.iconst 0) 0, o_ild (.iload 5) 5, o_sta .iastore [0], o_dup, o_int (.iconst 1) 1, o_ald (.aload_n 2) 2, o_int (.iconst 1) 1, o_lda .iaload [0, 20], o_ild (.iload 4) 4, o_isub, o_sta .iastore [0], o_dup, o_int (.iconst 2) 2, o_ild (.iload_n 3) 3, o_ald (.aload_n 2) 2, o_int (.iconst 2) 2, o_lda .iaload [0, 20], o_cs (.invokestatic 280) kX1_fires 2 0, o_sta .iastore [0], o_ast (.astore 6) 6, o_ald (.aload 6) 6, o_int (.iconst 0) 0, o_ald (.aload_n 0) 0, o_getf (.getfield 49) 1 15, o_ild (.iload_n 1) 1, o_int (.iconst 1) 1, o_iadd, o_lda .aaload [4, 5, 6, 7, 28, 29], o_int (.iconst 0) 0, o_int (.iconst 3) 3, o_acopy (.invokestatic 124), o_ald (.aload_n 0) 0, o_dup, o_getf (.getfield 302) 1 16, o_int (.iconst 1) 1, o_iadd, o_putf (.putfield 302) 1 16 0, o_inc 1 1, o_goto (-161) 27] :=
  fG mo_int (sim_iconst dX1_laysPath_130 (by decide)) <|
  fG mo_newa (sim_newa hG dX1_laysPath_131 q231 ⟨rfl, by decide⟩) <|
  fG mo_dup (sim_dup dX1_laysPath_133) <|
  fG mo_int (sim_iconst dX1_laysPath_134 (by decide)) <|
  fG mo_ild (sim_ild dX1_laysPath_135) <|
  fG mo_sta (sim_iast dX1_laysPath_137) <|
  fG mo_dup (sim_dup dX1_laysPath_138) <|
  fG mo_int (sim_iconst dX1_laysPath_139 (by decide)) <|
  fG mo_ald (sim_ald_n dX1_laysPath_140 rfl) <|
  fG mo_int (sim_iconst dX1_laysPath_141 (by decide)) <|
  fG mo_lda (sim_iald dX1_laysPath_142) <|
  fG mo_ild (sim_ild dX1_laysPath_143) <|
  fG mo_isub (sim_isub dX1_laysPath_145) <|
  fG mo_sta (sim_iast dX1_laysPath_146) <|
  fG mo_dup (sim_dup dX1_laysPath_147) <|
  fG mo_int (sim_iconst dX1_laysPath_148 (by decide)) <|
  fG mo_ild (sim_ild_n dX1_laysPath_149 rfl) <|
  fG mo_ald (sim_ald_n dX1_laysPath_150 rfl) <|
  fG mo_int (sim_iconst dX1_laysPath_151 (by decide)) <|
  fG mo_lda (sim_iald dX1_laysPath_152) <|
  fC (ic_cs (Or.inl rfl)) (sim_cs hG dX1_laysPath_153 M_X1_fires (by rw [nm_X1_fires]; rfl) (by rw [nm_X1_fires]; exact q1082) (by rw [nm_X1_fires]; exact q1083)) <|
  fG mo_sta (sim_iast dX1_laysPath_156) <|
  fG mo_ast (sim_ast dX1_laysPath_157) <|
  fG mo_ald (sim_ald dX1_laysPath_159) <|
  fG mo_int (sim_iconst dX1_laysPath_161 (by decide)) <|
  fG mo_ald (sim_ald_n dX1_laysPath_162 rfl) <|
  fG mo_getf (sim_getfG hG dX1_laysPath_163 hc_1 (by decide) rfl in_X1 (fun _ _ _ h => h) (Or.inl q271)) <|
  fG mo_ild (sim_ild_n dX1_laysPath_166 rfl) <|
  fG mo_int (sim_iconst dX1_laysPath_167 (by decide)) <|
  fG mo_iadd (sim_iadd dX1_laysPath_168) <|
  fG mo_lda (sim_aald dX1_laysPath_169) <|
  fG mo_int (sim_iconst dX1_laysPath_170 (by decide)) <|
  fG mo_int (sim_iconst dX1_laysPath_171 (by decide)) <|
  fG mo_acopy (sim_acopy hG dX1_laysPath_172 q361 q252 q251 q129) <|
  fG mo_ald (sim_ald_n dX1_laysPath_175 rfl) <|
  fG mo_dup (sim_dup dX1_laysPath_176) <|
  fG mo_getf (sim_getfG hG dX1_laysPath_177 hc_1 (by decide) rfl in_X1 (fun _ _ _ h => h) (Or.inl q272)) <|
  fG mo_int (sim_iconst dX1_laysPath_180 (by decide)) <|
  fG mo_iadd (sim_iadd dX1_laysPath_181) <|
  fG mo_putf (sim_putf hG dX1_laysPath_182 hc_1 (by decide) rfl (by decide) in_X1 tyX1_ok nmX1 (Or.inl ⟨rfl, rfl⟩) (fun _ _ _ h => h) rfl q272) <|
  fG mo_inc (sim_inc dX1_laysPath_185 (by decide)) <|
  fG mo_goto (sim_goto dX1_laysPath_188 rfl) <|
  trivial
theorem fX1_laysPath_191 {X : tp_X} {az : Array Value} (hG : tp_Good X az) (hSt : tp_Stat X) : tp_Fit X yX1_laysPath cX1_laysPath none 7 tp_nm tp_by tp_ml tp_rtt 191 [o_vret] :=
  fE ie_vret (sim_vret dX1_laysPath_191 rfl)
theorem F_X1_laysPath {X : tp_X} {az : Array Value} (hG : tp_Good X az) (hSt : tp_Stat X) (pc : Nat) : tp_Fit X yX1_laysPath cX1_laysPath none 7 tp_nm tp_by tp_ml tp_rtt pc (mX1_laysPath pc) :=
  fI (fX1_laysPath_0 hG hSt) <| fI (fX1_laysPath_27 hG hSt) <| fI (fX1_laysPath_90 hG hSt) <| fI (fX1_laysPath_119 hG hSt) <| fI (fX1_laysPath_129 hG hSt) <| fI (fX1_laysPath_130 hG hSt) <| fI (fX1_laysPath_191 hG hSt) <| trivial
theorem fX1_home_0 {X : tp_X} {az : Array Value} (hG : tp_Good X az) (hSt : tp_Stat X) : tp_Fit X yX1_home cX1_home (some .boolean) 2 tp_nm tp_by tp_ml tp_rtt 0 [o_ald (.aload_n 0) 0, o_ild (.iload_n 1) 1, o_cv (.invokevirtual 98) 1 kX1_isCell 1 0, o_ifne 5 10, o_int (.iconst 0) 0, o_iret 1] :=
  fG mo_ald (sim_ald_n dX1_home_0 rfl) <|
  fG mo_ild (sim_ild_n dX1_home_1 rfl) <|
  fC (ic_cv (Or.inl rfl)) (sim_cv hG dX1_home_2 (hG.2.1 1 _ hc_1).2.1 M_X1_isCell (by rw [nm_X1_isCell]; rfl) (by rw [nm_X1_isCell]; exact q331) (by rw [nm_X1_isCell]; exact q333) (by rw [nm_X1_isCell]; exact qs0)) <|
  fG mo_ifne (sim_ifne dX1_home_5 rfl) <|
  fG mo_int (sim_iconst dX1_home_8 (by decide)) <|
  fE ie_iret (sim_iret dX1_home_9 rfl (Or.inr (Or.inl ⟨rfl, rfl⟩)))
theorem fX1_home_10 {X : tp_X} {az : Array Value} (hG : tp_Good X az) (hSt : tp_Stat X) : tp_Fit X yX1_home cX1_home (some .boolean) 2 tp_nm tp_by tp_ml tp_rtt 10 [o_ald (.aload_n 0) 0, o_getf (.getfield 12) 1 0, o_getf (.getfield 112) 2 0, o_int (.bipush 6) 6, o_ild (.iload_n 1) 1, o_sta .iastore [0], o_int (.iconst 1) 1, o_iret 1] :=
  fG mo_ald (sim_ald_n dX1_home_10 rfl) <|
  fG mo_getf (sim_getfG hG dX1_home_11 hc_1 (by decide) rfl in_X1 (fun _ _ _ h => h) (Or.inl q256)) <|
  fG mo_getf (sim_getfG hG dX1_home_14 hc_2 (by decide) rfl in_X2 (fun _ _ _ h => h) (Or.inr ⟨_, q179⟩)) <|
  fG mo_int (sim_bipush dX1_home_17 (by decide)) <|
  fG mo_ild (sim_ild_n dX1_home_19 rfl) <|
  fG mo_sta (sim_iast dX1_home_20) <|
  fG mo_int (sim_iconst dX1_home_21 (by decide)) <|
  fE ie_iret (sim_iret dX1_home_22 rfl (Or.inr (Or.inl ⟨rfl, rfl⟩)))
theorem F_X1_home {X : tp_X} {az : Array Value} (hG : tp_Good X az) (hSt : tp_Stat X) (pc : Nat) : tp_Fit X yX1_home cX1_home (some .boolean) 2 tp_nm tp_by tp_ml tp_rtt pc (mX1_home pc) :=
  fI (fX1_home_0 hG hSt) <| fI (fX1_home_10 hG hSt) <| trivial
