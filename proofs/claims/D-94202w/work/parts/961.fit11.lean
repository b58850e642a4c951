/-! FITS 11 -/
set_option maxRecDepth 100000
theorem fX3_runs_0 {X : tp_X} {az : Array Value} (hG : tp_Good X az) (hSt : tp_Stat X) : tp_Fit X yX3_runs cX3_runs (some .int) 8 tp_nm tp_by tp_ml tp_rtt 0 [o_ald (.aload_n 0) 0, o_ild (.iload_n 1) 1, o_cv (.invokevirtual 464) 3 kX3_isText 1 0, o_ifeq 62 67, o_ild (.iload_n 2) 2, o_int (.iconst 0) 0, o_int (.sipush 9999) 9999, o_cs (.invokestatic 90) kX3_isIn 3 0, o_ifeq 51 67, o_ild (.iload_n 3) 3, o_int (.iconst 1) 1, o_int (.bipush 40) 40, o_cs (.invokestatic 90) kX3_isIn 3 0, o_ifeq 41 67, o_ild (.iload_n 2) 2, o_ild (.iload_n 3) 3, o_iadd, o_int (.sipush 10000) 10000, o_icmpgt 32 67, o_ild (.iload 4) 4, o_int (.iconst 1) 1, o_int (.bipush 40) 40, o_cs (.invokestatic 90) kX3_isIn 3 0, o_ifeq 21 67, o_ild (.iload 5) 5, o_int (.iconst 0) 0, o_int (.iconst 2) 2, o_cs (.invokestatic 90) kX3_isIn 3 0, o_ifeq 11 67, o_ald (.aload_n 0) 0, o_int (.iconst 0) 0, o_cv (.invokevirtual 313) 3 kX3_isFree 1 0, o_ifne 5 69, o_fall 67] :=
  fG mo_ald (sim_ald_n dX3_runs_0 rfl) <|
  fG mo_ild (sim_ild_n dX3_runs_1 rfl) <|
  fC (ic_cv (Or.inl rfl)) (sim_cv hG dX3_runs_2 (hG.2.1 3 _ hc_3).2.1 M_X3_isText (by rw [nm_X3_isText]; rfl) (by rw [nm_X3_isText]; exact q1858) (by rw [nm_X3_isText]; exact q1860) (by rw [nm_X3_isText]; exact qs118)) <|
  fG mo_ifeq (sim_ifeq dX3_runs_5 rfl) <|
  fG mo_ild (sim_ild_n dX3_runs_8 rfl) <|
  fG mo_int (sim_iconst dX3_runs_9 (by decide)) <|
  fG mo_int (sim_sipush dX3_runs_10 (by decide)) <|
  fC (ic_cs (Or.inl rfl)) (sim_cs hG dX3_runs_13 M_X3_isIn (by rw [nm_X3_isIn]; rfl) (by rw [nm_X3_isIn]; exact q1400) (by rw [nm_X3_isIn]; exact q1401)) <|
  fG mo_ifeq (sim_ifeq dX3_runs_16 rfl) <|
  fG mo_ild (sim_ild_n dX3_runs_19 rfl) <|
  fG mo_int (sim_iconst dX3_runs_20 (by decide)) <|
  fG mo_int (sim_bipush dX3_runs_21 (by decide)) <|
  fC (ic_cs (Or.inl rfl)) (sim_cs hG dX3_runs_23 M_X3_isIn (by rw [nm_X3_isIn]; rfl) (by rw [nm_X3_isIn]; exact q1400) (by rw [nm_X3_isIn]; exact q1401)) <|
  fG mo_ifeq (sim_ifeq dX3_runs_26 rfl) <|
  fG mo_ild (sim_ild_n dX3_runs_29 rfl) <|
  fG mo_ild (sim_ild_n dX3_runs_30 rfl) <|
  fG mo_iadd (sim_iadd dX3_runs_31) <|
  fG mo_int (sim_sipush dX3_runs_32 (by decide)) <|
  fG mo_icmpgt (sim_icmpgt dX3_runs_35 rfl) <|
  fG mo_ild (sim_ild dX3_runs_38) <|
  fG mo_int (sim_iconst dX3_runs_40 (by decide)) <|
  fG mo_int (sim_bipush dX3_runs_41 (by decide)) <|
  fC (ic_cs (Or.inl rfl)) (sim_cs hG dX3_runs_43 M_X3_isIn (by rw [nm_X3_isIn]; rfl) (by rw [nm_X3_isIn]; exact q1400) (by rw [nm_X3_isIn]; exact q1401)) <|
  fG mo_ifeq (sim_ifeq dX3_runs_46 rfl) <|
  fG mo_ild (sim_ild dX3_runs_49) <|
  fG mo_int (sim_iconst dX3_runs_51 (by decide)) <|
  fG mo_int (sim_iconst dX3_runs_52 (by decide)) <|
  fC (ic_cs (Or.inl rfl)) (sim_cs hG dX3_runs_53 M_X3_isIn (by rw [nm_X3_isIn]; rfl) (by rw [nm_X3_isIn]; exact q1400) (by rw [nm_X3_isIn]; exact q1401)) <|
  fG mo_ifeq (sim_ifeq dX3_runs_56 rfl) <|
  fG mo_ald (sim_ald_n dX3_runs_59 rfl) <|
  fG mo_int (sim_iconst dX3_runs_60 (by decide)) <|
  fC (ic_cv (Or.inl rfl)) (sim_cv hG dX3_runs_61 (hG.2.1 3 _ hc_3).2.1 M_X3_isFree (by rw [nm_X3_isFree]; rfl) (by rw [nm_X3_isFree]; exact q1582) (by rw [nm_X3_isFree]; exact q1584) (by rw [nm_X3_isFree]; exact qs73)) <|
  fG mo_ifne (sim_ifne dX3_runs_64 rfl) <|
  fF
theorem fX3_runs_67 {X : tp_X} {az : Array Value} (hG : tp_Good X az) (hSt : tp_Stat X) : tp_Fit X yX3_runs cX3_runs (some .int) 8 tp_nm tp_by tp_ml tp_rtt 67 [o_int (.iconst (-1)) (-1), o_iret 0] :=
  fG mo_int (sim_iconst dX3_runs_67 (by decide)) <|
  fE ie_iret (sim_iret dX3_runs_68 rfl (Or.inl ⟨rfl, rfl⟩))
theorem fX3_runs_69 {X : tp_X} {az : Array Value} (hG : tp_Good X az) (hSt : tp_Stat X) : tp_Fit X yX3_runs cX3_runs (some .int) 8 tp_nm tp_by tp_ml tp_rtt 69 [o_int (.iconst 0) 0, o_ist (.istore 6) 6, o_int (.iconst 0) 0, o_ist (.istore 7) 7, o_fall 75] :=
  fG mo_int (sim_iconst dX3_runs_69 (by decide)) <|
  fG mo_ist (sim_ist dX3_runs_70) <|
  fG mo_int (sim_iconst dX3_runs_72 (by decide)) <|
  fG mo_ist (sim_ist dX3_runs_73) <|
  fF
theorem fX3_runs_75 {X : tp_X} {az : Array Value} (hG : tp_Good X az) (hSt : tp_Stat X) : tp_Fit X yX3_runs cX3_runs (some .int) 8 tp_nm tp_by tp_ml tp_rtt 75 [o_ild (.iload 7) 7, o_ild (.iload_n 3) 3, o_icmpge 39 117, o_ald (.aload_n 0) 0, o_ild (.iload_n 1) 1, o_ild (.iload_n 2) 2, o_ild (.iload 7) 7, o_iadd, o_ild (.iload 4) 4, o_cv (.invokevirtual 467) 3 kX3_runAll 3 0, o_ild (.iload 6) 6, o_ald (.aload_n 0) 0, o_getf (.getfield 452) 3 44, o_ild (.iload 5) 5, o_icmpne 7 107, o_int (.iconst 1) 1, o_goto 4 108] :=
  fG mo_ild (sim_ild dX3_runs_75) <|
  fG mo_ild (sim_ild_n dX3_runs_77 rfl) <|
  fG mo_icmpge (sim_icmpge dX3_runs_78 rfl) <|
  fG mo_ald (sim_ald_n dX3_runs_81 rfl) <|
  fG mo_ild (sim_ild_n dX3_runs_82 rfl) <|
  fG mo_ild (sim_ild_n dX3_runs_83 rfl) <|
  fG mo_ild (sim_ild dX3_runs_84) <|
  fG mo_iadd (sim_iadd dX3_runs_86) <|
  fG mo_ild (sim_ild dX3_runs_87) <|
  fC (ic_cv (Or.inl rfl)) (sim_cv hG dX3_runs_89 (hG.2.1 3 _ hc_3).2.1 M_X3_runAll (by rw [nm_X3_runAll]; rfl) (by rw [nm_X3_runAll]; exact q1862) (by rw [nm_X3_runAll]; exact q1864) (by rw [nm_X3_runAll]; exact qs119)) <|
  fG mo_ild (sim_ild dX3_runs_92) <|
  fG mo_ald (sim_ald_n dX3_runs_94 rfl) <|
  fG mo_getf (sim_getfG hG dX3_runs_95 hc_3 (by decide) rfl in_X3 (fun _ _ _ h => h) (Or.inl q1294)) <|
  fG mo_ild (sim_ild dX3_runs_98) <|
  fG mo_icmpne (sim_icmpne dX3_runs_100 rfl) <|
  fG mo_int (sim_iconst dX3_runs_103 (by decide)) <|
  fG mo_goto (sim_goto dX3_runs_104 rfl) <|
  trivial
theorem fX3_runs_107 {X : tp_X} {az : Array Value} (hG : tp_Good X az) (hSt : tp_Stat X) : tp_Fit X yX3_runs cX3_runs (some .int) 8 tp_nm tp_by tp_ml tp_rtt 107 [o_int (.iconst 0) 0, o_fall 108] :=
  fG mo_int (sim_iconst dX3_runs_107 (by decide)) <|
  fF
theorem fX3_runs_108 {X : tp_X} {az : Array Value} (hG : tp_Good X az) (hSt : tp_Stat X) : tp_Fit X yX3_runs cX3_runs (some .int) 8 tp_nm tp_by tp_ml tp_rtt 108 [o_iadd, o_ist (.istore 6) 6, o_inc 7 1, o_goto (-39) 75] :=
  fG mo_iadd (sim_iadd dX3_runs_108) <|
  fG mo_ist (sim_ist dX3_runs_109) <|
  fG mo_inc (sim_inc dX3_runs_111 (by decide)) <|
  fG mo_goto (sim_goto dX3_runs_114 rfl) <|
  trivial
theorem fX3_runs_117 {X : tp_X} {az : Array Value} (hG : tp_Good X az) (hSt : tp_Stat X) : tp_Fit X yX3_runs cX3_runs (some .int) 8 tp_nm tp_by tp_ml tp_rtt 117 [o_ild (.iload 6) 6, o_iret 0] :=
  fG mo_ild (sim_ild dX3_runs_117) <|
  fE ie_iret (sim_iret dX3_runs_119 rfl (Or.inl ⟨rfl, rfl⟩))
theorem F_X3_runs {X : tp_X} {az : Array Value} (hG : tp_Good X az) (hSt : tp_Stat X) (pc : Nat) : tp_Fit X yX3_runs cX3_runs (some .int) 8 tp_nm tp_by tp_ml tp_rtt pc (mX3_runs pc) :=
  fI (fX3_runs_0 hG hSt) <| fI (fX3_runs_67 hG hSt) <| fI (fX3_runs_69 hG hSt) <| fI (fX3_runs_75 hG hSt) <| fI (fX3_runs_107 hG hSt) <| fI (fX3_runs_108 hG hSt) <| fI (fX3_runs_117 hG hSt) <| trivial
theorem fX3_image_0 {X : tp_X} {az : Array Value} (hG : tp_Good X az) (hSt : tp_Stat X) : tp_Fit X yX3_image cX3_image (some .int) 1 tp_nm tp_by tp_ml tp_rtt 0 [o_ald (.aload_n 0) 0, o_getf (.getfield 7) 3 3, o_ald (.aload_n 0) 0, o_getf (.getfield 13) 3 4, o_cs (.invokestatic 86) kX3_copyRow 2 0, o_ald (.aload_n 0) 0, o_getf (.getfield 7) 3 3, o_int (.iconst 0) 0, o_lda .iaload [0, 20], o_iret 0] :=
  fG mo_ald (sim_ald_n dX3_image_0 rfl) <|
  fG mo_getf (sim_getfG hG dX3_image_1 hc_3 (by decide) rfl in_X3 (fun _ _ _ h => h) (Or.inl q1255)) <|
  fG mo_ald (sim_ald_n dX3_image_4 rfl) <|
  fG mo_getf (sim_getfG hG dX3_image_5 hc_3 (by decide) rfl in_X3 (fun _ _ _ h => h) (Or.inl q1256)) <|
  fC (ic_cs (Or.inl rfl)) (sim_cs hG dX3_image_8 M_X3_copyRow (by rw [nm_X3_copyRow]; rfl) (by rw [nm_X3_copyRow]; exact q1249) (by rw [nm_X3_copyRow]; exact q1250)) <|
  fG mo_ald (sim_ald_n dX3_image_11 rfl) <|
  fG mo_getf (sim_getfG hG dX3_image_12 hc_3 (by decide) rfl in_X3 (fun _ _ _ h => h) (Or.inl q1255)) <|
  fG mo_int (sim_iconst dX3_image_15 (by decide)) <|
  fG mo_lda (sim_iald dX3_image_16) <|
  fE ie_iret (sim_iret dX3_image_17 rfl (Or.inl ⟨rfl, rfl⟩))
theorem F_X3_image {X : tp_X} {az : Array Value} (hG : tp_Good X az) (hSt : tp_Stat X) (pc : Nat) : tp_Fit X yX3_image cX3_image (some .int) 1 tp_nm tp_by tp_ml tp_rtt pc (mX3_image pc) :=
  fI (fX3_image_0 hG hSt) <| trivial
theorem fX3_back_0 {X : tp_X} {az : Array Value} (hG : tp_Good X az) (hSt : tp_Stat X) : tp_Fit X yX3_back cX3_back (some .int) 1 tp_nm tp_by tp_ml tp_rtt 0 [o_ald (.aload_n 0) 0, o_getf (.getfield 13) 3 4, o_ald (.aload_n 0) 0, o_getf (.getfield 7) 3 3, o_cs (.invokestatic 86) kX3_copyRow 2 0, o_ald (.aload_n 0) 0, o_getf (.getfield 7) 3 3, o_int (.iconst 0) 0, o_lda .iaload [0, 20], o_iret 0] :=
  fG mo_ald (sim_ald_n dX3_back_0 rfl) <|
  fG mo_getf (sim_getfG hG dX3_back_1 hc_3 (by decide) rfl in_X3 (fun _ _ _ h => h) (Or.inl q1256)) <|
  fG mo_ald (sim_ald_n dX3_back_4 rfl) <|
  fG mo_getf (sim_getfG hG dX3_back_5 hc_3 (by decide) rfl in_X3 (fun _ _ _ h => h) (Or.inl q1255)) <|
  fC (ic_cs (Or.inl rfl)) (sim_cs hG dX3_back_8 M_X3_copyRow (by rw [nm_X3_copyRow]; rfl) (by rw [nm_X3_copyRow]; exact q1249) (by rw [nm_X3_copyRow]; exact q1250)) <|
  fG mo_ald (sim_ald_n dX3_back_11 rfl) <|
  fG mo_getf (sim_getfG hG dX3_back_12 hc_3 (by decide) rfl in_X3 (fun _ _ _ h => h) (Or.inl q1255)) <|
  fG mo_int (sim_iconst dX3_back_15 (by decide)) <|
  fG mo_lda (sim_iald dX3_back_16) <|
  fE ie_iret (sim_iret dX3_back_17 rfl (Or.inl ⟨rfl, rfl⟩))
theorem F_X3_back {X : tp_X} {az : Array Value} (hG : tp_Good X az) (hSt : tp_Stat X) (pc : Nat) : tp_Fit X yX3_back cX3_back (some .int) 1 tp_nm tp_by tp_ml tp_rtt pc (mX3_back pc) :=
  fI (fX3_back_0 hG hSt) <| trivial
theorem fX3_about_0 {X : tp_X} {az : Array Value} (hG : tp_Good X az) (hSt : tp_Stat X) : tp_Fit X yX3_about cX3_about (some .int) 2 tp_nm tp_by tp_ml tp_rtt 0 [o_ild (.iload_n 1) 1, o_sw (.tableswitch 144 0 11 #[63, 68, 73, 80, 87, 94, 101, 108, 115, 123, 131, 136]) [(0, 64), (1, 69), (2, 74), (3, 81), (4, 88), (5, 95), (6, 102), (7, 109), (8, 116), (9, 124), (10, 132), (11, 137)] 145] :=
  fG mo_ild (sim_ild_n dX3_about_0 rfl) <|
  fG mo_sw (sim_tsw dX3_about_1 (by decide +kernel) (by decide +kernel)) <|
  trivial
theorem fX3_about_64 {X : tp_X} {az : Array Value} (hG : tp_Good X az) (hSt : tp_Stat X) : tp_Fit X yX3_about cX3_about (some .int) 2 tp_nm tp_by tp_ml tp_rtt 64 [o_ald (.aload_n 0) 0, o_getf (.getfield 77) 3 0, o_iret 0] :=
  fG mo_ald (sim_ald_n dX3_about_64 rfl) <|
  fG mo_getf (sim_getfG hG dX3_about_65 hc_3 (by decide) rfl in_X3 (fun _ _ _ h => h) (Or.inl q1252)) <|
  fE ie_iret (sim_iret dX3_about_68 rfl (Or.inl ⟨rfl, rfl⟩))
theorem fX3_about_69 {X : tp_X} {az : Array Value} (hG : tp_Good X az) (hSt : tp_Stat X) : tp_Fit X yX3_about cX3_about (some .int) 2 tp_nm tp_by tp_ml tp_rtt 69 [o_ald (.aload_n 0) 0, o_getf (.getfield 80) 3 1, o_iret 0] :=
  fG mo_ald (sim_ald_n dX3_about_69 rfl) <|
  fG mo_getf (sim_getfG hG dX3_about_70 hc_3 (by decide) rfl in_X3 (fun _ _ _ h => h) (Or.inl q1253)) <|
  fE ie_iret (sim_iret dX3_about_73 rfl (Or.inl ⟨rfl, rfl⟩))
theorem fX3_about_74 {X : tp_X} {az : Array Value} (hG : tp_Good X az) (hSt : tp_Stat X) : tp_Fit X yX3_about cX3_about (some .int) 2 tp_nm tp_by tp_ml tp_rtt 74 [o_ald (.aload_n 0) 0, o_getf (.getfield 7) 3 3, o_int (.iconst 0) 0, o_lda .iaload [0, 20], o_iret 0] :=
  fG mo_ald (sim_ald_n dX3_about_74 rfl) <|
  fG mo_getf (sim_getfG hG dX3_about_75 hc_3 (by decide) rfl in_X3 (fun _ _ _ h => h) (Or.inl q1255)) <|
  fG mo_int (sim_iconst dX3_about_78 (by decide)) <|
  fG mo_lda (sim_iald dX3_about_79) <|
  fE ie_iret (sim_iret dX3_about_80 rfl (Or.inl ⟨rfl, rfl⟩))
theorem fX3_about_81 {X : tp_X} {az : Array Value} (hG : tp_Good X az) (hSt : tp_Stat X) : tp_Fit X yX3_about cX3_about (some .int) 2 tp_nm tp_by tp_ml tp_rtt 81 [o_ald (.aload_n 0) 0, o_getf (.getfield 7) 3 3, o_int (.iconst 1) 1, o_lda .iaload [0, 20], o_iret 0] :=
  fG mo_ald (sim_ald_n dX3_about_81 rfl) <|
  fG mo_getf (sim_getfG hG dX3_about_82 hc_3 (by decide) rfl in_X3 (fun _ _ _ h => h) (Or.inl q1255)) <|
  fG mo_int (sim_iconst dX3_about_85 (by decide)) <|
  fG mo_lda (sim_iald dX3_about_86) <|
  fE ie_iret (sim_iret dX3_about_87 rfl (Or.inl ⟨rfl, rfl⟩))
theorem fX3_about_88 {X : tp_X} {az : Array Value} (hG : tp_Good X az) (hSt : tp_Stat X) : tp_Fit X yX3_about cX3_about (some .int) 2 tp_nm tp_by tp_ml tp_rtt 88 [o_ald (.aload_n 0) 0, o_getf (.getfield 7) 3 3, o_int (.iconst 2) 2, o_lda .iaload [0, 20], o_iret 0] :=
  fG mo_ald (sim_ald_n dX3_about_88 rfl) <|
  fG mo_getf (sim_getfG hG dX3_about_89 hc_3 (by decide) rfl in_X3 (fun _ _ _ h => h) (Or.inl q1255)) <|
  fG mo_int (sim_iconst dX3_about_92 (by decide)) <|
  fG mo_lda (sim_iald dX3_about_93) <|
  fE ie_iret (sim_iret dX3_about_94 rfl (Or.inl ⟨rfl, rfl⟩))
theorem fX3_about_95 {X : tp_X} {az : Array Value} (hG : tp_Good X az) (hSt : tp_Stat X) : tp_Fit X yX3_about cX3_about (some .int) 2 tp_nm tp_by tp_ml tp_rtt 95 [o_ald (.aload_n 0) 0, o_getf (.getfield 7) 3 3, o_int (.iconst 3) 3, o_lda .iaload [0, 20], o_iret 0] :=
  fG mo_ald (sim_ald_n dX3_about_95 rfl) <|
  fG mo_getf (sim_getfG hG dX3_about_96 hc_3 (by decide) rfl in_X3 (fun _ _ _ h => h) (Or.inl q1255)) <|
  fG mo_int (sim_iconst dX3_about_99 (by decide)) <|
  fG mo_lda (sim_iald dX3_about_100) <|
  fE ie_iret (sim_iret dX3_about_101 rfl (Or.inl ⟨rfl, rfl⟩))
theorem fX3_about_102 {X : tp_X} {az : Array Value} (hG : tp_Good X az) (hSt : tp_Stat X) : tp_Fit X yX3_about cX3_about (some .int) 2 tp_nm tp_by tp_ml tp_rtt 102 [o_ald (.aload_n 0) 0, o_getf (.getfield 7) 3 3, o_int (.iconst 4) 4, o_lda .iaload [0, 20], o_iret 0] :=
  fG mo_ald (sim_ald_n dX3_about_102 rfl) <|
  fG mo_getf (sim_getfG hG dX3_about_103 hc_3 (by decide) rfl in_X3 (fun _ _ _ h => h) (Or.inl q1255)) <|
  fG mo_int (sim_iconst dX3_about_106 (by decide)) <|
  fG mo_lda (sim_iald dX3_about_107) <|
  fE ie_iret (sim_iret dX3_about_108 rfl (Or.inl ⟨rfl, rfl⟩))
theorem fX3_about_109 {X : tp_X} {az : Array Value} (hG : tp_Good X az) (hSt : tp_Stat X) : tp_Fit X yX3_about cX3_about (some .int) 2 tp_nm tp_by tp_ml tp_rtt 109 [o_ald (.aload_n 0) 0, o_getf (.getfield 7) 3 3, o_int (.iconst 5) 5, o_lda .iaload [0, 20], o_iret 0] :=
  fG mo_ald (sim_ald_n dX3_about_109 rfl) <|
  fG mo_getf (sim_getfG hG dX3_about_110 hc_3 (by decide) rfl in_X3 (fun _ _ _ h => h) (Or.inl q1255)) <|
  fG mo_int (sim_iconst dX3_about_113 (by decide)) <|
  fG mo_lda (sim_iald dX3_about_114) <|
  fE ie_iret (sim_iret dX3_about_115 rfl (Or.inl ⟨rfl, rfl⟩))
theorem fX3_about_116 {X : tp_X} {az : Array Value} (hG : tp_Good X az) (hSt : tp_Stat X) : tp_Fit X yX3_about cX3_about (some .int) 2 tp_nm tp_by tp_ml tp_rtt 116 [o_ald (.aload_n 0) 0, o_getf (.getfield 7) 3 3, o_int (.bipush 6) 6, o_lda .iaload [0, 20], o_iret 0] :=
  fG mo_ald (sim_ald_n dX3_about_116 rfl) <|
  fG mo_getf (sim_getfG hG dX3_about_117 hc_3 (by decide) rfl in_X3 (fun _ _ _ h => h) (Or.inl q1255)) <|
  fG mo_int (sim_bipush dX3_about_120 (by decide)) <|
  fG mo_lda (sim_iald dX3_about_122) <|
  fE ie_iret (sim_iret dX3_about_123 rfl (Or.inl ⟨rfl, rfl⟩))
theorem fX3_about_124 {X : tp_X} {az : Array Value} (hG : tp_Good X az) (hSt : tp_Stat X) : tp_Fit X yX3_about cX3_about (some .int) 2 tp_nm tp_by tp_ml tp_rtt 124 [o_ald (.aload_n 0) 0, o_getf (.getfield 7) 3 3, o_int (.bipush 7) 7, o_lda .iaload [0, 20], o_iret 0] :=
  fG mo_ald (sim_ald_n dX3_about_124 rfl) <|
  fG mo_getf (sim_getfG hG dX3_about_125 hc_3 (by decide) rfl in_X3 (fun _ _ _ h => h) (Or.inl q1255)) <|
  fG mo_int (sim_bipush dX3_about_128 (by decide)) <|
  fG mo_lda (sim_iald dX3_about_130) <|
  fE ie_iret (sim_iret dX3_about_131 rfl (Or.inl ⟨rfl, rfl⟩))
theorem fX3_about_132 {X : tp_X} {az : Array Value} (hG : tp_Good X az) (hSt : tp_Stat X) : tp_Fit X yX3_about cX3_about (some .int) 2 tp_nm tp_by tp_ml tp_rtt 132 [o_ald (.aload_n 0) 0, o_getf (.getfield 112) 3 7, o_iret 0] :=
  fG mo_ald (sim_ald_n dX3_about_132 rfl) <|
  fG mo_getf (sim_getfG hG dX3_about_133 hc_3 (by decide) rfl in_X3 (fun _ _ _ h => h) (Or.inl q1259)) <|
  fE ie_iret (sim_iret dX3_about_136 rfl (Or.inl ⟨rfl, rfl⟩))
theorem fX3_about_137 {X : tp_X} {az : Array Value} (hG : tp_Good X az) (hSt : tp_Stat X) : tp_Fit X yX3_about cX3_about (some .int) 2 tp_nm tp_by tp_ml tp_rtt 137 [o_ald (.aload_n 0) 0, o_getf (.getfield 7) 3 3, o_int (.bipush 8) 8, o_lda .iaload [0, 20], o_iret 0] :=
  fG mo_ald (sim_ald_n dX3_about_137 rfl) <|
  fG mo_getf (sim_getfG hG dX3_about_138 hc_3 (by decide) rfl in_X3 (fun _ _ _ h => h) (Or.inl q1255)) <|
  fG mo_int (sim_bipush dX3_about_141 (by decide)) <|
  fG mo_lda (sim_iald dX3_about_143) <|
  fE ie_iret (sim_iret dX3_about_144 rfl (Or.inl ⟨rfl, rfl⟩))
theorem fX3_about_145 {X : tp_X} {az : Array Value} (hG : tp_Good X az) (hSt : tp_Stat X) : tp_Fit X yX3_about cX3_about (some .int) 2 tp_nm tp_by tp_ml tp_rtt 145 [o_int (.bipush (-2)) (-2), o_iret 0] :=
  fG mo_int (sim_bipush dX3_about_145 (by decide)) <|
  fE ie_iret (sim_iret dX3_about_147 rfl (Or.inl ⟨rfl, rfl⟩))
theorem F_X3_about {X : tp_X} {az : Array Value} (hG : tp_Good X az) (hSt : tp_Stat X) (pc : Nat) : tp_Fit X yX3_about cX3_about (some .int) 2 tp_nm tp_by tp_ml tp_rtt pc (mX3_about pc) :=
  fI (fX3_about_0 hG hSt) <| fI (fX3_about_64 hG hSt) <| fI (fX3_about_69 hG hSt) <| fI (fX3_about_74 hG hSt) <| fI (fX3_about_81 hG hSt) <| fI (fX3_about_88 hG hSt) <| fI (fX3_about_95 hG hSt) <| fI (fX3_about_102 hG hSt) <| fI (fX3_about_109 hG hSt) <| fI (fX3_about_116 hG hSt) <| fI (fX3_about_124 hG hSt) <| fI (fX3_about_132 hG hSt) <| fI (fX3_about_137 hG hSt) <| fI (fX3_about_145 hG hSt) <| trivial
theorem fX4_init_0 {X : tp_X} {az : Array Value} (hG : tp_Good X az) (hSt : tp_Stat X) : tp_Fit X yX4_init cX4_init none 3 tp_nm tp_by tp_ml tp_rtt 0 [o_ald (.aload_n 0) 0, o_objinit (.invokespecial 3), o_ald (.aload_n 0) 0, o_ald (.aload_n 1) 1, o_putf (.putfield 9) 4 0 4, o_ald (.aload_n 0) 0, o_ild (.iload_n 2) 2, o_putf (.putfield 15) 4 1 0, o_vret] :=
  fG mo_ald (sim_ald_n dX4_init_0 rfl) <|
  fG mo_objinit (sim_objinit hG dX4_init_1 q396 q163 q164) <|
  fG mo_ald (sim_ald_n dX4_init_4 rfl) <|
  fG mo_ald (sim_ald_n dX4_init_5 rfl) <|
  fG mo_putf (sim_putfF hG dX4_init_6 hc_4 (by decide) rfl (by decide) in_X4 tyX4_ok nmX4 (Or.inr (Or.inr (Or.inr (Or.inr ⟨Or.inr ⟨_, rfl⟩, by decide⟩)))) (fun _ _ _ h => h) rfl rfl rfl q397) <|
  fG mo_ald (sim_ald_n dX4_init_9 rfl) <|
  fG mo_ild (sim_ild_n dX4_init_10 rfl) <|
  fG mo_putf (sim_putfF hG dX4_init_11 hc_4 (by decide) rfl (by decide) in_X4 tyX4_ok nmX4 (Or.inl ⟨rfl, rfl⟩) (fun _ _ _ h => h) rfl rfl rfl q398) <|
  fE ie_vret (sim_vret dX4_init_14 rfl)
theorem F_X4_init {X : tp_X} {az : Array Value} (hG : tp_Good X az) (hSt : tp_Stat X) (pc : Nat) : tp_Fit X yX4_init cX4_init none 3 tp_nm tp_by tp_ml tp_rtt pc (mX4_init pc) :=
  fI (fX4_init_0 hG hSt) <| trivial
theorem fX4_read_0 {X : tp_X} {az : Array Value} (hG : tp_Good X az) (hSt : tp_Stat X) : tp_Fit X yX4_read cX4_read (some (.object "ThroughPack$Text")) 2 tp_nm tp_by tp_ml tp_rtt 0 [o_new (.new 80) 5 7 [xN, xN, xN, xN, xN, xN, xI 0], o_dup, o_cp (.invokespecial 82) kX5_init 0 0, o_ast (.astore_n 1) 1, o_ald (.aload_n 0) 0, o_cv (.invokevirtual 74) 4 kX4_next 0 0, o_fall 12] :=
  fG mo_new (sim_new hG dX4_read_0 hc_5 rfl (by decide) (by decide) in_X5 tyX5_ok q426 q427 q132 df_X5) <|
  fG mo_dup (sim_dup dX4_read_3) <|
  fC (ic_cp (Or.inl rfl)) (sim_cpN hG dX4_read_4 M_X5_init (by rw [nm_X5_init]; rfl) rt_X5_init (by rw [nm_X5_init]; rfl) (by rw [nm_X5_init]; exact q428) (by rw [nm_X5_init]; exact q429)) <|
  fG mo_ast (sim_ast_n dX4_read_7 rfl) <|
  fG mo_ald (sim_ald_n dX4_read_8 rfl) <|
  fC (ic_cv (Or.inl rfl)) (sim_cv hG dX4_read_9 (hG.2.1 4 _ hc_4).2.1 M_X4_next (by rw [nm_X4_next]; rfl) (by rw [nm_X4_next]; exact q490) (by rw [nm_X4_next]; exact q492) (by rw [nm_X4_next]; exact qs2)) <|
  fF
theorem fX4_read_12 {X : tp_X} {az : Array Value} (hG : tp_Good X az) (hSt : tp_Stat X) : tp_Fit X yX4_read cX4_read (some (.object "ThroughPack$Text")) 2 tp_nm tp_by tp_ml tp_rtt 12 [o_ald (.aload_n 0) 0, o_getf (.getfield 25) 4 4, o_int (.sipush 301) 301, o_icmpeq 121 140, o_ald (.aload_n 0) 0, o_getf (.getfield 25) 4 4, o_int (.sipush 200) 200, o_icmplt 13 42, o_ald (.aload_n 0) 0, o_getf (.getfield 25) 4 4, o_int (.sipush 205) 205, o_icmple 9 48, o_fall 42] :=
  fG mo_ald (sim_ald_n dX4_read_12 rfl) <|
  fG mo_getf (sim_getfG hG dX4_read_13 hc_4 (by decide) rfl in_X4 (fun _ _ _ h => h) (Or.inl q401)) <|
  fG mo_int (sim_sipush dX4_read_16 (by decide)) <|
  fG mo_icmpeq (sim_icmpeq dX4_read_19 rfl) <|
  fG mo_ald (sim_ald_n dX4_read_22 rfl) <|
  fG mo_getf (sim_getfG hG dX4_read_23 hc_4 (by decide) rfl in_X4 (fun _ _ _ h => h) (Or.inl q401)) <|
  fG mo_int (sim_sipush dX4_read_26 (by decide)) <|
  fG mo_icmplt (sim_icmplt dX4_read_29 rfl) <|
  fG mo_ald (sim_ald_n dX4_read_32 rfl) <|
  fG mo_getf (sim_getfG hG dX4_read_33 hc_4 (by decide) rfl in_X4 (fun _ _ _ h => h) (Or.inl q401)) <|
  fG mo_int (sim_sipush dX4_read_36 (by decide)) <|
  fG mo_icmple (sim_icmple dX4_read_39 rfl) <|
  fF
theorem fX4_read_42 {X : tp_X} {az : Array Value} (hG : tp_Good X az) (hSt : tp_Stat X) : tp_Fit X yX4_read cX4_read (some (.object "ThroughPack$Text")) 2 tp_nm tp_by tp_ml tp_rtt 42 [o_ald (.aload_n 0) 0, o_int (.iconst 1) 1, o_cv (.invokevirtual 70) 4 kX4_wrong 1 0, o_thr] :=
  fG mo_ald (sim_ald_n dX4_read_42 rfl) <|
  fG mo_int (sim_iconst dX4_read_43 (by decide)) <|
  fC (ic_cv (Or.inl rfl)) (sim_cv hG dX4_read_44 (hG.2.1 4 _ hc_4).2.1 M_X4_wrong (by rw [nm_X4_wrong]; rfl) (by rw [nm_X4_wrong]; exact q557) (by rw [nm_X4_wrong]; exact q559) (by rw [nm_X4_wrong]; exact qs4)) <|
  fE ie_thr (sim_thr dX4_read_47 rfl)
theorem fX4_read_48 {X : tp_X} {az : Array Value} (hG : tp_Good X az) (hSt : tp_Stat X) : tp_Fit X yX4_read cX4_read (some (.object "ThroughPack$Text")) 2 tp_nm tp_by tp_ml tp_rtt 48 [o_ald (.aload_n 0) 0, o_ald (.aload_n 0) 0, o_getf (.getfield 25) 4 4, o_putf (.putfield 83) 4 7 0, o_ald (.aload_n 0) 0, o_getf (.getfield 83) 4 7, o_int (.sipush 204) 204, o_icmpne 10 73, o_ald (.aload_n 1) 1, o_getf (.getfield 86) 5 4, o_ifnon 20 90, o_fall 73] :=
  fG mo_ald (sim_ald_n dX4_read_48 rfl) <|
  fG mo_ald (sim_ald_n dX4_read_49 rfl) <|
  fG mo_getf (sim_getfG hG dX4_read_50 hc_4 (by decide) rfl in_X4 (fun _ _ _ h => h) (Or.inl q401)) <|
  fG mo_putf (sim_putf hG dX4_read_53 hc_4 (by decide) rfl (by decide) in_X4 tyX4_ok nmX4 (Or.inl ⟨rfl, rfl⟩) (fun _ _ _ h => h) rfl q404) <|
  fG mo_ald (sim_ald_n dX4_read_56 rfl) <|
  fG mo_getf (sim_getfG hG dX4_read_57 hc_4 (by decide) rfl in_X4 (fun _ _ _ h => h) (Or.inl q404)) <|
  fG mo_int (sim_sipush dX4_read_60 (by decide)) <|
  fG mo_icmpne (sim_icmpne dX4_read_63 rfl) <|
  fG mo_ald (sim_ald_n dX4_read_66 rfl) <|
  fG mo_getf (sim_getfG hG dX4_read_67 hc_5 (by decide) rfl in_X5 (fun _ _ _ h => h) (Or.inr ⟨_, q470⟩)) <|
  fG mo_ifnon (sim_ifnon dX4_read_70 rfl) <|
  fF
theorem fX4_read_73 {X : tp_X} {az : Array Value} (hG : tp_Good X az) (hSt : tp_Stat X) : tp_Fit X yX4_read cX4_read (some (.object "ThroughPack$Text")) 2 tp_nm tp_by tp_ml tp_rtt 73 [o_ald (.aload_n 0) 0, o_getf (.getfield 83) 4 7, o_int (.sipush 205) 205, o_icmpne 16 96, o_ald (.aload_n 1) 1, o_getf (.getfield 90) 5 5, o_ifnull 9 96, o_fall 90] :=
  fG mo_ald (sim_ald_n dX4_read_73 rfl) <|
  fG mo_getf (sim_getfG hG dX4_read_74 hc_4 (by decide) rfl in_X4 (fun _ _ _ h => h) (Or.inl q404)) <|
  fG mo_int (sim_sipush dX4_read_77 (by decide)) <|
  fG mo_icmpne (sim_icmpne dX4_read_80 rfl) <|
  fG mo_ald (sim_ald_n dX4_read_83 rfl) <|
  fG mo_getf (sim_getfG hG dX4_read_84 hc_5 (by decide) rfl in_X5 (fun _ _ _ h => h) (Or.inr ⟨_, q472⟩)) <|
  fG mo_ifnull (sim_ifnull dX4_read_87 rfl) <|
  fF
theorem fX4_read_90 {X : tp_X} {az : Array Value} (hG : tp_Good X az) (hSt : tp_Stat X) : tp_Fit X yX4_read cX4_read (some (.object "ThroughPack$Text")) 2 tp_nm tp_by tp_ml tp_rtt 90 [o_ald (.aload_n 0) 0, o_int (.iconst 4) 4, o_cv (.invokevirtual 70) 4 kX4_wrong 1 0, o_thr] :=
  fG mo_ald (sim_ald_n dX4_read_90 rfl) <|
  fG mo_int (sim_iconst dX4_read_91 (by decide)) <|
  fC (ic_cv (Or.inl rfl)) (sim_cv hG dX4_read_92 (hG.2.1 4 _ hc_4).2.1 M_X4_wrong (by rw [nm_X4_wrong]; rfl) (by rw [nm_X4_wrong]; exact q557) (by rw [nm_X4_wrong]; exact q559) (by rw [nm_X4_wrong]; exact qs4)) <|
  fE ie_thr (sim_thr dX4_read_95 rfl)
theorem fX4_read_96 {X : tp_X} {az : Array Value} (hG : tp_Good X az) (hSt : tp_Stat X) : tp_Fit X yX4_read cX4_read (some (.object "ThroughPack$Text")) 2 tp_nm tp_by tp_ml tp_rtt 96 [o_ald (.aload_n 1) 1, o_getf (.getfield 93) 5 6, o_int (.bipush 12) 12, o_icmpne 10 112, o_ald (.aload_n 0) 0, o_int (.bipush 6) 6, o_cv (.invokevirtual 70) 4 kX4_wrong 1 0, o_thr] :=
  fG mo_ald (sim_ald_n dX4_read_96 rfl) <|
  fG mo_getf (sim_getfG hG dX4_read_97 hc_5 (by decide) rfl in_X5 (fun _ _ _ h => h) (Or.inr ⟨_, q474⟩)) <|
  fG mo_int (sim_bipush dX4_read_100 (by decide)) <|
  fG mo_icmpne (sim_icmpne dX4_read_102 rfl) <|
  fG mo_ald (sim_ald_n dX4_read_105 rfl) <|
  fG mo_int (sim_bipush dX4_read_106 (by decide)) <|
  fC (ic_cv (Or.inl rfl)) (sim_cv hG dX4_read_108 (hG.2.1 4 _ hc_4).2.1 M_X4_wrong (by rw [nm_X4_wrong]; rfl) (by rw [nm_X4_wrong]; exact q557) (by rw [nm_X4_wrong]; exact q559) (by rw [nm_X4_wrong]; exact qs4)) <|
  fE ie_thr (sim_thr dX4_read_111 rfl)
theorem fX4_read_112 {X : tp_X} {az : Array Value} (hG : tp_Good X az) (hSt : tp_Stat X) : tp_Fit X yX4_read cX4_read (some (.object "ThroughPack$Text")) 2 tp_nm tp_by tp_ml tp_rtt 112 [o_ald (.aload_n 0) 0, o_cv (.invokevirtual 74) 4 kX4_next 0 0, o_ald (.aload_n 0) 0, o_ald (.aload_n 1) 1, o_cv (.invokevirtual 96) 4 kX4_clause 1 1, o_ald (.aload_n 0) 0, o_int (.bipush 59) 59, o_cv (.invokevirtual 100) 4 kX4_want 1 1, o_ald (.aload_n 1) 1, o_dup, o_getf (.getfield 93) 5 6, o_int (.iconst 1) 1, o_iadd, o_putf (.putfield 93) 5 6 0, o_goto (-125) 12] :=
  fG mo_ald (sim_ald_n dX4_read_112 rfl) <|
  fC (ic_cv (Or.inl rfl)) (sim_cv hG dX4_read_113 (hG.2.1 4 _ hc_4).2.1 M_X4_next (by rw [nm_X4_next]; rfl) (by rw [nm_X4_next]; exact q490) (by rw [nm_X4_next]; exact q492) (by rw [nm_X4_next]; exact qs2)) <|
  fG mo_ald (sim_ald_n dX4_read_116 rfl) <|
  fG mo_ald (sim_ald_n dX4_read_117 rfl) <|
  fC (ic_cv (Or.inr (Or.inl ⟨rfl, rfl⟩))) (sim_cv hG dX4_read_118 (hG.2.1 4 _ hc_4).2.1 M_X4_clause (by rw [nm_X4_clause]; rfl) (by rw [nm_X4_clause]; exact q625) (by rw [nm_X4_clause]; exact q627) (by rw [nm_X4_clause]; exact qs6)) <|
  fG mo_ald (sim_ald_n dX4_read_121 rfl) <|
  fG mo_int (sim_bipush dX4_read_122 (by decide)) <|
  fC (ic_cv (Or.inr (Or.inl ⟨rfl, rfl⟩))) (sim_cv hG dX4_read_124 (hG.2.1 4 _ hc_4).2.1 M_X4_want (by rw [nm_X4_want]; rfl) (by rw [nm_X4_want]; exact q698) (by rw [nm_X4_want]; exact q700) (by rw [nm_X4_want]; exact qs15)) <|
  fG mo_ald (sim_ald_n dX4_read_127 rfl) <|
  fG mo_dup (sim_dup dX4_read_128) <|
  fG mo_getf (sim_getfG hG dX4_read_129 hc_5 (by decide) rfl in_X5 (fun _ _ _ h => h) (Or.inr ⟨_, q474⟩)) <|
  fG mo_int (sim_iconst dX4_read_132 (by decide)) <|
  fG mo_iadd (sim_iadd dX4_read_133) <|
  fG mo_putf (sim_putfN hG dX4_read_134 hc_5 (by decide) rfl (by decide) in_X5 tyX5_ok nmX5 (Or.inl ⟨rfl, rfl⟩) (fun _ _ _ h => h) rfl q474) <|
  fG mo_goto (sim_goto dX4_read_137 rfl) <|
  trivial
theorem fX4_read_140 {X : tp_X} {az : Array Value} (hG : tp_Good X az) (hSt : tp_Stat X) : tp_Fit X yX4_read cX4_read (some (.object "ThroughPack$Text")) 2 tp_nm tp_by tp_ml tp_rtt 140 [o_ald (.aload_n 1) 1, o_aret] :=
  fG mo_ald (sim_ald_n dX4_read_140 rfl) <|
  fE ie_aret (sim_aret dX4_read_141 rfl (Or.inl ⟨_, rfl⟩))
theorem F_X4_read {X : tp_X} {az : Array Value} (hG : tp_Good X az) (hSt : tp_Stat X) (pc : Nat) : tp_Fit X yX4_read cX4_read (some (.object "ThroughPack$Text")) 2 tp_nm tp_by tp_ml tp_rtt pc (mX4_read pc) :=
  fI (fX4_read_0 hG hSt) <| fI (fX4_read_12 hG hSt) <| fI (fX4_read_42 hG hSt) <| fI (fX4_read_48 hG hSt) <| fI (fX4_read_73 hG hSt) <| fI (fX4_read_90 hG hSt) <| fI (fX4_read_96 hG hSt) <| fI (fX4_read_112 hG hSt) <| fI (fX4_read_140 hG hSt) <| trivial
theorem fX4_next_0 {X : tp_X} {az : Array Value} (hG : tp_Good X az) (hSt : tp_Stat X) : tp_Fit X yX4_next cX4_next none 3 tp_nm tp_by tp_ml tp_rtt 0 [o_ald (.aload_n 0) 0, o_getf (.getfield 19) 4 2, o_ald (.aload_n 0) 0, o_getf (.getfield 15) 4 1, o_icmpge 44 52, o_ald (.aload_n 0) 0, o_getf (.getfield 9) 4 0, o_ald (.aload_n 0) 0, o_getf (.getfield 19) 4 2, o_lda .baload [1, 2, 22], o_int (.bipush 32) 32, o_icmpeq 17 39, o_ald (.aload_n 0) 0, o_getf (.getfield 9) 4 0, o_ald (.aload_n 0) 0, o_getf (.getfield 19) 4 2, o_lda .baload [1, 2, 22], o_int (.bipush 10) 10, o_icmpne 16 52, o_fall 39] :=
  fG mo_ald (sim_ald_n dX4_next_0 rfl) <|
  fG mo_getf (sim_getfG hG dX4_next_1 hc_4 (by decide) rfl in_X4 (fun _ _ _ h => h) (Or.inl q399)) <|
  fG mo_ald (sim_ald_n dX4_next_4 rfl) <|
  fG mo_getf (sim_getfG hG dX4_next_5 hc_4 (by decide) rfl in_X4 (fun _ _ _ h => h) (Or.inl q398)) <|
  fG mo_icmpge (sim_icmpge dX4_next_8 rfl) <|
  fG mo_ald (sim_ald_n dX4_next_11 rfl) <|
  fG mo_getf (sim_getfG hG dX4_next_12 hc_4 (by decide) rfl in_X4 (fun _ _ _ h => h) (Or.inl q397)) <|
  fG mo_ald (sim_ald_n dX4_next_15 rfl) <|
  fG mo_getf (sim_getfG hG dX4_next_16 hc_4 (by decide) rfl in_X4 (fun _ _ _ h => h) (Or.inl q399)) <|
  fG mo_lda (sim_bald dX4_next_19) <|
  fG mo_int (sim_bipush dX4_next_20 (by decide)) <|
  fG mo_icmpeq (sim_icmpeq dX4_next_22 rfl) <|
  fG mo_ald (sim_ald_n dX4_next_25 rfl) <|
  fG mo_getf (sim_getfG hG dX4_next_26 hc_4 (by decide) rfl in_X4 (fun _ _ _ h => h) (Or.inl q397)) <|
  fG mo_ald (sim_ald_n dX4_next_29 rfl) <|
  fG mo_getf (sim_getfG hG dX4_next_30 hc_4 (by decide) rfl in_X4 (fun _ _ _ h => h) (Or.inl q399)) <|
  fG mo_lda (sim_bald dX4_next_33) <|
  fG mo_int (sim_bipush dX4_next_34 (by decide)) <|
  fG mo_icmpne (sim_icmpne dX4_next_36 rfl) <|
  fF
theorem fX4_next_39 {X : tp_X} {az : Array Value} (hG : tp_Good X az) (hSt : tp_Stat X) : tp_Fit X yX4_next cX4_next none 3 tp_nm tp_by tp_ml tp_rtt 39 [o_ald (.aload_n 0) 0, o_dup, o_getf (.getfield 19) 4 2, o_int (.iconst 1) 1, o_iadd, o_putf (.putfield 19) 4 2 0, o_goto (-49) 0] :=
  fG mo_ald (sim_ald_n dX4_next_39 rfl) <|
  fG mo_dup (sim_dup dX4_next_40) <|
  fG mo_getf (sim_getfG hG dX4_next_41 hc_4 (by decide) rfl in_X4 (fun _ _ _ h => h) (Or.inl q399)) <|
  fG mo_int (sim_iconst dX4_next_44 (by decide)) <|
  fG mo_iadd (sim_iadd dX4_next_45) <|
  fG mo_putf (sim_putf hG dX4_next_46 hc_4 (by decide) rfl (by decide) in_X4 tyX4_ok nmX4 (Or.inl ⟨rfl, rfl⟩) (fun _ _ _ h => h) rfl q399) <|
  fG mo_goto (sim_goto dX4_next_49 rfl) <|
  trivial
theorem fX4_next_52 {X : tp_X} {az : Array Value} (hG : tp_Good X az) (hSt : tp_Stat X) : tp_Fit X yX4_next cX4_next none 3 tp_nm tp_by tp_ml tp_rtt 52 [o_ald (.aload_n 0) 0, o_ald (.aload_n 0) 0, o_getf (.getfield 19) 4 2, o_putf (.putfield 22) 4 3 0, o_ald (.aload_n 0) 0, o_getf (.getfield 19) 4 2, o_ald (.aload_n 0) 0, o_getf (.getfield 15) 4 1, o_icmpne 13 81, o_ald (.aload_n 0) 0, o_int (.sipush 301) 301, o_putf (.putfield 25) 4 4 0, o_goto 324 402] :=
  fG mo_ald (sim_ald_n dX4_next_52 rfl) <|
  fG mo_ald (sim_ald_n dX4_next_53 rfl) <|
  fG mo_getf (sim_getfG hG dX4_next_54 hc_4 (by decide) rfl in_X4 (fun _ _ _ h => h) (Or.inl q399)) <|
  fG mo_putf (sim_putf hG dX4_next_57 hc_4 (by decide) rfl (by decide) in_X4 tyX4_ok nmX4 (Or.inl ⟨rfl, rfl⟩) (fun _ _ _ h => h) rfl q400) <|
  fG mo_ald (sim_ald_n dX4_next_60 rfl) <|
  fG mo_getf (sim_getfG hG dX4_next_61 hc_4 (by decide) rfl in_X4 (fun _ _ _ h => h) (Or.inl q399)) <|
  fG mo_ald (sim_ald_n dX4_next_64 rfl) <|
  fG mo_getf (sim_getfG hG dX4_next_65 hc_4 (by decide) rfl in_X4 (fun _ _ _ h => h) (Or.inl q398)) <|
  fG mo_icmpne (sim_icmpne dX4_next_68 rfl) <|
  fG mo_ald (sim_ald_n dX4_next_71 rfl) <|
  fG mo_int (sim_sipush dX4_next_72 (by decide)) <|
  fG mo_putf (sim_putf hG dX4_next_75 hc_4 (by decide) rfl (by decide) in_X4 tyX4_ok nmX4 (Or.inl ⟨rfl, rfl⟩) (fun _ _ _ h => h) rfl q401) <|
  fG mo_goto (sim_goto dX4_next_78 rfl) <|
  trivial
theorem fX4_next_81 {X : tp_X} {az : Array Value} (hG : tp_Good X az) (hSt : tp_Stat X) : tp_Fit X yX4_next cX4_next none 3 tp_nm tp_by tp_ml tp_rtt 81 [o_ald (.aload_n 0) 0, o_getf (.getfield 9) 4 0, o_ald (.aload_n 0) 0, o_getf (.getfield 19) 4 2, o_lda .baload [1, 2, 22], o_cs (.invokestatic 28) kX4_isLetter 1 0, o_ifeq 89 182, o_fall 96] :=
  fG mo_ald (sim_ald_n dX4_next_81 rfl) <|
  fG mo_getf (sim_getfG hG dX4_next_82 hc_4 (by decide) rfl in_X4 (fun _ _ _ h => h) (Or.inl q397)) <|
  fG mo_ald (sim_ald_n dX4_next_85 rfl) <|
  fG mo_getf (sim_getfG hG dX4_next_86 hc_4 (by decide) rfl in_X4 (fun _ _ _ h => h) (Or.inl q399)) <|
  fG mo_lda (sim_bald dX4_next_89) <|
  fC (ic_cs (Or.inl rfl)) (sim_cs hG dX4_next_90 M_X4_isLetter (by rw [nm_X4_isLetter]; rfl) (by rw [nm_X4_isLetter]; exact q494) (by rw [nm_X4_isLetter]; exact q495)) <|
  fG mo_ifeq (sim_ifeq dX4_next_93 rfl) <|
  fF
theorem fX4_next_96 {X : tp_X} {az : Array Value} (hG : tp_Good X az) (hSt : tp_Stat X) : tp_Fit X yX4_next cX4_next none 3 tp_nm tp_by tp_ml tp_rtt 96 [o_ald (.aload_n 0) 0, o_getf (.getfield 19) 4 2, o_ald (.aload_n 0) 0, o_getf (.getfield 15) 4 1, o_icmpge 31 135, o_ald (.aload_n 0) 0, o_getf (.getfield 9) 4 0, o_ald (.aload_n 0) 0, o_getf (.getfield 19) 4 2, o_lda .baload [1, 2, 22], o_cs (.invokestatic 28) kX4_isLetter 1 0, o_ifeq 16 135, o_ald (.aload_n 0) 0, o_dup, o_getf (.getfield 19) 4 2, o_int (.iconst 1) 1, o_iadd, o_putf (.putfield 19) 4 2 0, o_goto (-36) 96] :=
  fG mo_ald (sim_ald_n dX4_next_96 rfl) <|
  fG mo_getf (sim_getfG hG dX4_next_97 hc_4 (by decide) rfl in_X4 (fun _ _ _ h => h) (Or.inl q399)) <|
  fG mo_ald (sim_ald_n dX4_next_100 rfl) <|
  fG mo_getf (sim_getfG hG dX4_next_101 hc_4 (by decide) rfl in_X4 (fun _ _ _ h => h) (Or.inl q398)) <|
  fG mo_icmpge (sim_icmpge dX4_next_104 rfl) <|
  fG mo_ald (sim_ald_n dX4_next_107 rfl) <|
  fG mo_getf (sim_getfG hG dX4_next_108 hc_4 (by decide) rfl in_X4 (fun _ _ _ h => h) (Or.inl q397)) <|
  fG mo_ald (sim_ald_n dX4_next_111 rfl) <|
  fG mo_getf (sim_getfG hG dX4_next_112 hc_4 (by decide) rfl in_X4 (fun _ _ _ h => h) (Or.inl q399)) <|
  fG mo_lda (sim_bald dX4_next_115) <|
  fC (ic_cs (Or.inl rfl)) (sim_cs hG dX4_next_116 M_X4_isLetter (by rw [nm_X4_isLetter]; rfl) (by rw [nm_X4_isLetter]; exact q494) (by rw [nm_X4_isLetter]; exact q495)) <|
  fG mo_ifeq (sim_ifeq dX4_next_119 rfl) <|
  fG mo_ald (sim_ald_n dX4_next_122 rfl) <|
  fG mo_dup (sim_dup dX4_next_123) <|
  fG mo_getf (sim_getfG hG dX4_next_124 hc_4 (by decide) rfl in_X4 (fun _ _ _ h => h) (Or.inl q399)) <|
  fG mo_int (sim_iconst dX4_next_127 (by decide)) <|
  fG mo_iadd (sim_iadd dX4_next_128) <|
  fG mo_putf (sim_putf hG dX4_next_129 hc_4 (by decide) rfl (by decide) in_X4 tyX4_ok nmX4 (Or.inl ⟨rfl, rfl⟩) (fun _ _ _ h => h) rfl q399) <|
  fG mo_goto (sim_goto dX4_next_132 rfl) <|
  trivial
theorem fX4_next_135 {X : tp_X} {az : Array Value} (hG : tp_Good X az) (hSt : tp_Stat X) : tp_Fit X yX4_next cX4_next none 3 tp_nm tp_by tp_ml tp_rtt 135 [o_ald (.aload_n 0) 0, o_int (.sipush 302) 302, o_putf (.putfield 25) 4 4 0, o_int (.iconst 0) 0, o_ist (.istore_n 1) 1, o_fall 144] :=
  fG mo_ald (sim_ald_n dX4_next_135 rfl) <|
  fG mo_int (sim_sipush dX4_next_136 (by decide)) <|
  fG mo_putf (sim_putf hG dX4_next_139 hc_4 (by decide) rfl (by decide) in_X4 tyX4_ok nmX4 (Or.inl ⟨rfl, rfl⟩) (fun _ _ _ h => h) rfl q401) <|
  fG mo_int (sim_iconst dX4_next_142 (by decide)) <|
  fG mo_ist (sim_ist_n dX4_next_143 rfl) <|
  fF
theorem fX4_next_144 {X : tp_X} {az : Array Value} (hG : tp_Good X az) (hSt : tp_Stat X) : tp_Fit X yX4_next cX4_next none 3 tp_nm tp_by tp_ml tp_rtt 144 [o_ild (.iload_n 1) 1, o_gs (.getstatic 32) 5, o_alen, o_icmpge 30 179, o_ald (.aload_n 0) 0, o_gs (.getstatic 32) 5, o_ild (.iload_n 1) 1, o_lda .aaload [4, 5, 6, 7, 28, 29], o_cv (.invokevirtual 36) 4 kX4_isWord 1 0, o_ifeq 12 173, o_ald (.aload_n 0) 0, o_int (.sipush 200) 200, o_ild (.iload_n 1) 1, o_iadd, o_putf (.putfield 25) 4 4 0, o_fall 173] :=
  fG mo_ild (sim_ild_n dX4_next_144 rfl) <|
  fG mo_gs (sim_gs hG dX4_next_145 hSt.2.2.2.2.2.1 q497 rfl) <|
  fG mo_alen (sim_alen dX4_next_148) <|
  fG mo_icmpge (sim_icmpge dX4_next_149 rfl) <|
  fG mo_ald (sim_ald_n dX4_next_152 rfl) <|
  fG mo_gs (sim_gs hG dX4_next_153 hSt.2.2.2.2.2.1 q497 rfl) <|
  fG mo_ild (sim_ild_n dX4_next_156 rfl) <|
  fG mo_lda (sim_aald dX4_next_157) <|
  fC (ic_cv (Or.inl rfl)) (sim_cv hG dX4_next_158 (hG.2.1 4 _ hc_4).2.1 M_X4_isWord (by rw [nm_X4_isWord]; rfl) (by rw [nm_X4_isWord]; exact q499) (by rw [nm_X4_isWord]; exact q501) (by rw [nm_X4_isWord]; exact qs3)) <|
  fG mo_ifeq (sim_ifeq dX4_next_161 rfl) <|
  fG mo_ald (sim_ald_n dX4_next_164 rfl) <|
  fG mo_int (sim_sipush dX4_next_165 (by decide)) <|
  fG mo_ild (sim_ild_n dX4_next_168 rfl) <|
  fG mo_iadd (sim_iadd dX4_next_169) <|
  fG mo_putf (sim_putf hG dX4_next_170 hc_4 (by decide) rfl (by decide) in_X4 tyX4_ok nmX4 (Or.inl ⟨rfl, rfl⟩) (fun _ _ _ h => h) rfl q401) <|
  fF
theorem fX4_next_173 {X : tp_X} {az : Array Value} (hG : tp_Good X az) (hSt : tp_Stat X) : tp_Fit X yX4_next cX4_next none 3 tp_nm tp_by tp_ml tp_rtt 173 [o_inc 1 1, o_goto (-32) 144] :=
  fG mo_inc (sim_inc dX4_next_173 (by decide)) <|
  fG mo_goto (sim_goto dX4_next_176 rfl) <|
  trivial
theorem fX4_next_179 {X : tp_X} {az : Array Value} (hG : tp_Good X az) (hSt : tp_Stat X) : tp_Fit X yX4_next cX4_next none 3 tp_nm tp_by tp_ml tp_rtt 179 [o_goto 223 402] :=
  fG mo_goto (sim_goto dX4_next_179 rfl) <|
  trivial
theorem fX4_next_182 {X : tp_X} {az : Array Value} (hG : tp_Good X az) (hSt : tp_Stat X) : tp_Fit X yX4_next cX4_next none 3 tp_nm tp_by tp_ml tp_rtt 182 [o_ald (.aload_n 0) 0, o_getf (.getfield 9) 4 0, o_ald (.aload_n 0) 0, o_getf (.getfield 19) 4 2, o_lda .baload [1, 2, 22], o_cs (.invokestatic 40) kX4_isDigit 1 0, o_ifeq 83 277, o_ald (.aload_n 0) 0, o_int (.sipush 300) 300, o_putf (.putfield 25) 4 4 0, o_ald (.aload_n 0) 0, o_int (.iconst 0) 0, o_putf (.putfield 43) 4 5 0, o_fall 209] :=
  fG mo_ald (sim_ald_n dX4_next_182 rfl) <|
  fG mo_getf (sim_getfG hG dX4_next_183 hc_4 (by decide) rfl in_X4 (fun _ _ _ h => h) (Or.inl q397)) <|
  fG mo_ald (sim_ald_n dX4_next_186 rfl) <|
  fG mo_getf (sim_getfG hG dX4_next_187 hc_4 (by decide) rfl in_X4 (fun _ _ _ h => h) (Or.inl q399)) <|
  fG mo_lda (sim_bald dX4_next_190) <|
  fC (ic_cs (Or.inl rfl)) (sim_cs hG dX4_next_191 M_X4_isDigit (by rw [nm_X4_isDigit]; rfl) (by rw [nm_X4_isDigit]; exact q551) (by rw [nm_X4_isDigit]; exact q552)) <|
  fG mo_ifeq (sim_ifeq dX4_next_194 rfl) <|
  fG mo_ald (sim_ald_n dX4_next_197 rfl) <|
  fG mo_int (sim_sipush dX4_next_198 (by decide)) <|
  fG mo_putf (sim_putf hG dX4_next_201 hc_4 (by decide) rfl (by decide) in_X4 tyX4_ok nmX4 (Or.inl ⟨rfl, rfl⟩) (fun _ _ _ h => h) rfl q401) <|
  fG mo_ald (sim_ald_n dX4_next_204 rfl) <|
  fG mo_int (sim_iconst dX4_next_205 (by decide)) <|
  fG mo_putf (sim_putf hG dX4_next_206 hc_4 (by decide) rfl (by decide) in_X4 tyX4_ok nmX4 (Or.inl ⟨rfl, rfl⟩) (fun _ _ _ h => h) rfl q402) <|
  fF
theorem fX4_next_209 {X : tp_X} {az : Array Value} (hG : tp_Good X az) (hSt : tp_Stat X) : tp_Fit X yX4_next cX4_next none 3 tp_nm tp_by tp_ml tp_rtt 209 [o_ald (.aload_n 0) 0, o_getf (.getfield 19) 4 2, o_ald (.aload_n 0) 0, o_getf (.getfield 15) 4 1, o_icmpge 185 402, o_ald (.aload_n 0) 0, o_getf (.getfield 9) 4 0, o_ald (.aload_n 0) 0, o_getf (.getfield 19) 4 2, o_lda .baload [1, 2, 22], o_cs (.invokestatic 40) kX4_isDigit 1 0, o_ifeq 170 402, o_ald (.aload_n 0) 0, o_int (.ldc 46) 99999, o_int (.bipush 10) 10, o_ald (.aload_n 0) 0, o_getf (.getfield 43) 4 5, o_imul, o_ald (.aload_n 0) 0, o_getf (.getfield 9) 4 0, o_ald (.aload_n 0) 0, o_getf (.getfield 19) 4 2, o_lda .baload [1, 2, 22], o_iadd, o_int (.bipush 48) 48, o_isub, o_mmin (.invokestatic 47), o_putf (.putfield 43) 4 5 0, o_ald (.aload_n 0) 0, o_dup, o_getf (.getfield 19) 4 2, o_int (.iconst 1) 1, o_iadd, o_putf (.putfield 19) 4 2 0, o_goto (-65) 209] :=
  fG mo_ald (sim_ald_n dX4_next_209 rfl) <|
  fG mo_getf (sim_getfG hG dX4_next_210 hc_4 (by decide) rfl in_X4 (fun _ _ _ h => h) (Or.inl q399)) <|
  fG mo_ald (sim_ald_n dX4_next_213 rfl) <|
  fG mo_getf (sim_getfG hG dX4_next_214 hc_4 (by decide) rfl in_X4 (fun _ _ _ h => h) (Or.inl q398)) <|
  fG mo_icmpge (sim_icmpge dX4_next_217 rfl) <|
  fG mo_ald (sim_ald_n dX4_next_220 rfl) <|
  fG mo_getf (sim_getfG hG dX4_next_221 hc_4 (by decide) rfl in_X4 (fun _ _ _ h => h) (Or.inl q397)) <|
  fG mo_ald (sim_ald_n dX4_next_224 rfl) <|
  fG mo_getf (sim_getfG hG dX4_next_225 hc_4 (by decide) rfl in_X4 (fun _ _ _ h => h) (Or.inl q399)) <|
  fG mo_lda (sim_bald dX4_next_228) <|
  fC (ic_cs (Or.inl rfl)) (sim_cs hG dX4_next_229 M_X4_isDigit (by rw [nm_X4_isDigit]; rfl) (by rw [nm_X4_isDigit]; exact q551) (by rw [nm_X4_isDigit]; exact q552)) <|
  fG mo_ifeq (sim_ifeq dX4_next_232 rfl) <|
  fG mo_ald (sim_ald_n dX4_next_235 rfl) <|
  fG mo_int (sim_ldc hG dX4_next_236 q554 rfl) <|
  fG mo_int (sim_bipush dX4_next_238 (by decide)) <|
  fG mo_ald (sim_ald_n dX4_next_240 rfl) <|
  fG mo_getf (sim_getfG hG dX4_next_241 hc_4 (by decide) rfl in_X4 (fun _ _ _ h => h) (Or.inl q402)) <|
  fG mo_imul (sim_imul dX4_next_244) <|
  fG mo_ald (sim_ald_n dX4_next_245 rfl) <|
  fG mo_getf (sim_getfG hG dX4_next_246 hc_4 (by decide) rfl in_X4 (fun _ _ _ h => h) (Or.inl q397)) <|
  fG mo_ald (sim_ald_n dX4_next_249 rfl) <|
  fG mo_getf (sim_getfG hG dX4_next_250 hc_4 (by decide) rfl in_X4 (fun _ _ _ h => h) (Or.inl q399)) <|
  fG mo_lda (sim_bald dX4_next_253) <|
  fG mo_iadd (sim_iadd dX4_next_254) <|
  fG mo_int (sim_bipush dX4_next_255 (by decide)) <|
  fG mo_isub (sim_isub dX4_next_257) <|
  fG mo_mmin (sim_mmin hG dX4_next_258 q555 q238 q128 q239) <|
  fG mo_putf (sim_putf hG dX4_next_261 hc_4 (by decide) rfl (by decide) in_X4 tyX4_ok nmX4 (Or.inl ⟨rfl, rfl⟩) (fun _ _ _ h => h) rfl q402) <|
  fG mo_ald (sim_ald_n dX4_next_264 rfl) <|
  fG mo_dup (sim_dup dX4_next_265) <|
  fG mo_getf (sim_getfG hG dX4_next_266 hc_4 (by decide) rfl in_X4 (fun _ _ _ h => h) (Or.inl q399)) <|
  fG mo_int (sim_iconst dX4_next_269 (by decide)) <|
  fG mo_iadd (sim_iadd dX4_next_270) <|
  fG mo_putf (sim_putf hG dX4_next_271 hc_4 (by decide) rfl (by decide) in_X4 tyX4_ok nmX4 (Or.inl ⟨rfl, rfl⟩) (fun _ _ _ h => h) rfl q399) <|
  fG mo_goto (sim_goto dX4_next_274 rfl) <|
  trivial
theorem fX4_next_277 {X : tp_X} {az : Array Value} (hG : tp_Good X az) (hSt : tp_Stat X) : tp_Fit X yX4_next cX4_next none 3 tp_nm tp_by tp_ml tp_rtt 277 [o_ald (.aload_n 0) 0, o_getf (.getfield 9) 4 0, o_ald (.aload_n 0) 0, o_getf (.getfield 19) 4 2, o_lda .baload [1, 2, 22], o_ist (.istore_n 1) 1, o_ald (.aload_n 0) 0, o_dup, o_getf (.getfield 19) 4 2, o_int (.iconst 1) 1, o_iadd, o_putf (.putfield 19) 4 2 0, o_ald (.aload_n 0) 0, o_int (.sipush 302) 302, o_putf (.putfield 25) 4 4 0, o_int (.iconst 0) 0, o_ist (.istore_n 2) 2, o_fall 306] :=
  fG mo_ald (sim_ald_n dX4_next_277 rfl) <|
  fG mo_getf (sim_getfG hG dX4_next_278 hc_4 (by decide) rfl in_X4 (fun _ _ _ h => h) (Or.inl q397)) <|
  fG mo_ald (sim_ald_n dX4_next_281 rfl) <|
  fG mo_getf (sim_getfG hG dX4_next_282 hc_4 (by decide) rfl in_X4 (fun _ _ _ h => h) (Or.inl q399)) <|
  fG mo_lda (sim_bald dX4_next_285) <|
  fG mo_ist (sim_ist_n dX4_next_286 rfl) <|
  fG mo_ald (sim_ald_n dX4_next_287 rfl) <|
  fG mo_dup (sim_dup dX4_next_288) <|
  fG mo_getf (sim_getfG hG dX4_next_289 hc_4 (by decide) rfl in_X4 (fun _ _ _ h => h) (Or.inl q399)) <|
  fG mo_int (sim_iconst dX4_next_292 (by decide)) <|
  fG mo_iadd (sim_iadd dX4_next_293) <|
  fG mo_putf (sim_putf hG dX4_next_294 hc_4 (by decide) rfl (by decide) in_X4 tyX4_ok nmX4 (Or.inl ⟨rfl, rfl⟩) (fun _ _ _ h => h) rfl q399) <|
  fG mo_ald (sim_ald_n dX4_next_297 rfl) <|
  fG mo_int (sim_sipush dX4_next_298 (by decide)) <|
  fG mo_putf (sim_putf hG dX4_next_301 hc_4 (by decide) rfl (by decide) in_X4 tyX4_ok nmX4 (Or.inl ⟨rfl, rfl⟩) (fun _ _ _ h => h) rfl q401) <|
  fG mo_int (sim_iconst dX4_next_304 (by decide)) <|
  fG mo_ist (sim_ist_n dX4_next_305 rfl) <|
  fF
theorem fX4_next_306 {X : tp_X} {az : Array Value} (hG : tp_Good X az) (hSt : tp_Stat X) : tp_Fit X yX4_next cX4_next none 3 tp_nm tp_by tp_ml tp_rtt 306 [o_ild (.iload_n 2) 2, o_gs (.ldc 53) 7, o_cv (.invokevirtual 55) 17 kJ5_length 0 0, o_icmpge 24 336, o_gs (.ldc 53) 7, o_ild (.iload_n 2) 2, o_cv (.invokevirtual 61) 17 kJ5_charAt 1 0, o_ild (.iload_n 1) 1, o_icmpne 8 330, o_ald (.aload_n 0) 0, o_ild (.iload_n 1) 1, o_putf (.putfield 25) 4 4 0, o_fall 330] :=
  fG mo_ild (sim_ild_n dX4_next_306 rfl) <|
  fG mo_gs (sim_ldcS dX4_next_307 hSt.2.2.2.2.2.2.2.1.choose_spec.1 hSt.2.2.2.2.2.2.2.1.choose_spec.2) <|
  fC (ic_cv (Or.inl rfl)) (sim_cv hG dX4_next_309 hG.2.2.2.2.1 M_J5_length (by rw [nm_J5_length]; rfl) (by rw [nm_J5_length]; exact q503) (by rw [nm_J5_length]; exact q504) (by rw [nm_J5_length]; exact q505)) <|
  fG mo_icmpge (sim_icmpge dX4_next_312 rfl) <|
  fG mo_gs (sim_ldcS dX4_next_315 hSt.2.2.2.2.2.2.2.1.choose_spec.1 hSt.2.2.2.2.2.2.2.1.choose_spec.2) <|
  fG mo_ild (sim_ild_n dX4_next_317 rfl) <|
  fC (ic_cv (Or.inl rfl)) (sim_cv hG dX4_next_318 hG.2.2.2.2.1 M_J5_charAt (by rw [nm_J5_charAt]; rfl) (by rw [nm_J5_charAt]; exact q513) (by rw [nm_J5_charAt]; exact q514) (by rw [nm_J5_charAt]; exact q515)) <|
  fG mo_ild (sim_ild_n dX4_next_321 rfl) <|
  fG mo_icmpne (sim_icmpne dX4_next_322 rfl) <|
  fG mo_ald (sim_ald_n dX4_next_325 rfl) <|
  fG mo_ild (sim_ild_n dX4_next_326 rfl) <|
  fG mo_putf (sim_putf hG dX4_next_327 hc_4 (by decide) rfl (by decide) in_X4 tyX4_ok nmX4 (Or.inl ⟨rfl, rfl⟩) (fun _ _ _ h => h) rfl q401) <|
  fF
theorem fX4_next_330 {X : tp_X} {az : Array Value} (hG : tp_Good X az) (hSt : tp_Stat X) : tp_Fit X yX4_next cX4_next none 3 tp_nm tp_by tp_ml tp_rtt 330 [o_inc 2 1, o_goto (-27) 306] :=
  fG mo_inc (sim_inc dX4_next_330 (by decide)) <|
  fG mo_goto (sim_goto dX4_next_333 rfl) <|
  trivial
theorem fX4_next_336 {X : tp_X} {az : Array Value} (hG : tp_Good X az) (hSt : tp_Stat X) : tp_Fit X yX4_next cX4_next none 3 tp_nm tp_by tp_ml tp_rtt 336 [o_ild (.iload_n 1) 1, o_int (.bipush 60) 60, o_icmpeq 9 348, o_ild (.iload_n 1) 1, o_int (.bipush 62) 62, o_icmpne 57 402, o_fall 348] :=
  fG mo_ild (sim_ild_n dX4_next_336 rfl) <|
  fG mo_int (sim_bipush dX4_next_337 (by decide)) <|
  fG mo_icmpeq (sim_icmpeq dX4_next_339 rfl) <|
  fG mo_ild (sim_ild_n dX4_next_342 rfl) <|
  fG mo_int (sim_bipush dX4_next_343 (by decide)) <|
  fG mo_icmpne (sim_icmpne dX4_next_345 rfl) <|
  fF
theorem fX4_next_348 {X : tp_X} {az : Array Value} (hG : tp_Good X az) (hSt : tp_Stat X) : tp_Fit X yX4_next cX4_next none 3 tp_nm tp_by tp_ml tp_rtt 348 [o_ald (.aload_n 0) 0, o_getf (.getfield 19) 4 2, o_ald (.aload_n 0) 0, o_getf (.getfield 15) 4 1, o_icmpge 46 402, o_ald (.aload_n 0) 0, o_getf (.getfield 9) 4 0, o_ald (.aload_n 0) 0, o_getf (.getfield 19) 4 2, o_lda .baload [1, 2, 22], o_int (.bipush 61) 61, o_icmpne 32 402, o_ald (.aload_n 0) 0, o_ild (.iload_n 1) 1, o_int (.bipush 60) 60, o_icmpne 9 386, o_int (.sipush 303) 303, o_goto 6 389] :=
  fG mo_ald (sim_ald_n dX4_next_348 rfl) <|
  fG mo_getf (sim_getfG hG dX4_next_349 hc_4 (by decide) rfl in_X4 (fun _ _ _ h => h) (Or.inl q399)) <|
  fG mo_ald (sim_ald_n dX4_next_352 rfl) <|
  fG mo_getf (sim_getfG hG dX4_next_353 hc_4 (by decide) rfl in_X4 (fun _ _ _ h => h) (Or.inl q398)) <|
  fG mo_icmpge (sim_icmpge dX4_next_356 rfl) <|
  fG mo_ald (sim_ald_n dX4_next_359 rfl) <|
  fG mo_getf (sim_getfG hG dX4_next_360 hc_4 (by decide) rfl in_X4 (fun _ _ _ h => h) (Or.inl q397)) <|
  fG mo_ald (sim_ald_n dX4_next_363 rfl) <|
  fG mo_getf (sim_getfG hG dX4_next_364 hc_4 (by decide) rfl in_X4 (fun _ _ _ h => h) (Or.inl q399)) <|
  fG mo_lda (sim_bald dX4_next_367) <|
  fG mo_int (sim_bipush dX4_next_368 (by decide)) <|
  fG mo_icmpne (sim_icmpne dX4_next_370 rfl) <|
  fG mo_ald (sim_ald_n dX4_next_373 rfl) <|
  fG mo_ild (sim_ild_n dX4_next_374 rfl) <|
  fG mo_int (sim_bipush dX4_next_375 (by decide)) <|
  fG mo_icmpne (sim_icmpne dX4_next_377 rfl) <|
  fG mo_int (sim_sipush dX4_next_380 (by decide)) <|
  fG mo_goto (sim_goto dX4_next_383 rfl) <|
  trivial
theorem fX4_next_386 {X : tp_X} {az : Array Value} (hG : tp_Good X az) (hSt : tp_Stat X) : tp_Fit X yX4_next cX4_next none 3 tp_nm tp_by tp_ml tp_rtt 386 [o_int (.sipush 304) 304, o_fall 389] :=
  fG mo_int (sim_sipush dX4_next_386 (by decide)) <|
  fF
theorem fX4_next_389 {X : tp_X} {az : Array Value} (hG : tp_Good X az) (hSt : tp_Stat X) : tp_Fit X yX4_next cX4_next none 3 tp_nm tp_by tp_ml tp_rtt 389 [o_putf (.putfield 25) 4 4 0, o_ald (.aload_n 0) 0, o_dup, o_getf (.getfield 19) 4 2, o_int (.iconst 1) 1, o_iadd, o_putf (.putfield 19) 4 2 0, o_fall 402] :=
  fG mo_putf (sim_putf hG dX4_next_389 hc_4 (by decide) rfl (by decide) in_X4 tyX4_ok nmX4 (Or.inl ⟨rfl, rfl⟩) (fun _ _ _ h => h) rfl q401) <|
  fG mo_ald (sim_ald_n dX4_next_392 rfl) <|
  fG mo_dup (sim_dup dX4_next_393) <|
  fG mo_getf (sim_getfG hG dX4_next_394 hc_4 (by decide) rfl in_X4 (fun _ _ _ h => h) (Or.inl q399)) <|
  fG mo_int (sim_iconst dX4_next_397 (by decide)) <|
  fG mo_iadd (sim_iadd dX4_next_398) <|
  fG mo_putf (sim_putf hG dX4_next_399 hc_4 (by decide) rfl (by decide) in_X4 tyX4_ok nmX4 (Or.inl ⟨rfl, rfl⟩) (fun _ _ _ h => h) rfl q399) <|
  fF
theorem fX4_next_402 {X : tp_X} {az : Array Value} (hG : tp_Good X az) (hSt : tp_Stat X) : tp_Fit X yX4_next cX4_next none 3 tp_nm tp_by tp_ml tp_rtt 402 [o_vret] :=
  fE ie_vret (sim_vret dX4_next_402 rfl)
theorem F_X4_next {X : tp_X} {az : Array Value} (hG : tp_Good X az) (hSt : tp_Stat X) (pc : Nat) : tp_Fit X yX4_next cX4_next none 3 tp_nm tp_by tp_ml tp_rtt pc (mX4_next pc) :=
  fI (fX4_next_0 hG hSt) <| fI (fX4_next_39 hG hSt) <| fI (fX4_next_52 hG hSt) <| fI (fX4_next_81 hG hSt) <| fI (fX4_next_96 hG hSt) <| fI (fX4_next_135 hG hSt) <| fI (fX4_next_144 hG hSt) <| fI (fX4_next_173 hG hSt) <| fI (fX4_next_179 hG hSt) <| fI (fX4_next_182 hG hSt) <| fI (fX4_next_209 hG hSt) <| fI (fX4_next_277 hG hSt) <| fI (fX4_next_306 hG hSt) <| fI (fX4_next_330 hG hSt) <| fI (fX4_next_336 hG hSt) <| fI (fX4_next_348 hG hSt) <| fI (fX4_next_386 hG hSt) <| fI (fX4_next_389 hG hSt) <| fI (fX4_next_402 hG hSt) <| trivial
theorem fX4_isLetter_0 {X : tp_X} {az : Array Value} (hG : tp_Good X az) (hSt : tp_Stat X) : tp_Fit X yX4_isLetter cX4_isLetter (some .boolean) 1 tp_nm tp_by tp_ml tp_rtt 0 [o_ild (.iload_n 0) 0, o_int (.bipush 97) 97, o_icmplt 9 12, o_ild (.iload_n 0) 0, o_int (.bipush 122) 122, o_icmple 15 24, o_fall 12] :=
  fG mo_ild (sim_ild_n dX4_isLetter_0 rfl) <|
  fG mo_int (sim_bipush dX4_isLetter_1 (by decide)) <|
  fG mo_icmplt (sim_icmplt dX4_isLetter_3 rfl) <|
  fG mo_ild (sim_ild_n dX4_isLetter_6 rfl) <|
  fG mo_int (sim_bipush dX4_isLetter_7 (by decide)) <|
  fG mo_icmple (sim_icmple dX4_isLetter_9 rfl) <|
  fF
theorem fX4_isLetter_12 {X : tp_X} {az : Array Value} (hG : tp_Good X az) (hSt : tp_Stat X) : tp_Fit X yX4_isLetter cX4_isLetter (some .boolean) 1 tp_nm tp_by tp_ml tp_rtt 12 [o_ild (.iload_n 0) 0, o_int (.bipush 65) 65, o_icmplt 13 28, o_ild (.iload_n 0) 0, o_int (.bipush 90) 90, o_icmpgt 7 28, o_fall 24] :=
  fG mo_ild (sim_ild_n dX4_isLetter_12 rfl) <|
  fG mo_int (sim_bipush dX4_isLetter_13 (by decide)) <|
  fG mo_icmplt (sim_icmplt dX4_isLetter_15 rfl) <|
  fG mo_ild (sim_ild_n dX4_isLetter_18 rfl) <|
  fG mo_int (sim_bipush dX4_isLetter_19 (by decide)) <|
  fG mo_icmpgt (sim_icmpgt dX4_isLetter_21 rfl) <|
  fF
theorem fX4_isLetter_24 {X : tp_X} {az : Array Value} (hG : tp_Good X az) (hSt : tp_Stat X) : tp_Fit X yX4_isLetter cX4_isLetter (some .boolean) 1 tp_nm tp_by tp_ml tp_rtt 24 [o_int (.iconst 1) 1, o_goto 4 29] :=
  fG mo_int (sim_iconst dX4_isLetter_24 (by decide)) <|
  fG mo_goto (sim_goto dX4_isLetter_25 rfl) <|
  trivial
theorem fX4_isLetter_28 {X : tp_X} {az : Array Value} (hG : tp_Good X az) (hSt : tp_Stat X) : tp_Fit X yX4_isLetter cX4_isLetter (some .boolean) 1 tp_nm tp_by tp_ml tp_rtt 28 [o_int (.iconst 0) 0, o_fall 29] :=
  fG mo_int (sim_iconst dX4_isLetter_28 (by decide)) <|
  fF
theorem fX4_isLetter_29 {X : tp_X} {az : Array Value} (hG : tp_Good X az) (hSt : tp_Stat X) : tp_Fit X yX4_isLetter cX4_isLetter (some .boolean) 1 tp_nm tp_by tp_ml tp_rtt 29 [o_iret 1] :=
  fE ie_iret (sim_iret dX4_isLetter_29 rfl (Or.inr (Or.inl ⟨rfl, rfl⟩)))
theorem F_X4_isLetter {X : tp_X} {az : Array Value} (hG : tp_Good X az) (hSt : tp_Stat X) (pc : Nat) : tp_Fit X yX4_isLetter cX4_isLetter (some .boolean) 1 tp_nm tp_by tp_ml tp_rtt pc (mX4_isLetter pc) :=
  fI (fX4_isLetter_0 hG hSt) <| fI (fX4_isLetter_12 hG hSt) <| fI (fX4_isLetter_24 hG hSt) <| fI (fX4_isLetter_28 hG hSt) <| fI (fX4_isLetter_29 hG hSt) <| trivial
theorem fX4_isWord_0 {X : tp_X} {az : Array Value} (hG : tp_Good X az) (hSt : tp_Stat X) : tp_Fit X yX4_isWord cX4_isWord (some .boolean) 3 tp_nm tp_by tp_ml tp_rtt 0 [o_ald (.aload_n 0) 0, o_getf (.getfield 19) 4 2, o_ald (.aload_n 0) 0, o_getf (.getfield 22) 4 3, o_isub, o_ald (.aload_n 1) 1, o_cv (.invokevirtual 55) 17 kJ5_length 0 0, o_icmpeq 5 18, o_int (.iconst 0) 0, o_iret 1] :=
  fG mo_ald (sim_ald_n dX4_isWord_0 rfl) <|
  fG mo_getf (sim_getfG hG dX4_isWord_1 hc_4 (by decide) rfl in_X4 (fun _ _ _ h => h) (Or.inl q399)) <|
  fG mo_ald (sim_ald_n dX4_isWord_4 rfl) <|
  fG mo_getf (sim_getfG hG dX4_isWord_5 hc_4 (by decide) rfl in_X4 (fun _ _ _ h => h) (Or.inl q400)) <|
  fG mo_isub (sim_isub dX4_isWord_8) <|
  fG mo_ald (sim_ald_n dX4_isWord_9 rfl) <|
  fC (ic_cv (Or.inl rfl)) (sim_cv hG dX4_isWord_10 hG.2.2.2.2.1 M_J5_length (by rw [nm_J5_length]; rfl) (by rw [nm_J5_length]; exact q503) (by rw [nm_J5_length]; exact q504) (by rw [nm_J5_length]; exact q505)) <|
  fG mo_icmpeq (sim_icmpeq dX4_isWord_13 rfl) <|
  fG mo_int (sim_iconst dX4_isWord_16 (by decide)) <|
  fE ie_iret (sim_iret dX4_isWord_17 rfl (Or.inr (Or.inl ⟨rfl, rfl⟩)))
theorem fX4_isWord_18 {X : tp_X} {az : Array Value} (hG : tp_Good X az) (hSt : tp_Stat X) : tp_Fit X yX4_isWord cX4_isWord (some .boolean) 3 tp_nm tp_by tp_ml tp_rtt 18 [o_int (.iconst 0) 0, o_ist (.istore_n 2) 2, o_fall 20] :=
  fG mo_int (sim_iconst dX4_isWord_18 (by decide)) <|
  fG mo_ist (sim_ist_n dX4_isWord_19 rfl) <|
  fF
theorem fX4_isWord_20 {X : tp_X} {az : Array Value} (hG : tp_Good X az) (hSt : tp_Stat X) : tp_Fit X yX4_isWord cX4_isWord (some .boolean) 3 tp_nm tp_by tp_ml tp_rtt 20 [o_ild (.iload_n 2) 2, o_ald (.aload_n 1) 1, o_cv (.invokevirtual 55) 17 kJ5_length 0 0, o_icmpge 30 55, o_ald (.aload_n 0) 0, o_getf (.getfield 9) 4 0, o_ald (.aload_n 0) 0, o_getf (.getfield 22) 4 3, o_ild (.iload_n 2) 2, o_iadd, o_lda .baload [1, 2, 22], o_ald (.aload_n 1) 1, o_ild (.iload_n 2) 2, o_cv (.invokevirtual 61) 17 kJ5_charAt 1 0, o_icmpeq 5 49, o_int (.iconst 0) 0, o_iret 1] :=
  fG mo_ild (sim_ild_n dX4_isWord_20 rfl) <|
  fG mo_ald (sim_ald_n dX4_isWord_21 rfl) <|
  fC (ic_cv (Or.inl rfl)) (sim_cv hG dX4_isWord_22 hG.2.2.2.2.1 M_J5_length (by rw [nm_J5_length]; rfl) (by rw [nm_J5_length]; exact q503) (by rw [nm_J5_length]; exact q504) (by rw [nm_J5_length]; exact q505)) <|
  fG mo_icmpge (sim_icmpge dX4_isWord_25 rfl) <|
  fG mo_ald (sim_ald_n dX4_isWord_28 rfl) <|
  fG mo_getf (sim_getfG hG dX4_isWord_29 hc_4 (by decide) rfl in_X4 (fun _ _ _ h => h) (Or.inl q397)) <|
  fG mo_ald (sim_ald_n dX4_isWord_32 rfl) <|
  fG mo_getf (sim_getfG hG dX4_isWord_33 hc_4 (by decide) rfl in_X4 (fun _ _ _ h => h) (Or.inl q400)) <|
  fG mo_ild (sim_ild_n dX4_isWord_36 rfl) <|
  fG mo_iadd (sim_iadd dX4_isWord_37) <|
  fG mo_lda (sim_bald dX4_isWord_38) <|
  fG mo_ald (sim_ald_n dX4_isWord_39 rfl) <|
  fG mo_ild (sim_ild_n dX4_isWord_40 rfl) <|
  fC (ic_cv (Or.inl rfl)) (sim_cv hG dX4_isWord_41 hG.2.2.2.2.1 M_J5_charAt (by rw [nm_J5_charAt]; rfl) (by rw [nm_J5_charAt]; exact q513) (by rw [nm_J5_charAt]; exact q514) (by rw [nm_J5_charAt]; exact q515)) <|
  fG mo_icmpeq (sim_icmpeq dX4_isWord_44 rfl) <|
  fG mo_int (sim_iconst dX4_isWord_47 (by decide)) <|
  fE ie_iret (sim_iret dX4_isWord_48 rfl (Or.inr (Or.inl ⟨rfl, rfl⟩)))
theorem fX4_isWord_49 {X : tp_X} {az : Array Value} (hG : tp_Good X az) (hSt : tp_Stat X) : tp_Fit X yX4_isWord cX4_isWord (some .boolean) 3 tp_nm tp_by tp_ml tp_rtt 49 [o_inc 2 1, o_goto (-32) 20] :=
  fG mo_inc (sim_inc dX4_isWord_49 (by decide)) <|
  fG mo_goto (sim_goto dX4_isWord_52 rfl) <|
  trivial
theorem fX4_isWord_55 {X : tp_X} {az : Array Value} (hG : tp_Good X az) (hSt : tp_Stat X) : tp_Fit X yX4_isWord cX4_isWord (some .boolean) 3 tp_nm tp_by tp_ml tp_rtt 55 [o_int (.iconst 1) 1, o_iret 1] :=
  fG mo_int (sim_iconst dX4_isWord_55 (by decide)) <|
  fE ie_iret (sim_iret dX4_isWord_56 rfl (Or.inr (Or.inl ⟨rfl, rfl⟩)))
theorem F_X4_isWord {X : tp_X} {az : Array Value} (hG : tp_Good X az) (hSt : tp_Stat X) (pc : Nat) : tp_Fit X yX4_isWord cX4_isWord (some .boolean) 3 tp_nm tp_by tp_ml tp_rtt pc (mX4_isWord pc) :=
  fI (fX4_isWord_0 hG hSt) <| fI (fX4_isWord_18 hG hSt) <| fI (fX4_isWord_20 hG hSt) <| fI (fX4_isWord_49 hG hSt) <| fI (fX4_isWord_55 hG hSt) <| trivial
theorem fX4_isDigit_0 {X : tp_X} {az : Array Value} (hG : tp_Good X az) (hSt : tp_Stat X) : tp_Fit X yX4_isDigit cX4_isDigit (some .boolean) 1 tp_nm tp_by tp_ml tp_rtt 0 [o_ild (.iload_n 0) 0, o_int (.bipush 48) 48, o_icmplt 13 16, o_ild (.iload_n 0) 0, o_int (.bipush 57) 57, o_icmpgt 7 16, o_int (.iconst 1) 1, o_goto 4 17] :=
  fG mo_ild (sim_ild_n dX4_isDigit_0 rfl) <|
  fG mo_int (sim_bipush dX4_isDigit_1 (by decide)) <|
  fG mo_icmplt (sim_icmplt dX4_isDigit_3 rfl) <|
  fG mo_ild (sim_ild_n dX4_isDigit_6 rfl) <|
  fG mo_int (sim_bipush dX4_isDigit_7 (by decide)) <|
  fG mo_icmpgt (sim_icmpgt dX4_isDigit_9 rfl) <|
  fG mo_int (sim_iconst dX4_isDigit_12 (by decide)) <|
  fG mo_goto (sim_goto dX4_isDigit_13 rfl) <|
  trivial
theorem fX4_isDigit_16 {X : tp_X} {az : Array Value} (hG : tp_Good X az) (hSt : tp_Stat X) : tp_Fit X yX4_isDigit cX4_isDigit (some .boolean) 1 tp_nm tp_by tp_ml tp_rtt 16 [o_int (.iconst 0) 0, o_fall 17] :=
  fG mo_int (sim_iconst dX4_isDigit_16 (by decide)) <|
  fF
theorem fX4_isDigit_17 {X : tp_X} {az : Array Value} (hG : tp_Good X az) (hSt : tp_Stat X) : tp_Fit X yX4_isDigit cX4_isDigit (some .boolean) 1 tp_nm tp_by tp_ml tp_rtt 17 [o_iret 1] :=
  fE ie_iret (sim_iret dX4_isDigit_17 rfl (Or.inr (Or.inl ⟨rfl, rfl⟩)))
theorem F_X4_isDigit {X : tp_X} {az : Array Value} (hG : tp_Good X az) (hSt : tp_Stat X) (pc : Nat) : tp_Fit X yX4_isDigit cX4_isDigit (some .boolean) 1 tp_nm tp_by tp_ml tp_rtt pc (mX4_isDigit pc) :=
  fI (fX4_isDigit_0 hG hSt) <| fI (fX4_isDigit_16 hG hSt) <| fI (fX4_isDigit_17 hG hSt) <| trivial
theorem fX4_wrong_0 {X : tp_X} {az : Array Value} (hG : tp_Good X az) (hSt : tp_Stat X) : tp_Fit X yX4_wrong cX4_wrong (some (.object "ThroughPack$Wrong")) 2 tp_nm tp_by tp_ml tp_rtt 0 [o_new (.new 65) 6 8 [xN, xN, xN, xN, xN, xI 0, xI 0, xI 0], o_dup, o_ild (.iload_n 1) 1, o_ald (.aload_n 0) 0, o_getf (.getfield 22) 4 3, o_cp (.invokespecial 67) kX6_init 2 0, o_aret] :=
  fG mo_new (sim_new hG dX4_wrong_0 hc_6 rfl (by decide) (by decide) in_X6 tyX6_ok q561 q562 q142 df_X6) <|
  fG mo_dup (sim_dup dX4_wrong_3) <|
  fG mo_ild (sim_ild_n dX4_wrong_4 rfl) <|
  fG mo_ald (sim_ald_n dX4_wrong_5 rfl) <|
  fG mo_getf (sim_getfG hG dX4_wrong_6 hc_4 (by decide) rfl in_X4 (fun _ _ _ h => h) (Or.inl q400)) <|
  fC (ic_cp (Or.inl rfl)) (sim_cp hG dX4_wrong_9 M_X6_init (by rw [nm_X6_init]; rfl) rt_X6_init (by rw [nm_X6_init]; rfl) (by rw [nm_X6_init]; exact q598) (by rw [nm_X6_init]; exact q599)) <|
  fE ie_aret (sim_aret dX4_wrong_12 rfl (Or.inl ⟨_, rfl⟩))
theorem F_X4_wrong {X : tp_X} {az : Array Value} (hG : tp_Good X az) (hSt : tp_Stat X) (pc : Nat) : tp_Fit X yX4_wrong cX4_wrong (some (.object "ThroughPack$Wrong")) 2 tp_nm tp_by tp_ml tp_rtt pc (mX4_wrong pc) :=
  fI (fX4_wrong_0 hG hSt) <| trivial
theorem fX4_clause_0 {X : tp_X} {az : Array Value} (hG : tp_Good X az) (hSt : tp_Stat X) : tp_Fit X yX4_clause cX4_clause none 3 tp_nm tp_by tp_ml tp_rtt 0 [o_ald (.aload_n 0) 0, o_getf (.getfield 83) 4 7, o_sw (.tableswitch 107 200 205 #[40, 55, 70, 107, 85, 96]) [(200, 44), (201, 59), (202, 74), (203, 111), (204, 89), (205, 100)] 111] :=
  fG mo_ald (sim_ald_n dX4_clause_0 rfl) <|
  fG mo_getf (sim_getfG hG dX4_clause_1 hc_4 (by decide) rfl in_X4 (fun _ _ _ h => h) (Or.inl q404)) <|
  fG mo_sw (sim_tsw dX4_clause_4 (by decide +kernel) (by decide +kernel)) <|
  trivial
theorem fX4_clause_44 {X : tp_X} {az : Array Value} (hG : tp_Good X az) (hSt : tp_Stat X) : tp_Fit X yX4_clause cX4_clause none 3 tp_nm tp_by tp_ml tp_rtt 44 [o_ald (.aload_n 1) 1, o_getf (.getfield 104) 5 0, o_ald (.aload_n 0) 0, o_cv (.invokevirtual 108) 4 kX4_either 0 1, o_cv (.invokevirtual 112) 15 kJ4_add 1 0, o_pop, o_goto 90 146] :=
  fG mo_ald (sim_ald_n dX4_clause_44 rfl) <|
  fG mo_getf (sim_getfG hG dX4_clause_45 hc_5 (by decide) rfl in_X5 (fun _ _ _ h => h) (Or.inr ⟨_, q459⟩)) <|
  fG mo_ald (sim_ald_n dX4_clause_48 rfl) <|
  fC (ic_cv (Or.inr (Or.inl ⟨rfl, rfl⟩))) (sim_cv hG dX4_clause_49 (hG.2.1 4 _ hc_4).2.1 M_X4_either (by rw [nm_X4_either]; rfl) (by rw [nm_X4_either]; exact q629) (by rw [nm_X4_either]; exact q631) (by rw [nm_X4_either]; exact qs7)) <|
  fC (ic_cv (Or.inl rfl)) (sim_cv hG dX4_clause_52 (hG.2.1 15 _ hc_15).2.1 M_J4_add (by rw [nm_J4_add]; rfl) (by rw [nm_J4_add]; exact q833) (by rw [nm_J4_add]; exact q753) (by rw [nm_J4_add]; exact q754)) <|
  fG mo_pop (sim_pop dX4_clause_55) <|
  fG mo_goto (sim_goto dX4_clause_56 rfl) <|
  trivial
theorem fX4_clause_59 {X : tp_X} {az : Array Value} (hG : tp_Good X az) (hSt : tp_Stat X) : tp_Fit X yX4_clause cX4_clause none 3 tp_nm tp_by tp_ml tp_rtt 59 [o_ald (.aload_n 1) 1, o_getf (.getfield 118) 5 1, o_ald (.aload_n 0) 0, o_cv (.invokevirtual 108) 4 kX4_either 0 1, o_cv (.invokevirtual 112) 15 kJ4_add 1 0, o_pop, o_goto 75 146] :=
  fG mo_ald (sim_ald_n dX4_clause_59 rfl) <|
  fG mo_getf (sim_getfG hG dX4_clause_60 hc_5 (by decide) rfl in_X5 (fun _ _ _ h => h) (Or.inr ⟨_, q462⟩)) <|
  fG mo_ald (sim_ald_n dX4_clause_63 rfl) <|
  fC (ic_cv (Or.inr (Or.inl ⟨rfl, rfl⟩))) (sim_cv hG dX4_clause_64 (hG.2.1 4 _ hc_4).2.1 M_X4_either (by rw [nm_X4_either]; rfl) (by rw [nm_X4_either]; exact q629) (by rw [nm_X4_either]; exact q631) (by rw [nm_X4_either]; exact qs7)) <|
  fC (ic_cv (Or.inl rfl)) (sim_cv hG dX4_clause_67 (hG.2.1 15 _ hc_15).2.1 M_J4_add (by rw [nm_J4_add]; rfl) (by rw [nm_J4_add]; exact q833) (by rw [nm_J4_add]; exact q753) (by rw [nm_J4_add]; exact q754)) <|
  fG mo_pop (sim_pop dX4_clause_70) <|
  fG mo_goto (sim_goto dX4_clause_71 rfl) <|
  trivial
theorem fX4_clause_74 {X : tp_X} {az : Array Value} (hG : tp_Good X az) (hSt : tp_Stat X) : tp_Fit X yX4_clause cX4_clause none 3 tp_nm tp_by tp_ml tp_rtt 74 [o_ald (.aload_n 1) 1, o_getf (.getfield 121) 5 2, o_ald (.aload_n 0) 0, o_cv (.invokevirtual 108) 4 kX4_either 0 1, o_cv (.invokevirtual 112) 15 kJ4_add 1 0, o_pop, o_goto 60 146] :=
  fG mo_ald (sim_ald_n dX4_clause_74 rfl) <|
  fG mo_getf (sim_getfG hG dX4_clause_75 hc_5 (by decide) rfl in_X5 (fun _ _ _ h => h) (Or.inr ⟨_, q465⟩)) <|
  fG mo_ald (sim_ald_n dX4_clause_78 rfl) <|
  fC (ic_cv (Or.inr (Or.inl ⟨rfl, rfl⟩))) (sim_cv hG dX4_clause_79 (hG.2.1 4 _ hc_4).2.1 M_X4_either (by rw [nm_X4_either]; rfl) (by rw [nm_X4_either]; exact q629) (by rw [nm_X4_either]; exact q631) (by rw [nm_X4_either]; exact qs7)) <|
  fC (ic_cv (Or.inl rfl)) (sim_cv hG dX4_clause_82 (hG.2.1 15 _ hc_15).2.1 M_J4_add (by rw [nm_J4_add]; rfl) (by rw [nm_J4_add]; exact q833) (by rw [nm_J4_add]; exact q753) (by rw [nm_J4_add]; exact q754)) <|
  fG mo_pop (sim_pop dX4_clause_85) <|
  fG mo_goto (sim_goto dX4_clause_86 rfl) <|
  trivial
theorem fX4_clause_89 {X : tp_X} {az : Array Value} (hG : tp_Good X az) (hSt : tp_Stat X) : tp_Fit X yX4_clause cX4_clause none 3 tp_nm tp_by tp_ml tp_rtt 89 [o_ald (.aload_n 1) 1, o_ald (.aload_n 0) 0, o_cv (.invokevirtual 124) 4 kX4_sum 0 1, o_putf (.putfield 86) 5 4 4, o_goto 49 146] :=
  fG mo_ald (sim_ald_n dX4_clause_89 rfl) <|
  fG mo_ald (sim_ald_n dX4_clause_90 rfl) <|
  fC (ic_cv (Or.inr (Or.inl ⟨rfl, rfl⟩))) (sim_cv hG dX4_clause_91 (hG.2.1 4 _ hc_4).2.1 M_X4_sum (by rw [nm_X4_sum]; rfl) (by rw [nm_X4_sum]; exact q660) (by rw [nm_X4_sum]; exact q662) (by rw [nm_X4_sum]; exact qs11)) <|
  fG mo_putf (sim_putfN hG dX4_clause_94 hc_5 (by decide) rfl (by decide) in_X5 tyX5_ok nmX5 (Or.inr (Or.inr (Or.inr (Or.inr ⟨Or.inl ⟨_, rfl⟩, by decide⟩)))) (fun _ _ _ h => h) rfl q470) <|
  fG mo_goto (sim_goto dX4_clause_97 rfl) <|
  trivial
theorem fX4_clause_100 {X : tp_X} {az : Array Value} (hG : tp_Good X az) (hSt : tp_Stat X) : tp_Fit X yX4_clause cX4_clause none 3 tp_nm tp_by tp_ml tp_rtt 100 [o_ald (.aload_n 1) 1, o_ald (.aload_n 0) 0, o_cv (.invokevirtual 124) 4 kX4_sum 0 1, o_putf (.putfield 90) 5 5 4, o_goto 38 146] :=
  fG mo_ald (sim_ald_n dX4_clause_100 rfl) <|
  fG mo_ald (sim_ald_n dX4_clause_101 rfl) <|
  fC (ic_cv (Or.inr (Or.inl ⟨rfl, rfl⟩))) (sim_cv hG dX4_clause_102 (hG.2.1 4 _ hc_4).2.1 M_X4_sum (by rw [nm_X4_sum]; rfl) (by rw [nm_X4_sum]; exact q660) (by rw [nm_X4_sum]; exact q662) (by rw [nm_X4_sum]; exact qs11)) <|
  fG mo_putf (sim_putfN hG dX4_clause_105 hc_5 (by decide) rfl (by decide) in_X5 tyX5_ok nmX5 (Or.inr (Or.inr (Or.inr (Or.inr ⟨Or.inl ⟨_, rfl⟩, by decide⟩)))) (fun _ _ _ h => h) rfl q472) <|
  fG mo_goto (sim_goto dX4_clause_108 rfl) <|
  trivial
theorem fX4_clause_111 {X : tp_X} {az : Array Value} (hG : tp_Good X az) (hSt : tp_Stat X) : tp_Fit X yX4_clause cX4_clause none 3 tp_nm tp_by tp_ml tp_rtt 111 [o_ald (.aload_n 0) 0, o_int (.iconst 0) 0, o_int (.bipush 7) 7, o_cv (.invokevirtual 128) 4 kX4_number 2 1, o_ist (.istore_n 2) 2, o_ald (.aload_n 0) 0, o_int (.sipush 206) 206, o_cv (.invokevirtual 100) 4 kX4_want 1 1, o_ald (.aload_n 1) 1, o_getf (.getfield 130) 5 3, o_new (.new 133) 14 2 [xI 0, xN], o_dup, o_ild (.iload_n 2) 2, o_ald (.aload_n 0) 0, o_cv (.invokevirtual 108) 4 kX4_either 0 1, o_cp (.invokespecial 135) kX14_init 2 0, o_cv (.invokevirtual 112) 15 kJ4_add 1 0, o_pop, o_fall 146] :=
  fG mo_ald (sim_ald_n dX4_clause_111 rfl) <|
  fG mo_int (sim_iconst dX4_clause_112 (by decide)) <|
  fG mo_int (sim_bipush dX4_clause_113 (by decide)) <|
  fC (ic_cv (Or.inr (Or.inl ⟨rfl, rfl⟩))) (sim_cv hG dX4_clause_115 (hG.2.1 4 _ hc_4).2.1 M_X4_number (by rw [nm_X4_number]; rfl) (by rw [nm_X4_number]; exact q676) (by rw [nm_X4_number]; exact q678) (by rw [nm_X4_number]; exact qs14)) <|
  fG mo_ist (sim_ist_n dX4_clause_118 rfl) <|
  fG mo_ald (sim_ald_n dX4_clause_119 rfl) <|
  fG mo_int (sim_sipush dX4_clause_120 (by decide)) <|
  fC (ic_cv (Or.inr (Or.inl ⟨rfl, rfl⟩))) (sim_cv hG dX4_clause_123 (hG.2.1 4 _ hc_4).2.1 M_X4_want (by rw [nm_X4_want]; rfl) (by rw [nm_X4_want]; exact q698) (by rw [nm_X4_want]; exact q700) (by rw [nm_X4_want]; exact qs15)) <|
  fG mo_ald (sim_ald_n dX4_clause_126 rfl) <|
  fG mo_getf (sim_getfG hG dX4_clause_127 hc_5 (by decide) rfl in_X5 (fun _ _ _ h => h) (Or.inr ⟨_, q468⟩)) <|
  fG mo_new (sim_new hG dX4_clause_130 hc_14 rfl (by decide) (by decide) in_X14 tyX14_ok q864 q865 q156 df_X14) <|
  fG mo_dup (sim_dup dX4_clause_133) <|
  fG mo_ild (sim_ild_n dX4_clause_134 rfl) <|
  fG mo_ald (sim_ald_n dX4_clause_135 rfl) <|
  fC (ic_cv (Or.inr (Or.inl ⟨rfl, rfl⟩))) (sim_cv hG dX4_clause_136 (hG.2.1 4 _ hc_4).2.1 M_X4_either (by rw [nm_X4_either]; rfl) (by rw [nm_X4_either]; exact q629) (by rw [nm_X4_either]; exact q631) (by rw [nm_X4_either]; exact qs7)) <|
  fC (ic_cp (Or.inl rfl)) (sim_cpN hG dX4_clause_139 M_X14_init (by rw [nm_X14_init]; rfl) rt_X14_init (by rw [nm_X14_init]; rfl) (by rw [nm_X14_init]; exact q866) (by rw [nm_X14_init]; exact q867)) <|
  fC (ic_cv (Or.inl rfl)) (sim_cv hG dX4_clause_142 (hG.2.1 15 _ hc_15).2.1 M_J4_add (by rw [nm_J4_add]; rfl) (by rw [nm_J4_add]; exact q833) (by rw [nm_J4_add]; exact q753) (by rw [nm_J4_add]; exact q754)) <|
  fG mo_pop (sim_pop dX4_clause_145) <|
  fF
theorem fX4_clause_146 {X : tp_X} {az : Array Value} (hG : tp_Good X az) (hSt : tp_Stat X) : tp_Fit X yX4_clause cX4_clause none 3 tp_nm tp_by tp_ml tp_rtt 146 [o_vret] :=
  fE ie_vret (sim_vret dX4_clause_146 rfl)
theorem F_X4_clause {X : tp_X} {az : Array Value} (hG : tp_Good X az) (hSt : tp_Stat X) (pc : Nat) : tp_Fit X yX4_clause cX4_clause none 3 tp_nm tp_by tp_ml tp_rtt pc (mX4_clause pc) :=
  fI (fX4_clause_0 hG hSt) <| fI (fX4_clause_44 hG hSt) <| fI (fX4_clause_59 hG hSt) <| fI (fX4_clause_74 hG hSt) <| fI (fX4_clause_89 hG hSt) <| fI (fX4_clause_100 hG hSt) <| fI (fX4_clause_111 hG hSt) <| fI (fX4_clause_146 hG hSt) <| trivial
theorem fX4_either_0 {X : tp_X} {az : Array Value} (hG : tp_Good X az) (hSt : tp_Stat X) : tp_Fit X yX4_either cX4_either (some (.object "ThroughPack$Asked")) 2 tp_nm tp_by tp_ml tp_rtt 0 [o_new (.new 113) 15 3 [xI 0, xN, xI 0], o_dup, o_cp (.invokespecial 138) kJ4_init 0 0, o_ast (.astore_n 1) 1, o_ald (.aload_n 1) 1, o_ald (.aload_n 0) 0, o_cv (.invokevirtual 139) 4 kX4_both 0 1, o_cv (.invokevirtual 112) 15 kJ4_add 1 0, o_pop, o_fall 17] :=
  fG mo_new (sim_new hG dX4_either_0 hc_15 rfl (by decide) (by decide) in_J4 tyJ4_ok q633 q433 q135 df_J4) <|
  fG mo_dup (sim_dup dX4_either_3) <|
  fC (ic_cp (Or.inl rfl)) (sim_cp hG dX4_either_4 M_J4_init (by rw [nm_J4_init]; rfl) rt_J4_init (by rw [nm_J4_init]; rfl) (by rw [nm_J4_init]; exact q634) (by rw [nm_J4_init]; exact q435)) <|
  fG mo_ast (sim_ast_n dX4_either_7 rfl) <|
  fG mo_ald (sim_ald_n dX4_either_8 rfl) <|
  fG mo_ald (sim_ald_n dX4_either_9 rfl) <|
  fC (ic_cv (Or.inr (Or.inl ⟨rfl, rfl⟩))) (sim_cv hG dX4_either_10 (hG.2.1 4 _ hc_4).2.1 M_X4_both (by rw [nm_X4_both]; rfl) (by rw [nm_X4_both]; exact q635) (by rw [nm_X4_both]; exact q637) (by rw [nm_X4_both]; exact qs8)) <|
  fC (ic_cv (Or.inl rfl)) (sim_cv hG dX4_either_13 (hG.2.1 15 _ hc_15).2.1 M_J4_add (by rw [nm_J4_add]; rfl) (by rw [nm_J4_add]; exact q833) (by rw [nm_J4_add]; exact q753) (by rw [nm_J4_add]; exact q754)) <|
  fG mo_pop (sim_pop dX4_either_16) <|
  fF
theorem fX4_either_17 {X : tp_X} {az : Array Value} (hG : tp_Good X az) (hSt : tp_Stat X) : tp_Fit X yX4_either cX4_either (some (.object "ThroughPack$Asked")) 2 tp_nm tp_by tp_ml tp_rtt 17 [o_ald (.aload_n 0) 0, o_getf (.getfield 25) 4 4, o_int (.sipush 207) 207, o_icmpne 19 43, o_ald (.aload_n 0) 0, o_cv (.invokevirtual 74) 4 kX4_next 0 0, o_ald (.aload_n 1) 1, o_ald (.aload_n 0) 0, o_cv (.invokevirtual 139) 4 kX4_both 0 1, o_cv (.invokevirtual 112) 15 kJ4_add 1 0, o_pop, o_goto (-23) 17] :=
  fG mo_ald (sim_ald_n dX4_either_17 rfl) <|
  fG mo_getf (sim_getfG hG dX4_either_18 hc_4 (by decide) rfl in_X4 (fun _ _ _ h => h) (Or.inl q401)) <|
  fG mo_int (sim_sipush dX4_either_21 (by decide)) <|
  fG mo_icmpne (sim_icmpne dX4_either_24 rfl) <|
  fG mo_ald (sim_ald_n dX4_either_27 rfl) <|
  fC (ic_cv (Or.inl rfl)) (sim_cv hG dX4_either_28 (hG.2.1 4 _ hc_4).2.1 M_X4_next (by rw [nm_X4_next]; rfl) (by rw [nm_X4_next]; exact q490) (by rw [nm_X4_next]; exact q492) (by rw [nm_X4_next]; exact qs2)) <|
  fG mo_ald (sim_ald_n dX4_either_31 rfl) <|
  fG mo_ald (sim_ald_n dX4_either_32 rfl) <|
  fC (ic_cv (Or.inr (Or.inl ⟨rfl, rfl⟩))) (sim_cv hG dX4_either_33 (hG.2.1 4 _ hc_4).2.1 M_X4_both (by rw [nm_X4_both]; rfl) (by rw [nm_X4_both]; exact q635) (by rw [nm_X4_both]; exact q637) (by rw [nm_X4_both]; exact qs8)) <|
  fC (ic_cv (Or.inl rfl)) (sim_cv hG dX4_either_36 (hG.2.1 15 _ hc_15).2.1 M_J4_add (by rw [nm_J4_add]; rfl) (by rw [nm_J4_add]; exact q833) (by rw [nm_J4_add]; exact q753) (by rw [nm_J4_add]; exact q754)) <|
  fG mo_pop (sim_pop dX4_either_39) <|
  fG mo_goto (sim_goto dX4_either_40 rfl) <|
  trivial
theorem fX4_either_43 {X : tp_X} {az : Array Value} (hG : tp_Good X az) (hSt : tp_Stat X) : tp_Fit X yX4_either cX4_either (some (.object "ThroughPack$Asked")) 2 tp_nm tp_by tp_ml tp_rtt 43 [o_ald (.aload_n 1) 1, o_cv (.invokevirtual 142) 15 kJ4_size 0 0, o_int (.iconst 1) 1, o_icmpne 14 62, o_ald (.aload_n 1) 1, o_int (.iconst 0) 0, o_cv (.invokevirtual 144) 15 kJ4_get 1 0, o_cast (.checkcast 148) [7, 12, 13], o_goto 12 71] :=
  fG mo_ald (sim_ald_n dX4_either_43 rfl) <|
  fC (ic_cv (Or.inl rfl)) (sim_cv hG dX4_either_44 (hG.2.1 15 _ hc_15).2.1 M_J4_size (by rw [nm_J4_size]; rfl) (by rw [nm_J4_size]; exact q834) (by rw [nm_J4_size]; exact q835) (by rw [nm_J4_size]; exact q836)) <|
  fG mo_int (sim_iconst dX4_either_47 (by decide)) <|
  fG mo_icmpne (sim_icmpne dX4_either_48 rfl) <|
  fG mo_ald (sim_ald_n dX4_either_51 rfl) <|
  fG mo_int (sim_iconst dX4_either_52 (by decide)) <|
  fC (ic_cv (Or.inl rfl)) (sim_cv hG dX4_either_53 (hG.2.1 15 _ hc_15).2.1 M_J4_get (by rw [nm_J4_get]; rfl) (by rw [nm_J4_get]; exact q838) (by rw [nm_J4_get]; exact q839) (by rw [nm_J4_get]; exact q840)) <|
  fG mo_cast (sim_cast hG dX4_either_56 q850 (fun c hc => by
    simp only [List.mem_cons, List.not_mem_nil, or_false] at hc
    rcases hc with rfl | rfl | rfl
    · exact ⟨_, rfl, Or.inr q998⟩
    · exact ⟨_, rfl, Or.inr q944⟩
    · exact ⟨_, rfl, Or.inr q933⟩
    )) <|
  fG mo_goto (sim_goto dX4_either_59 rfl) <|
  trivial
theorem fX4_either_62 {X : tp_X} {az : Array Value} (hG : tp_Good X az) (hSt : tp_Stat X) : tp_Fit X yX4_either cX4_either (some (.object "ThroughPack$Asked")) 2 tp_nm tp_by tp_ml tp_rtt 62 [o_new (.new 150) 13 2 [xI 0, xN], o_dup, o_int (.iconst 0) 0, o_ald (.aload_n 1) 1, o_cp (.invokespecial 152) kX13_init 2 0, o_fall 71] :=
  fG mo_new (sim_new hG dX4_either_62 hc_13 rfl (by decide) (by decide) in_X13 tyX13_ok q851 q852 q155 df_X13) <|
  fG mo_dup (sim_dup dX4_either_65) <|
  fG mo_int (sim_iconst dX4_either_66 (by decide)) <|
  fG mo_ald (sim_ald_n dX4_either_67 rfl) <|
  fC (ic_cp (Or.inl rfl)) (sim_cpN hG dX4_either_68 M_X13_init (by rw [nm_X13_init]; rfl) rt_X13_init (by rw [nm_X13_init]; rfl) (by rw [nm_X13_init]; exact q853) (by rw [nm_X13_init]; exact q854)) <|
  fF
theorem fX4_either_71 {X : tp_X} {az : Array Value} (hG : tp_Good X az) (hSt : tp_Stat X) : tp_Fit X yX4_either cX4_either (some (.object "ThroughPack$Asked")) 2 tp_nm tp_by tp_ml tp_rtt 71 [o_aret] :=
  fE ie_aret (sim_aret dX4_either_71 rfl (Or.inl ⟨_, rfl⟩))
theorem F_X4_either {X : tp_X} {az : Array Value} (hG : tp_Good X az) (hSt : tp_Stat X) (pc : Nat) : tp_Fit X yX4_either cX4_either (some (.object "ThroughPack$Asked")) 2 tp_nm tp_by tp_ml tp_rtt pc (mX4_either pc) :=
  fI (fX4_either_0 hG hSt) <| fI (fX4_either_17 hG hSt) <| fI (fX4_either_43 hG hSt) <| fI (fX4_either_62 hG hSt) <| fI (fX4_either_71 hG hSt) <| trivial
theorem fX4_both_0 {X : tp_X} {az : Array Value} (hG : tp_Good X az) (hSt : tp_Stat X) : tp_Fit X yX4_both cX4_both (some (.object "ThroughPack$Asked")) 2 tp_nm tp_by tp_ml tp_rtt 0 [o_new (.new 113) 15 3 [xI 0, xN, xI 0], o_dup, o_cp (.invokespecial 138) kJ4_init 0 0, o_ast (.astore_n 1) 1, o_ald (.aload_n 1) 1, o_ald (.aload_n 0) 0, o_cv (.invokevirtual 155) 4 kX4_ask 0 1, o_cv (.invokevirtual 112) 15 kJ4_add 1 0, o_pop, o_fall 17] :=
  fG mo_new (sim_new hG dX4_both_0 hc_15 rfl (by decide) (by decide) in_J4 tyJ4_ok q633 q433 q135 df_J4) <|
  fG mo_dup (sim_dup dX4_both_3) <|
  fC (ic_cp (Or.inl rfl)) (sim_cp hG dX4_both_4 M_J4_init (by rw [nm_J4_init]; rfl) rt_J4_init (by rw [nm_J4_init]; rfl) (by rw [nm_J4_init]; exact q634) (by rw [nm_J4_init]; exact q435)) <|
  fG mo_ast (sim_ast_n dX4_both_7 rfl) <|
  fG mo_ald (sim_ald_n dX4_both_8 rfl) <|
  fG mo_ald (sim_ald_n dX4_both_9 rfl) <|
  fC (ic_cv (Or.inr (Or.inl ⟨rfl, rfl⟩))) (sim_cv hG dX4_both_10 (hG.2.1 4 _ hc_4).2.1 M_X4_ask (by rw [nm_X4_ask]; rfl) (by rw [nm_X4_ask]; exact q639) (by rw [nm_X4_ask]; exact q641) (by rw [nm_X4_ask]; exact qs9)) <|
  fC (ic_cv (Or.inl rfl)) (sim_cv hG dX4_both_13 (hG.2.1 15 _ hc_15).2.1 M_J4_add (by rw [nm_J4_add]; rfl) (by rw [nm_J4_add]; exact q833) (by rw [nm_J4_add]; exact q753) (by rw [nm_J4_add]; exact q754)) <|
  fG mo_pop (sim_pop dX4_both_16) <|
  fF
theorem fX4_both_17 {X : tp_X} {az : Array Value} (hG : tp_Good X az) (hSt : tp_Stat X) : tp_Fit X yX4_both cX4_both (some (.object "ThroughPack$Asked")) 2 tp_nm tp_by tp_ml tp_rtt 17 [o_ald (.aload_n 0) 0, o_getf (.getfield 25) 4 4, o_int (.sipush 208) 208, o_icmpne 19 43, o_ald (.aload_n 0) 0, o_cv (.invokevirtual 74) 4 kX4_next 0 0, o_ald (.aload_n 1) 1, o_ald (.aload_n 0) 0, o_cv (.invokevirtual 155) 4 kX4_ask 0 1, o_cv (.invokevirtual 112) 15 kJ4_add 1 0, o_pop, o_goto (-23) 17] :=
  fG mo_ald (sim_ald_n dX4_both_17 rfl) <|
  fG mo_getf (sim_getfG hG dX4_both_18 hc_4 (by decide) rfl in_X4 (fun _ _ _ h => h) (Or.inl q401)) <|
  fG mo_int (sim_sipush dX4_both_21 (by decide)) <|
  fG mo_icmpne (sim_icmpne dX4_both_24 rfl) <|
  fG mo_ald (sim_ald_n dX4_both_27 rfl) <|
  fC (ic_cv (Or.inl rfl)) (sim_cv hG dX4_both_28 (hG.2.1 4 _ hc_4).2.1 M_X4_next (by rw [nm_X4_next]; rfl) (by rw [nm_X4_next]; exact q490) (by rw [nm_X4_next]; exact q492) (by rw [nm_X4_next]; exact qs2)) <|
  fG mo_ald (sim_ald_n dX4_both_31 rfl) <|
  fG mo_ald (sim_ald_n dX4_both_32 rfl) <|
  fC (ic_cv (Or.inr (Or.inl ⟨rfl, rfl⟩))) (sim_cv hG dX4_both_33 (hG.2.1 4 _ hc_4).2.1 M_X4_ask (by rw [nm_X4_ask]; rfl) (by rw [nm_X4_ask]; exact q639) (by rw [nm_X4_ask]; exact q641) (by rw [nm_X4_ask]; exact qs9)) <|
  fC (ic_cv (Or.inl rfl)) (sim_cv hG dX4_both_36 (hG.2.1 15 _ hc_15).2.1 M_J4_add (by rw [nm_J4_add]; rfl) (by rw [nm_J4_add]; exact q833) (by rw [nm_J4_add]; exact q753) (by rw [nm_J4_add]; exact q754)) <|
  fG mo_pop (sim_pop dX4_both_39) <|
  fG mo_goto (sim_goto dX4_both_40 rfl) <|
  trivial
theorem fX4_both_43 {X : tp_X} {az : Array Value} (hG : tp_Good X az) (hSt : tp_Stat X) : tp_Fit X yX4_both cX4_both (some (.object "ThroughPack$Asked")) 2 tp_nm tp_by tp_ml tp_rtt 43 [o_ald (.aload_n 1) 1, o_cv (.invokevirtual 142) 15 kJ4_size 0 0, o_int (.iconst 1) 1, o_icmpne 14 62, o_ald (.aload_n 1) 1, o_int (.iconst 0) 0, o_cv (.invokevirtual 144) 15 kJ4_get 1 0, o_cast (.checkcast 148) [7, 12, 13], o_goto 12 71] :=
  fG mo_ald (sim_ald_n dX4_both_43 rfl) <|
  fC (ic_cv (Or.inl rfl)) (sim_cv hG dX4_both_44 (hG.2.1 15 _ hc_15).2.1 M_J4_size (by rw [nm_J4_size]; rfl) (by rw [nm_J4_size]; exact q834) (by rw [nm_J4_size]; exact q835) (by rw [nm_J4_size]; exact q836)) <|
  fG mo_int (sim_iconst dX4_both_47 (by decide)) <|
  fG mo_icmpne (sim_icmpne dX4_both_48 rfl) <|
  fG mo_ald (sim_ald_n dX4_both_51 rfl) <|
  fG mo_int (sim_iconst dX4_both_52 (by decide)) <|
  fC (ic_cv (Or.inl rfl)) (sim_cv hG dX4_both_53 (hG.2.1 15 _ hc_15).2.1 M_J4_get (by rw [nm_J4_get]; rfl) (by rw [nm_J4_get]; exact q838) (by rw [nm_J4_get]; exact q839) (by rw [nm_J4_get]; exact q840)) <|
  fG mo_cast (sim_cast hG dX4_both_56 q850 (fun c hc => by
    simp only [List.mem_cons, List.not_mem_nil, or_false] at hc
    rcases hc with rfl | rfl | rfl
    · exact ⟨_, rfl, Or.inr q998⟩
    · exact ⟨_, rfl, Or.inr q944⟩
    · exact ⟨_, rfl, Or.inr q933⟩
    )) <|
  fG mo_goto (sim_goto dX4_both_59 rfl) <|
  trivial
theorem fX4_both_62 {X : tp_X} {az : Array Value} (hG : tp_Good X az) (hSt : tp_Stat X) : tp_Fit X yX4_both cX4_both (some (.object "ThroughPack$Asked")) 2 tp_nm tp_by tp_ml tp_rtt 62 [o_new (.new 150) 13 2 [xI 0, xN], o_dup, o_int (.iconst 1) 1, o_ald (.aload_n 1) 1, o_cp (.invokespecial 152) kX13_init 2 0, o_fall 71] :=
  fG mo_new (sim_new hG dX4_both_62 hc_13 rfl (by decide) (by decide) in_X13 tyX13_ok q851 q852 q155 df_X13) <|
  fG mo_dup (sim_dup dX4_both_65) <|
  fG mo_int (sim_iconst dX4_both_66 (by decide)) <|
  fG mo_ald (sim_ald_n dX4_both_67 rfl) <|
  fC (ic_cp (Or.inl rfl)) (sim_cpN hG dX4_both_68 M_X13_init (by rw [nm_X13_init]; rfl) rt_X13_init (by rw [nm_X13_init]; rfl) (by rw [nm_X13_init]; exact q853) (by rw [nm_X13_init]; exact q854)) <|
  fF
theorem fX4_both_71 {X : tp_X} {az : Array Value} (hG : tp_Good X az) (hSt : tp_Stat X) : tp_Fit X yX4_both cX4_both (some (.object "ThroughPack$Asked")) 2 tp_nm tp_by tp_ml tp_rtt 71 [o_aret] :=
  fE ie_aret (sim_aret dX4_both_71 rfl (Or.inl ⟨_, rfl⟩))
theorem F_X4_both {X : tp_X} {az : Array Value} (hG : tp_Good X az) (hSt : tp_Stat X) (pc : Nat) : tp_Fit X yX4_both cX4_both (some (.object "ThroughPack$Asked")) 2 tp_nm tp_by tp_ml tp_rtt pc (mX4_both pc) :=
  fI (fX4_both_0 hG hSt) <| fI (fX4_both_17 hG hSt) <| fI (fX4_both_43 hG hSt) <| fI (fX4_both_62 hG hSt) <| fI (fX4_both_71 hG hSt) <| trivial
theorem fX4_ask_0 {X : tp_X} {az : Array Value} (hG : tp_Good X az) (hSt : tp_Stat X) : tp_Fit X yX4_ask cX4_ask (some (.object "ThroughPack$Asked")) 3 tp_nm tp_by tp_ml tp_rtt 0 [o_ald (.aload_n 0) 0, o_getf (.getfield 25) 4 4, o_int (.sipush 209) 209, o_icmpne 31 38, o_ald (.aload_n 0) 0, o_cv (.invokevirtual 158) 4 kX4_opens 0 1, o_new (.new 161) 7 1 [xN], o_dup, o_ald (.aload_n 0) 0, o_cv (.invokevirtual 155) 4 kX4_ask 0 1, o_cp (.invokespecial 163) kX7_init 1 0, o_ast (.astore_n 1) 1, o_ald (.aload_n 0) 0, o_dup, o_getf (.getfield 77) 4 6, o_int (.iconst 1) 1, o_isub, o_putf (.putfield 77) 4 6 0, o_ald (.aload_n 1) 1, o_aret] :=
  fG mo_ald (sim_ald_n dX4_ask_0 rfl) <|
  fG mo_getf (sim_getfG hG dX4_ask_1 hc_4 (by decide) rfl in_X4 (fun _ _ _ h => h) (Or.inl q401)) <|
  fG mo_int (sim_sipush dX4_ask_4 (by decide)) <|
  fG mo_icmpne (sim_icmpne dX4_ask_7 rfl) <|
  fG mo_ald (sim_ald_n dX4_ask_10 rfl) <|
  fC (ic_cv (Or.inr (Or.inl ⟨rfl, rfl⟩))) (sim_cv hG dX4_ask_11 (hG.2.1 4 _ hc_4).2.1 M_X4_opens (by rw [nm_X4_opens]; rfl) (by rw [nm_X4_opens]; exact q643) (by rw [nm_X4_opens]; exact q645) (by rw [nm_X4_opens]; exact qs10)) <|
  fG mo_new (sim_new hG dX4_ask_14 hc_7 rfl (by decide) (by decide) in_X7 tyX7_ok q647 q648 q144 df_X7) <|
  fG mo_dup (sim_dup dX4_ask_17) <|
  fG mo_ald (sim_ald_n dX4_ask_18 rfl) <|
  fC (ic_cv (Or.inr (Or.inl ⟨rfl, rfl⟩))) (sim_cv hG dX4_ask_19 (hG.2.1 4 _ hc_4).2.1 M_X4_ask (by rw [nm_X4_ask]; rfl) (by rw [nm_X4_ask]; exact q639) (by rw [nm_X4_ask]; exact q641) (by rw [nm_X4_ask]; exact qs9)) <|
  fC (ic_cp (Or.inl rfl)) (sim_cpN hG dX4_ask_22 M_X7_init (by rw [nm_X7_init]; rfl) rt_X7_init (by rw [nm_X7_init]; rfl) (by rw [nm_X7_init]; exact q649) (by rw [nm_X7_init]; exact q650)) <|
  fG mo_ast (sim_ast_n dX4_ask_25 rfl) <|
  fG mo_ald (sim_ald_n dX4_ask_26 rfl) <|
  fG mo_dup (sim_dup dX4_ask_27) <|
  fG mo_getf (sim_getfG hG dX4_ask_28 hc_4 (by decide) rfl in_X4 (fun _ _ _ h => h) (Or.inl q403)) <|
  fG mo_int (sim_iconst dX4_ask_31 (by decide)) <|
  fG mo_isub (sim_isub dX4_ask_32) <|
  fG mo_putf (sim_putf hG dX4_ask_33 hc_4 (by decide) rfl (by decide) in_X4 tyX4_ok nmX4 (Or.inl ⟨rfl, rfl⟩) (fun _ _ _ h => h) rfl q403) <|
  fG mo_ald (sim_ald_n dX4_ask_36 rfl) <|
  fE ie_aret (sim_aret dX4_ask_37 rfl (Or.inl ⟨_, rfl⟩))
theorem fX4_ask_38 {X : tp_X} {az : Array Value} (hG : tp_Good X az) (hSt : tp_Stat X) : tp_Fit X yX4_ask cX4_ask (some (.object "ThroughPack$Asked")) 3 tp_nm tp_by tp_ml tp_rtt 38 [o_ald (.aload_n 0) 0, o_cv (.invokevirtual 124) 4 kX4_sum 0 1, o_ast (.astore_n 1) 1, o_ald (.aload_n 0) 0, o_getf (.getfield 25) 4 4, o_ist (.istore_n 2) 2, o_ild (.iload_n 2) 2, o_int (.bipush 60) 60, o_icmpeq 41 92, o_ild (.iload_n 2) 2, o_int (.bipush 62) 62, o_icmpeq 35 92, o_ild (.iload_n 2) 2, o_int (.bipush 61) 61, o_icmpeq 29 92, o_ild (.iload_n 2) 2, o_int (.bipush 35) 35, o_icmpeq 23 92, o_ild (.iload_n 2) 2, o_int (.sipush 303) 303, o_icmpeq 16 92, o_ild (.iload_n 2) 2, o_int (.sipush 304) 304, o_icmpeq 9 92, o_ald (.aload_n 0) 0, o_int (.iconst 1) 1, o_cv (.invokevirtual 70) 4 kX4_wrong 1 0, o_thr] :=
  fG mo_ald (sim_ald_n dX4_ask_38 rfl) <|
  fC (ic_cv (Or.inr (Or.inl ⟨rfl, rfl⟩))) (sim_cv hG dX4_ask_39 (hG.2.1 4 _ hc_4).2.1 M_X4_sum (by rw [nm_X4_sum]; rfl) (by rw [nm_X4_sum]; exact q660) (by rw [nm_X4_sum]; exact q662) (by rw [nm_X4_sum]; exact qs11)) <|
  fG mo_ast (sim_ast_n dX4_ask_42 rfl) <|
  fG mo_ald (sim_ald_n dX4_ask_43 rfl) <|
  fG mo_getf (sim_getfG hG dX4_ask_44 hc_4 (by decide) rfl in_X4 (fun _ _ _ h => h) (Or.inl q401)) <|
  fG mo_ist (sim_ist_n dX4_ask_47 rfl) <|
  fG mo_ild (sim_ild_n dX4_ask_48 rfl) <|
  fG mo_int (sim_bipush dX4_ask_49 (by decide)) <|
  fG mo_icmpeq (sim_icmpeq dX4_ask_51 rfl) <|
  fG mo_ild (sim_ild_n dX4_ask_54 rfl) <|
  fG mo_int (sim_bipush dX4_ask_55 (by decide)) <|
  fG mo_icmpeq (sim_icmpeq dX4_ask_57 rfl) <|
  fG mo_ild (sim_ild_n dX4_ask_60 rfl) <|
  fG mo_int (sim_bipush dX4_ask_61 (by decide)) <|
  fG mo_icmpeq (sim_icmpeq dX4_ask_63 rfl) <|
  fG mo_ild (sim_ild_n dX4_ask_66 rfl) <|
  fG mo_int (sim_bipush dX4_ask_67 (by decide)) <|
  fG mo_icmpeq (sim_icmpeq dX4_ask_69 rfl) <|
  fG mo_ild (sim_ild_n dX4_ask_72 rfl) <|
  fG mo_int (sim_sipush dX4_ask_73 (by decide)) <|
  fG mo_icmpeq (sim_icmpeq dX4_ask_76 rfl) <|
  fG mo_ild (sim_ild_n dX4_ask_79 rfl) <|
  fG mo_int (sim_sipush dX4_ask_80 (by decide)) <|
  fG mo_icmpeq (sim_icmpeq dX4_ask_83 rfl) <|
  fG mo_ald (sim_ald_n dX4_ask_86 rfl) <|
  fG mo_int (sim_iconst dX4_ask_87 (by decide)) <|
  fC (ic_cv (Or.inl rfl)) (sim_cv hG dX4_ask_88 (hG.2.1 4 _ hc_4).2.1 M_X4_wrong (by rw [nm_X4_wrong]; rfl) (by rw [nm_X4_wrong]; exact q557) (by rw [nm_X4_wrong]; exact q559) (by rw [nm_X4_wrong]; exact qs4)) <|
  fE ie_thr (sim_thr dX4_ask_91 rfl)
theorem fX4_ask_92 {X : tp_X} {az : Array Value} (hG : tp_Good X az) (hSt : tp_Stat X) : tp_Fit X yX4_ask cX4_ask (some (.object "ThroughPack$Asked")) 3 tp_nm tp_by tp_ml tp_rtt 92 [o_ald (.aload_n 0) 0, o_cv (.invokevirtual 74) 4 kX4_next 0 0, o_new (.new 166) 12 3 [xI 0, xN, xN], o_dup, o_ild (.iload_n 2) 2, o_ald (.aload_n 1) 1, o_ald (.aload_n 0) 0, o_cv (.invokevirtual 124) 4 kX4_sum 0 1, o_cp (.invokespecial 168) kX12_init 3 0, o_aret] :=
  fG mo_ald (sim_ald_n dX4_ask_92 rfl) <|
  fC (ic_cv (Or.inl rfl)) (sim_cv hG dX4_ask_93 (hG.2.1 4 _ hc_4).2.1 M_X4_next (by rw [nm_X4_next]; rfl) (by rw [nm_X4_next]; exact q490) (by rw [nm_X4_next]; exact q492) (by rw [nm_X4_next]; exact qs2)) <|
  fG mo_new (sim_new hG dX4_ask_96 hc_12 rfl (by decide) (by decide) in_X12 tyX12_ok q817 q818 q153 df_X12) <|
  fG mo_dup (sim_dup dX4_ask_99) <|
  fG mo_ild (sim_ild_n dX4_ask_100 rfl) <|
  fG mo_ald (sim_ald_n dX4_ask_101 rfl) <|
  fG mo_ald (sim_ald_n dX4_ask_102 rfl) <|
  fC (ic_cv (Or.inr (Or.inl ⟨rfl, rfl⟩))) (sim_cv hG dX4_ask_103 (hG.2.1 4 _ hc_4).2.1 M_X4_sum (by rw [nm_X4_sum]; rfl) (by rw [nm_X4_sum]; exact q660) (by rw [nm_X4_sum]; exact q662) (by rw [nm_X4_sum]; exact qs11)) <|
  fC (ic_cp (Or.inl rfl)) (sim_cpN hG dX4_ask_106 M_X12_init (by rw [nm_X12_init]; rfl) rt_X12_init (by rw [nm_X12_init]; rfl) (by rw [nm_X12_init]; exact q819) (by rw [nm_X12_init]; exact q820)) <|
  fE ie_aret (sim_aret dX4_ask_109 rfl (Or.inl ⟨_, rfl⟩))
theorem F_X4_ask {X : tp_X} {az : Array Value} (hG : tp_Good X az) (hSt : tp_Stat X) (pc : Nat) : tp_Fit X yX4_ask cX4_ask (some (.object "ThroughPack$Asked")) 3 tp_nm tp_by tp_ml tp_rtt pc (mX4_ask pc) :=
  fI (fX4_ask_0 hG hSt) <| fI (fX4_ask_38 hG hSt) <| fI (fX4_ask_92 hG hSt) <| trivial
theorem fX4_opens_0 {X : tp_X} {az : Array Value} (hG : tp_Good X az) (hSt : tp_Stat X) : tp_Fit X yX4_opens cX4_opens none 1 tp_nm tp_by tp_ml tp_rtt 0 [o_ald (.aload_n 0) 0, o_getf (.getfield 77) 4 6, o_int (.bipush 8) 8, o_icmpne 9 15, o_ald (.aload_n 0) 0, o_int (.iconst 3) 3, o_cv (.invokevirtual 70) 4 kX4_wrong 1 0, o_thr] :=
  fG mo_ald (sim_ald_n dX4_opens_0 rfl) <|
  fG mo_getf (sim_getfG hG dX4_opens_1 hc_4 (by decide) rfl in_X4 (fun _ _ _ h => h) (Or.inl q403)) <|
  fG mo_int (sim_bipush dX4_opens_4 (by decide)) <|
  fG mo_icmpne (sim_icmpne dX4_opens_6 rfl) <|
  fG mo_ald (sim_ald_n dX4_opens_9 rfl) <|
  fG mo_int (sim_iconst dX4_opens_10 (by decide)) <|
  fC (ic_cv (Or.inl rfl)) (sim_cv hG dX4_opens_11 (hG.2.1 4 _ hc_4).2.1 M_X4_wrong (by rw [nm_X4_wrong]; rfl) (by rw [nm_X4_wrong]; exact q557) (by rw [nm_X4_wrong]; exact q559) (by rw [nm_X4_wrong]; exact qs4)) <|
  fE ie_thr (sim_thr dX4_opens_14 rfl)
theorem fX4_opens_15 {X : tp_X} {az : Array Value} (hG : tp_Good X az) (hSt : tp_Stat X) : tp_Fit X yX4_opens cX4_opens none 1 tp_nm tp_by tp_ml tp_rtt 15 [o_ald (.aload_n 0) 0, o_dup, o_getf (.getfield 77) 4 6, o_int (.iconst 1) 1, o_iadd, o_putf (.putfield 77) 4 6 0, o_ald (.aload_n 0) 0, o_cv (.invokevirtual 74) 4 kX4_next 0 0, o_vret] :=
  fG mo_ald (sim_ald_n dX4_opens_15 rfl) <|
  fG mo_dup (sim_dup dX4_opens_16) <|
  fG mo_getf (sim_getfG hG dX4_opens_17 hc_4 (by decide) rfl in_X4 (fun _ _ _ h => h) (Or.inl q403)) <|
  fG mo_int (sim_iconst dX4_opens_20 (by decide)) <|
  fG mo_iadd (sim_iadd dX4_opens_21) <|
  fG mo_putf (sim_putf hG dX4_opens_22 hc_4 (by decide) rfl (by decide) in_X4 tyX4_ok nmX4 (Or.inl ⟨rfl, rfl⟩) (fun _ _ _ h => h) rfl q403) <|
  fG mo_ald (sim_ald_n dX4_opens_25 rfl) <|
  fC (ic_cv (Or.inl rfl)) (sim_cv hG dX4_opens_26 (hG.2.1 4 _ hc_4).2.1 M_X4_next (by rw [nm_X4_next]; rfl) (by rw [nm_X4_next]; exact q490) (by rw [nm_X4_next]; exact q492) (by rw [nm_X4_next]; exact qs2)) <|
  fE ie_vret (sim_vret dX4_opens_29 rfl)
theorem F_X4_opens {X : tp_X} {az : Array Value} (hG : tp_Good X az) (hSt : tp_Stat X) (pc : Nat) : tp_Fit X yX4_opens cX4_opens none 1 tp_nm tp_by tp_ml tp_rtt pc (mX4_opens pc) :=
  fI (fX4_opens_0 hG hSt) <| fI (fX4_opens_15 hG hSt) <| trivial
theorem fX4_sum_0 {X : tp_X} {az : Array Value} (hG : tp_Good X az) (hSt : tp_Stat X) : tp_Fit X yX4_sum cX4_sum (some (.object "ThroughPack$Sum")) 3 tp_nm tp_by tp_ml tp_rtt 0 [o_new (.new 171) 8 3 [xN, xN, xN], o_dup, o_ald (.aload_n 0) 0, o_cv (.invokevirtual 173) 4 kX4_product 0 1, o_cp (.invokespecial 176) kX8_init 1 0, o_ast (.astore_n 1) 1, o_fall 12] :=
  fG mo_new (sim_new hG dX4_sum_0 hc_8 rfl (by decide) (by decide) in_X8 tyX8_ok q664 q665 q145 df_X8) <|
  fG mo_dup (sim_dup dX4_sum_3) <|
  fG mo_ald (sim_ald_n dX4_sum_4 rfl) <|
  fC (ic_cv (Or.inr (Or.inl ⟨rfl, rfl⟩))) (sim_cv hG dX4_sum_5 (hG.2.1 4 _ hc_4).2.1 M_X4_product (by rw [nm_X4_product]; rfl) (by rw [nm_X4_product]; exact q666) (by rw [nm_X4_product]; exact q668) (by rw [nm_X4_product]; exact qs12)) <|
  fC (ic_cp (Or.inl rfl)) (sim_cp hG dX4_sum_8 M_X8_init (by rw [nm_X8_init]; rfl) rt_X8_init (by rw [nm_X8_init]; rfl) (by rw [nm_X8_init]; exact q712) (by rw [nm_X8_init]; exact q713)) <|
  fG mo_ast (sim_ast_n dX4_sum_11 rfl) <|
  fF
theorem fX4_sum_12 {X : tp_X} {az : Array Value} (hG : tp_Good X az) (hSt : tp_Stat X) : tp_Fit X yX4_sum cX4_sum (some (.object "ThroughPack$Sum")) 3 tp_nm tp_by tp_ml tp_rtt 12 [o_ald (.aload_n 0) 0, o_getf (.getfield 25) 4 4, o_int (.bipush 43) 43, o_icmpeq 12 30, o_ald (.aload_n 0) 0, o_getf (.getfield 25) 4 4, o_int (.bipush 45) 45, o_icmpne 24 51, o_fall 30] :=
  fG mo_ald (sim_ald_n dX4_sum_12 rfl) <|
  fG mo_getf (sim_getfG hG dX4_sum_13 hc_4 (by decide) rfl in_X4 (fun _ _ _ h => h) (Or.inl q401)) <|
  fG mo_int (sim_bipush dX4_sum_16 (by decide)) <|
  fG mo_icmpeq (sim_icmpeq dX4_sum_18 rfl) <|
  fG mo_ald (sim_ald_n dX4_sum_21 rfl) <|
  fG mo_getf (sim_getfG hG dX4_sum_22 hc_4 (by decide) rfl in_X4 (fun _ _ _ h => h) (Or.inl q401)) <|
  fG mo_int (sim_bipush dX4_sum_25 (by decide)) <|
  fG mo_icmpne (sim_icmpne dX4_sum_27 rfl) <|
  fF
theorem fX4_sum_30 {X : tp_X} {az : Array Value} (hG : tp_Good X az) (hSt : tp_Stat X) : tp_Fit X yX4_sum cX4_sum (some (.object "ThroughPack$Sum")) 3 tp_nm tp_by tp_ml tp_rtt 30 [o_ald (.aload_n 0) 0, o_getf (.getfield 25) 4 4, o_ist (.istore_n 2) 2, o_ald (.aload_n 0) 0, o_cv (.invokevirtual 74) 4 kX4_next 0 0, o_ald (.aload_n 1) 1, o_ild (.iload_n 2) 2, o_ald (.aload_n 0) 0, o_cv (.invokevirtual 173) 4 kX4_product 0 1, o_cv (.invokevirtual 179) 8 kX8_add 2 0, o_goto (-36) 12] :=
  fG mo_ald (sim_ald_n dX4_sum_30 rfl) <|
  fG mo_getf (sim_getfG hG dX4_sum_31 hc_4 (by decide) rfl in_X4 (fun _ _ _ h => h) (Or.inl q401)) <|
  fG mo_ist (sim_ist_n dX4_sum_34 rfl) <|
  fG mo_ald (sim_ald_n dX4_sum_35 rfl) <|
  fC (ic_cv (Or.inl rfl)) (sim_cv hG dX4_sum_36 (hG.2.1 4 _ hc_4).2.1 M_X4_next (by rw [nm_X4_next]; rfl) (by rw [nm_X4_next]; exact q490) (by rw [nm_X4_next]; exact q492) (by rw [nm_X4_next]; exact qs2)) <|
  fG mo_ald (sim_ald_n dX4_sum_39 rfl) <|
  fG mo_ild (sim_ild_n dX4_sum_40 rfl) <|
  fG mo_ald (sim_ald_n dX4_sum_41 rfl) <|
  fC (ic_cv (Or.inr (Or.inl ⟨rfl, rfl⟩))) (sim_cv hG dX4_sum_42 (hG.2.1 4 _ hc_4).2.1 M_X4_product (by rw [nm_X4_product]; rfl) (by rw [nm_X4_product]; exact q666) (by rw [nm_X4_product]; exact q668) (by rw [nm_X4_product]; exact qs12)) <|
  fC (ic_cv (Or.inl rfl)) (sim_cv hG dX4_sum_45 (hG.2.1 8 _ hc_8).2.1 M_X8_add (by rw [nm_X8_add]; rfl) (by rw [nm_X8_add]; exact q728) (by rw [nm_X8_add]; exact q729) (by rw [nm_X8_add]; exact q730)) <|
  fG mo_goto (sim_goto dX4_sum_48 rfl) <|
  trivial
theorem fX4_sum_51 {X : tp_X} {az : Array Value} (hG : tp_Good X az) (hSt : tp_Stat X) : tp_Fit X yX4_sum cX4_sum (some (.object "ThroughPack$Sum")) 3 tp_nm tp_by tp_ml tp_rtt 51 [o_ald (.aload_n 1) 1, o_cv (.invokevirtual 182) 8 kX8_itself 0 0, o_aret] :=
  fG mo_ald (sim_ald_n dX4_sum_51 rfl) <|
  fC (ic_cv (Or.inl rfl)) (sim_cv hG dX4_sum_52 (hG.2.1 8 _ hc_8).2.1 M_X8_itself (by rw [nm_X8_itself]; rfl) (by rw [nm_X8_itself]; exact q809) (by rw [nm_X8_itself]; exact q810) (by rw [nm_X8_itself]; exact q811)) <|
  fE ie_aret (sim_aret dX4_sum_55 rfl (Or.inl ⟨_, rfl⟩))
theorem F_X4_sum {X : tp_X} {az : Array Value} (hG : tp_Good X az) (hSt : tp_Stat X) (pc : Nat) : tp_Fit X yX4_sum cX4_sum (some (.object "ThroughPack$Sum")) 3 tp_nm tp_by tp_ml tp_rtt pc (mX4_sum pc) :=
  fI (fX4_sum_0 hG hSt) <| fI (fX4_sum_12 hG hSt) <| fI (fX4_sum_30 hG hSt) <| fI (fX4_sum_51 hG hSt) <| trivial
theorem fX4_product_0 {X : tp_X} {az : Array Value} (hG : tp_Good X az) (hSt : tp_Stat X) : tp_Fit X yX4_product cX4_product (some (.object "ThroughPack$Sum")) 3 tp_nm tp_by tp_ml tp_rtt 0 [o_new (.new 171) 8 3 [xN, xN, xN], o_dup, o_ald (.aload_n 0) 0, o_cv (.invokevirtual 185) 4 kX4_one 0 1, o_cp (.invokespecial 176) kX8_init 1 0, o_ast (.astore_n 1) 1, o_fall 12] :=
  fG mo_new (sim_new hG dX4_product_0 hc_8 rfl (by decide) (by decide) in_X8 tyX8_ok q664 q665 q145 df_X8) <|
  fG mo_dup (sim_dup dX4_product_3) <|
  fG mo_ald (sim_ald_n dX4_product_4 rfl) <|
  fC (ic_cv (Or.inr (Or.inl ⟨rfl, rfl⟩))) (sim_cv hG dX4_product_5 (hG.2.1 4 _ hc_4).2.1 M_X4_one (by rw [nm_X4_one]; rfl) (by rw [nm_X4_one]; exact q670) (by rw [nm_X4_one]; exact q672) (by rw [nm_X4_one]; exact qs13)) <|
  fC (ic_cp (Or.inl rfl)) (sim_cp hG dX4_product_8 M_X8_init (by rw [nm_X8_init]; rfl) rt_X8_init (by rw [nm_X8_init]; rfl) (by rw [nm_X8_init]; exact q712) (by rw [nm_X8_init]; exact q713)) <|
  fG mo_ast (sim_ast_n dX4_product_11 rfl) <|
  fF
theorem fX4_product_12 {X : tp_X} {az : Array Value} (hG : tp_Good X az) (hSt : tp_Stat X) : tp_Fit X yX4_product cX4_product (some (.object "ThroughPack$Sum")) 3 tp_nm tp_by tp_ml tp_rtt 12 [o_ald (.aload_n 0) 0, o_getf (.getfield 25) 4 4, o_int (.bipush 42) 42, o_icmpeq 12 30, o_ald (.aload_n 0) 0, o_getf (.getfield 25) 4 4, o_int (.bipush 47) 47, o_icmpne 24 51, o_fall 30] :=
  fG mo_ald (sim_ald_n dX4_product_12 rfl) <|
  fG mo_getf (sim_getfG hG dX4_product_13 hc_4 (by decide) rfl in_X4 (fun _ _ _ h => h) (Or.inl q401)) <|
  fG mo_int (sim_bipush dX4_product_16 (by decide)) <|
  fG mo_icmpeq (sim_icmpeq dX4_product_18 rfl) <|
  fG mo_ald (sim_ald_n dX4_product_21 rfl) <|
  fG mo_getf (sim_getfG hG dX4_product_22 hc_4 (by decide) rfl in_X4 (fun _ _ _ h => h) (Or.inl q401)) <|
  fG mo_int (sim_bipush dX4_product_25 (by decide)) <|
  fG mo_icmpne (sim_icmpne dX4_product_27 rfl) <|
  fF
theorem fX4_product_30 {X : tp_X} {az : Array Value} (hG : tp_Good X az) (hSt : tp_Stat X) : tp_Fit X yX4_product cX4_product (some (.object "ThroughPack$Sum")) 3 tp_nm tp_by tp_ml tp_rtt 30 [o_ald (.aload_n 0) 0, o_getf (.getfield 25) 4 4, o_ist (.istore_n 2) 2, o_ald (.aload_n 0) 0, o_cv (.invokevirtual 74) 4 kX4_next 0 0, o_ald (.aload_n 1) 1, o_ild (.iload_n 2) 2, o_ald (.aload_n 0) 0, o_cv (.invokevirtual 185) 4 kX4_one 0 1, o_cv (.invokevirtual 179) 8 kX8_add 2 0, o_goto (-36) 12] :=
  fG mo_ald (sim_ald_n dX4_product_30 rfl) <|
  fG mo_getf (sim_getfG hG dX4_product_31 hc_4 (by decide) rfl in_X4 (fun _ _ _ h => h) (Or.inl q401)) <|
  fG mo_ist (sim_ist_n dX4_product_34 rfl) <|
  fG mo_ald (sim_ald_n dX4_product_35 rfl) <|
  fC (ic_cv (Or.inl rfl)) (sim_cv hG dX4_product_36 (hG.2.1 4 _ hc_4).2.1 M_X4_next (by rw [nm_X4_next]; rfl) (by rw [nm_X4_next]; exact q490) (by rw [nm_X4_next]; exact q492) (by rw [nm_X4_next]; exact qs2)) <|
  fG mo_ald (sim_ald_n dX4_product_39 rfl) <|
  fG mo_ild (sim_ild_n dX4_product_40 rfl) <|
  fG mo_ald (sim_ald_n dX4_product_41 rfl) <|
  fC (ic_cv (Or.inr (Or.inl ⟨rfl, rfl⟩))) (sim_cv hG dX4_product_42 (hG.2.1 4 _ hc_4).2.1 M_X4_one (by rw [nm_X4_one]; rfl) (by rw [nm_X4_one]; exact q670) (by rw [nm_X4_one]; exact q672) (by rw [nm_X4_one]; exact qs13)) <|
  fC (ic_cv (Or.inl rfl)) (sim_cv hG dX4_product_45 (hG.2.1 8 _ hc_8).2.1 M_X8_add (by rw [nm_X8_add]; rfl) (by rw [nm_X8_add]; exact q728) (by rw [nm_X8_add]; exact q729) (by rw [nm_X8_add]; exact q730)) <|
  fG mo_goto (sim_goto dX4_product_48 rfl) <|
  trivial
theorem fX4_product_51 {X : tp_X} {az : Array Value} (hG : tp_Good X az) (hSt : tp_Stat X) : tp_Fit X yX4_product cX4_product (some (.object "ThroughPack$Sum")) 3 tp_nm tp_by tp_ml tp_rtt 51 [o_ald (.aload_n 1) 1, o_cv (.invokevirtual 182) 8 kX8_itself 0 0, o_aret] :=
  fG mo_ald (sim_ald_n dX4_product_51 rfl) <|
  fC (ic_cv (Or.inl rfl)) (sim_cv hG dX4_product_52 (hG.2.1 8 _ hc_8).2.1 M_X8_itself (by rw [nm_X8_itself]; rfl) (by rw [nm_X8_itself]; exact q809) (by rw [nm_X8_itself]; exact q810) (by rw [nm_X8_itself]; exact q811)) <|
  fE ie_aret (sim_aret dX4_product_55 rfl (Or.inl ⟨_, rfl⟩))
theorem F_X4_product {X : tp_X} {az : Array Value} (hG : tp_Good X az) (hSt : tp_Stat X) (pc : Nat) : tp_Fit X yX4_product cX4_product (some (.object "ThroughPack$Sum")) 3 tp_nm tp_by tp_ml tp_rtt pc (mX4_product pc) :=
  fI (fX4_product_0 hG hSt) <| fI (fX4_product_12 hG hSt) <| fI (fX4_product_30 hG hSt) <| fI (fX4_product_51 hG hSt) <| trivial
theorem fX4_one_0 {X : tp_X} {az : Array Value} (hG : tp_Good X az) (hSt : tp_Stat X) : tp_Fit X yX4_one cX4_one (some (.object "ThroughPack$Sum")) 2 tp_nm tp_by tp_ml tp_rtt 0 [o_ald (.aload_n 0) 0, o_getf (.getfield 25) 4 4, o_int (.sipush 300) 300, o_icmpne 19 26, o_new (.new 188) 9 1 [xI 0], o_dup, o_ald (.aload_n 0) 0, o_int (.iconst 0) 0, o_int (.sipush 999) 999, o_cv (.invokevirtual 128) 4 kX4_number 2 1, o_cp (.invokespecial 190) kX9_init 1 0, o_aret] :=
  fG mo_ald (sim_ald_n dX4_one_0 rfl) <|
  fG mo_getf (sim_getfG hG dX4_one_1 hc_4 (by decide) rfl in_X4 (fun _ _ _ h => h) (Or.inl q401)) <|
  fG mo_int (sim_sipush dX4_one_4 (by decide)) <|
  fG mo_icmpne (sim_icmpne dX4_one_7 rfl) <|
  fG mo_new (sim_new hG dX4_one_10 hc_9 rfl (by decide) (by decide) in_X9 tyX9_ok q674 q675 q146 df_X9) <|
  fG mo_dup (sim_dup dX4_one_13) <|
  fG mo_ald (sim_ald_n dX4_one_14 rfl) <|
  fG mo_int (sim_iconst dX4_one_15 (by decide)) <|
  fG mo_int (sim_sipush dX4_one_16 (by decide)) <|
  fC (ic_cv (Or.inr (Or.inl ⟨rfl, rfl⟩))) (sim_cv hG dX4_one_19 (hG.2.1 4 _ hc_4).2.1 M_X4_number (by rw [nm_X4_number]; rfl) (by rw [nm_X4_number]; exact q676) (by rw [nm_X4_number]; exact q678) (by rw [nm_X4_number]; exact qs14)) <|
  fC (ic_cp (Or.inl rfl)) (sim_cpN hG dX4_one_22 M_X9_init (by rw [nm_X9_init]; rfl) rt_X9_init (by rw [nm_X9_init]; rfl) (by rw [nm_X9_init]; exact q680) (by rw [nm_X9_init]; exact q681)) <|
  fE ie_aret (sim_aret dX4_one_25 rfl (Or.inl ⟨_, rfl⟩))
theorem fX4_one_26 {X : tp_X} {az : Array Value} (hG : tp_Good X az) (hSt : tp_Stat X) : tp_Fit X yX4_one cX4_one (some (.object "ThroughPack$Sum")) 2 tp_nm tp_by tp_ml tp_rtt 26 [o_ald (.aload_n 0) 0, o_getf (.getfield 25) 4 4, o_int (.sipush 210) 210, o_icmplt 61 94, o_ald (.aload_n 0) 0, o_getf (.getfield 25) 4 4, o_int (.sipush 220) 220, o_icmpgt 51 94, o_ald (.aload_n 0) 0, o_getf (.getfield 25) 4 4, o_int (.sipush 219) 219, o_icmplt 19 72, o_ald (.aload_n 0) 0, o_getf (.getfield 83) 4 7, o_int (.sipush 203) 203, o_icmpeq 9 72, o_ald (.aload_n 0) 0, o_int (.iconst 5) 5, o_cv (.invokevirtual 70) 4 kX4_wrong 1 0, o_thr] :=
  fG mo_ald (sim_ald_n dX4_one_26 rfl) <|
  fG mo_getf (sim_getfG hG dX4_one_27 hc_4 (by decide) rfl in_X4 (fun _ _ _ h => h) (Or.inl q401)) <|
  fG mo_int (sim_sipush dX4_one_30 (by decide)) <|
  fG mo_icmplt (sim_icmplt dX4_one_33 rfl) <|
  fG mo_ald (sim_ald_n dX4_one_36 rfl) <|
  fG mo_getf (sim_getfG hG dX4_one_37 hc_4 (by decide) rfl in_X4 (fun _ _ _ h => h) (Or.inl q401)) <|
  fG mo_int (sim_sipush dX4_one_40 (by decide)) <|
  fG mo_icmpgt (sim_icmpgt dX4_one_43 rfl) <|
  fG mo_ald (sim_ald_n dX4_one_46 rfl) <|
  fG mo_getf (sim_getfG hG dX4_one_47 hc_4 (by decide) rfl in_X4 (fun _ _ _ h => h) (Or.inl q401)) <|
  fG mo_int (sim_sipush dX4_one_50 (by decide)) <|
  fG mo_icmplt (sim_icmplt dX4_one_53 rfl) <|
  fG mo_ald (sim_ald_n dX4_one_56 rfl) <|
  fG mo_getf (sim_getfG hG dX4_one_57 hc_4 (by decide) rfl in_X4 (fun _ _ _ h => h) (Or.inl q404)) <|
  fG mo_int (sim_sipush dX4_one_60 (by decide)) <|
  fG mo_icmpeq (sim_icmpeq dX4_one_63 rfl) <|
  fG mo_ald (sim_ald_n dX4_one_66 rfl) <|
  fG mo_int (sim_iconst dX4_one_67 (by decide)) <|
  fC (ic_cv (Or.inl rfl)) (sim_cv hG dX4_one_68 (hG.2.1 4 _ hc_4).2.1 M_X4_wrong (by rw [nm_X4_wrong]; rfl) (by rw [nm_X4_wrong]; exact q557) (by rw [nm_X4_wrong]; exact q559) (by rw [nm_X4_wrong]; exact qs4)) <|
  fE ie_thr (sim_thr dX4_one_71 rfl)
theorem fX4_one_72 {X : tp_X} {az : Array Value} (hG : tp_Good X az) (hSt : tp_Stat X) : tp_Fit X yX4_one cX4_one (some (.object "ThroughPack$Sum")) 2 tp_nm tp_by tp_ml tp_rtt 72 [o_new (.new 192) 10 1 [xI 0], o_dup, o_ald (.aload_n 0) 0, o_getf (.getfield 25) 4 4, o_int (.sipush 210) 210, o_isub, o_cp (.invokespecial 194) kX10_init 1 0, o_ast (.astore_n 1) 1, o_ald (.aload_n 0) 0, o_cv (.invokevirtual 74) 4 kX4_next 0 0, o_ald (.aload_n 1) 1, o_aret] :=
  fG mo_new (sim_new hG dX4_one_72 hc_10 rfl (by decide) (by decide) in_X10 tyX10_ok q688 q689 q147 df_X10) <|
  fG mo_dup (sim_dup dX4_one_75) <|
  fG mo_ald (sim_ald_n dX4_one_76 rfl) <|
  fG mo_getf (sim_getfG hG dX4_one_77 hc_4 (by decide) rfl in_X4 (fun _ _ _ h => h) (Or.inl q401)) <|
  fG mo_int (sim_sipush dX4_one_80 (by decide)) <|
  fG mo_isub (sim_isub dX4_one_83) <|
  fC (ic_cp (Or.inl rfl)) (sim_cpN hG dX4_one_84 M_X10_init (by rw [nm_X10_init]; rfl) rt_X10_init (by rw [nm_X10_init]; rfl) (by rw [nm_X10_init]; exact q690) (by rw [nm_X10_init]; exact q691)) <|
  fG mo_ast (sim_ast_n dX4_one_87 rfl) <|
  fG mo_ald (sim_ald_n dX4_one_88 rfl) <|
  fC (ic_cv (Or.inl rfl)) (sim_cv hG dX4_one_89 (hG.2.1 4 _ hc_4).2.1 M_X4_next (by rw [nm_X4_next]; rfl) (by rw [nm_X4_next]; exact q490) (by rw [nm_X4_next]; exact q492) (by rw [nm_X4_next]; exact qs2)) <|
  fG mo_ald (sim_ald_n dX4_one_92 rfl) <|
  fE ie_aret (sim_aret dX4_one_93 rfl (Or.inl ⟨_, rfl⟩))
theorem fX4_one_94 {X : tp_X} {az : Array Value} (hG : tp_Good X az) (hSt : tp_Stat X) : tp_Fit X yX4_one cX4_one (some (.object "ThroughPack$Sum")) 2 tp_nm tp_by tp_ml tp_rtt 94 [o_ald (.aload_n 0) 0, o_getf (.getfield 25) 4 4, o_int (.bipush 40) 40, o_icmpne 21 121, o_ald (.aload_n 0) 0, o_cv (.invokevirtual 158) 4 kX4_opens 0 1, o_ald (.aload_n 0) 0, o_cv (.invokevirtual 124) 4 kX4_sum 0 1, o_ast (.astore_n 1) 1, o_ald (.aload_n 0) 0, o_int (.bipush 41) 41, o_cv (.invokevirtual 100) 4 kX4_want 1 1, o_goto 37 155] :=
  fG mo_ald (sim_ald_n dX4_one_94 rfl) <|
  fG mo_getf (sim_getfG hG dX4_one_95 hc_4 (by decide) rfl in_X4 (fun _ _ _ h => h) (Or.inl q401)) <|
  fG mo_int (sim_bipush dX4_one_98 (by decide)) <|
  fG mo_icmpne (sim_icmpne dX4_one_100 rfl) <|
  fG mo_ald (sim_ald_n dX4_one_103 rfl) <|
  fC (ic_cv (Or.inr (Or.inl ⟨rfl, rfl⟩))) (sim_cv hG dX4_one_104 (hG.2.1 4 _ hc_4).2.1 M_X4_opens (by rw [nm_X4_opens]; rfl) (by rw [nm_X4_opens]; exact q643) (by rw [nm_X4_opens]; exact q645) (by rw [nm_X4_opens]; exact qs10)) <|
  fG mo_ald (sim_ald_n dX4_one_107 rfl) <|
  fC (ic_cv (Or.inr (Or.inl ⟨rfl, rfl⟩))) (sim_cv hG dX4_one_108 (hG.2.1 4 _ hc_4).2.1 M_X4_sum (by rw [nm_X4_sum]; rfl) (by rw [nm_X4_sum]; exact q660) (by rw [nm_X4_sum]; exact q662) (by rw [nm_X4_sum]; exact qs11)) <|
  fG mo_ast (sim_ast_n dX4_one_111 rfl) <|
  fG mo_ald (sim_ald_n dX4_one_112 rfl) <|
  fG mo_int (sim_bipush dX4_one_113 (by decide)) <|
  fC (ic_cv (Or.inr (Or.inl ⟨rfl, rfl⟩))) (sim_cv hG dX4_one_115 (hG.2.1 4 _ hc_4).2.1 M_X4_want (by rw [nm_X4_want]; rfl) (by rw [nm_X4_want]; exact q698) (by rw [nm_X4_want]; exact q700) (by rw [nm_X4_want]; exact qs15)) <|
  fG mo_goto (sim_goto dX4_one_118 rfl) <|
  trivial
theorem fX4_one_121 {X : tp_X} {az : Array Value} (hG : tp_Good X az) (hSt : tp_Stat X) : tp_Fit X yX4_one cX4_one (some (.object "ThroughPack$Sum")) 2 tp_nm tp_by tp_ml tp_rtt 121 [o_ald (.aload_n 0) 0, o_getf (.getfield 25) 4 4, o_int (.bipush 45) 45, o_icmpne 22 149, o_ald (.aload_n 0) 0, o_cv (.invokevirtual 158) 4 kX4_opens 0 1, o_new (.new 195) 11 1 [xN], o_dup, o_ald (.aload_n 0) 0, o_cv (.invokevirtual 185) 4 kX4_one 0 1, o_cp (.invokespecial 197) kX11_init 1 0, o_ast (.astore_n 1) 1, o_goto 9 155] :=
  fG mo_ald (sim_ald_n dX4_one_121 rfl) <|
  fG mo_getf (sim_getfG hG dX4_one_122 hc_4 (by decide) rfl in_X4 (fun _ _ _ h => h) (Or.inl q401)) <|
  fG mo_int (sim_bipush dX4_one_125 (by decide)) <|
  fG mo_icmpne (sim_icmpne dX4_one_127 rfl) <|
  fG mo_ald (sim_ald_n dX4_one_130 rfl) <|
  fC (ic_cv (Or.inr (Or.inl ⟨rfl, rfl⟩))) (sim_cv hG dX4_one_131 (hG.2.1 4 _ hc_4).2.1 M_X4_opens (by rw [nm_X4_opens]; rfl) (by rw [nm_X4_opens]; exact q643) (by rw [nm_X4_opens]; exact q645) (by rw [nm_X4_opens]; exact qs10)) <|
  fG mo_new (sim_new hG dX4_one_134 hc_11 rfl (by decide) (by decide) in_X11 tyX11_ok q702 q703 q148 df_X11) <|
  fG mo_dup (sim_dup dX4_one_137) <|
  fG mo_ald (sim_ald_n dX4_one_138 rfl) <|
  fC (ic_cv (Or.inr (Or.inl ⟨rfl, rfl⟩))) (sim_cv hG dX4_one_139 (hG.2.1 4 _ hc_4).2.1 M_X4_one (by rw [nm_X4_one]; rfl) (by rw [nm_X4_one]; exact q670) (by rw [nm_X4_one]; exact q672) (by rw [nm_X4_one]; exact qs13)) <|
  fC (ic_cp (Or.inl rfl)) (sim_cpN hG dX4_one_142 M_X11_init (by rw [nm_X11_init]; rfl) rt_X11_init (by rw [nm_X11_init]; rfl) (by rw [nm_X11_init]; exact q704) (by rw [nm_X11_init]; exact q705)) <|
  fG mo_ast (sim_ast_n dX4_one_145 rfl) <|
  fG mo_goto (sim_goto dX4_one_146 rfl) <|
  trivial
theorem fX4_one_149 {X : tp_X} {az : Array Value} (hG : tp_Good X az) (hSt : tp_Stat X) : tp_Fit X yX4_one cX4_one (some (.object "ThroughPack$Sum")) 2 tp_nm tp_by tp_ml tp_rtt 149 [o_ald (.aload_n 0) 0, o_int (.iconst 1) 1, o_cv (.invokevirtual 70) 4 kX4_wrong 1 0, o_thr] :=
  fG mo_ald (sim_ald_n dX4_one_149 rfl) <|
  fG mo_int (sim_iconst dX4_one_150 (by decide)) <|
  fC (ic_cv (Or.inl rfl)) (sim_cv hG dX4_one_151 (hG.2.1 4 _ hc_4).2.1 M_X4_wrong (by rw [nm_X4_wrong]; rfl) (by rw [nm_X4_wrong]; exact q557) (by rw [nm_X4_wrong]; exact q559) (by rw [nm_X4_wrong]; exact qs4)) <|
  fE ie_thr (sim_thr dX4_one_154 rfl)
theorem fX4_one_155 {X : tp_X} {az : Array Value} (hG : tp_Good X az) (hSt : tp_Stat X) : tp_Fit X yX4_one cX4_one (some (.object "ThroughPack$Sum")) 2 tp_nm tp_by tp_ml tp_rtt 155 [o_ald (.aload_n 0) 0, o_dup, o_getf (.getfield 77) 4 6, o_int (.iconst 1) 1, o_isub, o_putf (.putfield 77) 4 6 0, o_ald (.aload_n 1) 1, o_aret] :=
  fG mo_ald (sim_ald_n dX4_one_155 rfl) <|
  fG mo_dup (sim_dup dX4_one_156) <|
  fG mo_getf (sim_getfG hG dX4_one_157 hc_4 (by decide) rfl in_X4 (fun _ _ _ h => h) (Or.inl q403)) <|
  fG mo_int (sim_iconst dX4_one_160 (by decide)) <|
  fG mo_isub (sim_isub dX4_one_161) <|
  fG mo_putf (sim_putf hG dX4_one_162 hc_4 (by decide) rfl (by decide) in_X4 tyX4_ok nmX4 (Or.inl ⟨rfl, rfl⟩) (fun _ _ _ h => h) rfl q403) <|
  fG mo_ald (sim_ald_n dX4_one_165 rfl) <|
  fE ie_aret (sim_aret dX4_one_166 rfl (Or.inl ⟨_, rfl⟩))
theorem F_X4_one {X : tp_X} {az : Array Value} (hG : tp_Good X az) (hSt : tp_Stat X) (pc : Nat) : tp_Fit X yX4_one cX4_one (some (.object "ThroughPack$Sum")) 2 tp_nm tp_by tp_ml tp_rtt pc (mX4_one pc) :=
  fI (fX4_one_0 hG hSt) <| fI (fX4_one_26 hG hSt) <| fI (fX4_one_72 hG hSt) <| fI (fX4_one_94 hG hSt) <| fI (fX4_one_121 hG hSt) <| fI (fX4_one_149 hG hSt) <| fI (fX4_one_155 hG hSt) <| trivial
theorem fX4_number_0 {X : tp_X} {az : Array Value} (hG : tp_Good X az) (hSt : tp_Stat X) : tp_Fit X yX4_number cX4_number (some .int) 4 tp_nm tp_by tp_ml tp_rtt 0 [o_ald (.aload_n 0) 0, o_getf (.getfield 25) 4 4, o_int (.sipush 300) 300, o_icmpeq 9 16, o_ald (.aload_n 0) 0, o_int (.iconst 1) 1, o_cv (.invokevirtual 70) 4 kX4_wrong 1 0, o_thr] :=
  fG mo_ald (sim_ald_n dX4_number_0 rfl) <|
  fG mo_getf (sim_getfG hG dX4_number_1 hc_4 (by decide) rfl in_X4 (fun _ _ _ h => h) (Or.inl q401)) <|
  fG mo_int (sim_sipush dX4_number_4 (by decide)) <|
  fG mo_icmpeq (sim_icmpeq dX4_number_7 rfl) <|
  fG mo_ald (sim_ald_n dX4_number_10 rfl) <|
  fG mo_int (sim_iconst dX4_number_11 (by decide)) <|
  fC (ic_cv (Or.inl rfl)) (sim_cv hG dX4_number_12 (hG.2.1 4 _ hc_4).2.1 M_X4_wrong (by rw [nm_X4_wrong]; rfl) (by rw [nm_X4_wrong]; exact q557) (by rw [nm_X4_wrong]; exact q559) (by rw [nm_X4_wrong]; exact qs4)) <|
  fE ie_thr (sim_thr dX4_number_15 rfl)
theorem fX4_number_16 {X : tp_X} {az : Array Value} (hG : tp_Good X az) (hSt : tp_Stat X) : tp_Fit X yX4_number cX4_number (some .int) 4 tp_nm tp_by tp_ml tp_rtt 16 [o_ald (.aload_n 0) 0, o_getf (.getfield 43) 4 5, o_ild (.iload_n 1) 1, o_icmplt 11 32, o_ald (.aload_n 0) 0, o_getf (.getfield 43) 4 5, o_ild (.iload_n 2) 2, o_icmple 9 38, o_fall 32] :=
  fG mo_ald (sim_ald_n dX4_number_16 rfl) <|
  fG mo_getf (sim_getfG hG dX4_number_17 hc_4 (by decide) rfl in_X4 (fun _ _ _ h => h) (Or.inl q402)) <|
  fG mo_ild (sim_ild_n dX4_number_20 rfl) <|
  fG mo_icmplt (sim_icmplt dX4_number_21 rfl) <|
  fG mo_ald (sim_ald_n dX4_number_24 rfl) <|
  fG mo_getf (sim_getfG hG dX4_number_25 hc_4 (by decide) rfl in_X4 (fun _ _ _ h => h) (Or.inl q402)) <|
  fG mo_ild (sim_ild_n dX4_number_28 rfl) <|
  fG mo_icmple (sim_icmple dX4_number_29 rfl) <|
  fF
theorem fX4_number_32 {X : tp_X} {az : Array Value} (hG : tp_Good X az) (hSt : tp_Stat X) : tp_Fit X yX4_number cX4_number (some .int) 4 tp_nm tp_by tp_ml tp_rtt 32 [o_ald (.aload_n 0) 0, o_int (.iconst 2) 2, o_cv (.invokevirtual 70) 4 kX4_wrong 1 0, o_thr] :=
  fG mo_ald (sim_ald_n dX4_number_32 rfl) <|
  fG mo_int (sim_iconst dX4_number_33 (by decide)) <|
  fC (ic_cv (Or.inl rfl)) (sim_cv hG dX4_number_34 (hG.2.1 4 _ hc_4).2.1 M_X4_wrong (by rw [nm_X4_wrong]; rfl) (by rw [nm_X4_wrong]; exact q557) (by rw [nm_X4_wrong]; exact q559) (by rw [nm_X4_wrong]; exact qs4)) <|
  fE ie_thr (sim_thr dX4_number_37 rfl)
theorem fX4_number_38 {X : tp_X} {az : Array Value} (hG : tp_Good X az) (hSt : tp_Stat X) : tp_Fit X yX4_number cX4_number (some .int) 4 tp_nm tp_by tp_ml tp_rtt 38 [o_ald (.aload_n 0) 0, o_getf (.getfield 43) 4 5, o_ist (.istore_n 3) 3, o_ald (.aload_n 0) 0, o_cv (.invokevirtual 74) 4 kX4_next 0 0, o_ild (.iload_n 3) 3, o_iret 0] :=
  fG mo_ald (sim_ald_n dX4_number_38 rfl) <|
  fG mo_getf (sim_getfG hG dX4_number_39 hc_4 (by decide) rfl in_X4 (fun _ _ _ h => h) (Or.inl q402)) <|
  fG mo_ist (sim_ist_n dX4_number_42 rfl) <|
  fG mo_ald (sim_ald_n dX4_number_43 rfl) <|
  fC (ic_cv (Or.inl rfl)) (sim_cv hG dX4_number_44 (hG.2.1 4 _ hc_4).2.1 M_X4_next (by rw [nm_X4_next]; rfl) (by rw [nm_X4_next]; exact q490) (by rw [nm_X4_next]; exact q492) (by rw [nm_X4_next]; exact qs2)) <|
  fG mo_ild (sim_ild_n dX4_number_47 rfl) <|
  fE ie_iret (sim_iret dX4_number_48 rfl (Or.inl ⟨rfl, rfl⟩))
theorem F_X4_number {X : tp_X} {az : Array Value} (hG : tp_Good X az) (hSt : tp_Stat X) (pc : Nat) : tp_Fit X yX4_number cX4_number (some .int) 4 tp_nm tp_by tp_ml tp_rtt pc (mX4_number pc) :=
  fI (fX4_number_0 hG hSt) <| fI (fX4_number_16 hG hSt) <| fI (fX4_number_32 hG hSt) <| fI (fX4_number_38 hG hSt) <| trivial
theorem fX4_want_0 {X : tp_X} {az : Array Value} (hG : tp_Good X az) (hSt : tp_Stat X) : tp_Fit X yX4_want cX4_want none 2 tp_nm tp_by tp_ml tp_rtt 0 [o_ald (.aload_n 0) 0, o_getf (.getfield 25) 4 4, o_ild (.iload_n 1) 1, o_icmpeq 9 14, o_ald (.aload_n 0) 0, o_int (.iconst 1) 1, o_cv (.invokevirtual 70) 4 kX4_wrong 1 0, o_thr] :=
  fG mo_ald (sim_ald_n dX4_want_0 rfl) <|
  fG mo_getf (sim_getfG hG dX4_want_1 hc_4 (by decide) rfl in_X4 (fun _ _ _ h => h) (Or.inl q401)) <|
  fG mo_ild (sim_ild_n dX4_want_4 rfl) <|
  fG mo_icmpeq (sim_icmpeq dX4_want_5 rfl) <|
  fG mo_ald (sim_ald_n dX4_want_8 rfl) <|
  fG mo_int (sim_iconst dX4_want_9 (by decide)) <|
  fC (ic_cv (Or.inl rfl)) (sim_cv hG dX4_want_10 (hG.2.1 4 _ hc_4).2.1 M_X4_wrong (by rw [nm_X4_wrong]; rfl) (by rw [nm_X4_wrong]; exact q557) (by rw [nm_X4_wrong]; exact q559) (by rw [nm_X4_wrong]; exact qs4)) <|
  fE ie_thr (sim_thr dX4_want_13 rfl)
theorem fX4_want_14 {X : tp_X} {az : Array Value} (hG : tp_Good X az) (hSt : tp_Stat X) : tp_Fit X yX4_want cX4_want none 2 tp_nm tp_by tp_ml tp_rtt 14 [o_ald (.aload_n 0) 0, o_cv (.invokevirtual 74) 4 kX4_next 0 0, o_vret] :=
  fG mo_ald (sim_ald_n dX4_want_14 rfl) <|
  fC (ic_cv (Or.inl rfl)) (sim_cv hG dX4_want_15 (hG.2.1 4 _ hc_4).2.1 M_X4_next (by rw [nm_X4_next]; rfl) (by rw [nm_X4_next]; exact q490) (by rw [nm_X4_next]; exact q492) (by rw [nm_X4_next]; exact qs2)) <|
  fE ie_vret (sim_vret dX4_want_18 rfl)
theorem F_X4_want {X : tp_X} {az : Array Value} (hG : tp_Good X az) (hSt : tp_Stat X) (pc : Nat) : tp_Fit X yX4_want cX4_want none 2 tp_nm tp_by tp_ml tp_rtt pc (mX4_want pc) :=
  fI (fX4_want_0 hG hSt) <| fI (fX4_want_14 hG hSt) <| trivial
theorem fX5_init_0 {X : tp_X} {az : Array Value} (hG : tp_Good X az) (hSt : tp_Stat X) : tp_Fit X yX5_init cX5_init none 1 tp_nm tp_by tp_ml tp_rtt 0 [o_ald (.aload_n 0) 0, o_objinit (.invokespecial 1), o_ald (.aload_n 0) 0, o_new (.new 7) 15 3 [xI 0, xN, xI 0], o_dup, o_cp (.invokespecial 9) kJ4_init 0 0, o_putf (.putfield 10) 5 0 4, o_ald (.aload_n 0) 0, o_new (.new 7) 15 3 [xI 0, xN, xI 0], o_dup, o_cp (.invokespecial 9) kJ4_init 0 0, o_putf (.putfield 16) 5 1 4, o_ald (.aload_n 0) 0, o_new (.new 7) 15 3 [xI 0, xN, xI 0], o_dup, o_cp (.invokespecial 9) kJ4_init 0 0, o_putf (.putfield 19) 5 2 4, o_ald (.aload_n 0) 0, o_new (.new 7) 15 3 [xI 0, xN, xI 0], o_dup, o_cp (.invokespecial 9) kJ4_init 0 0, o_putf (.putfield 22) 5 3 4, o_vret] :=
  fG mo_ald (sim_ald_n dX5_init_0 rfl) <|
  fG mo_objinit (sim_objinit hG dX5_init_1 q431 q163 q164) <|
  fG mo_ald (sim_ald_n dX5_init_4 rfl) <|
  fG mo_new (sim_new hG dX5_init_5 hc_15 rfl (by decide) (by decide) in_J4 tyJ4_ok q432 q433 q135 df_J4) <|
  fG mo_dup (sim_dup dX5_init_8) <|
  fC (ic_cp (Or.inl rfl)) (sim_cp hG dX5_init_9 M_J4_init (by rw [nm_J4_init]; rfl) rt_J4_init (by rw [nm_J4_init]; rfl) (by rw [nm_J4_init]; exact q434) (by rw [nm_J4_init]; exact q435)) <|
  fG mo_putf (sim_putfF hG dX5_init_12 hc_5 (by decide) rfl (by decide) in_X5 tyX5_ok nmX5 (Or.inr (Or.inr (Or.inr (Or.inr ⟨Or.inl ⟨_, rfl⟩, by decide⟩)))) (fun _ _ _ h => h) rfl rfl rfl q458) <|
  fG mo_ald (sim_ald_n dX5_init_15 rfl) <|
  fG mo_new (sim_new hG dX5_init_16 hc_15 rfl (by decide) (by decide) in_J4 tyJ4_ok q432 q433 q135 df_J4) <|
  fG mo_dup (sim_dup dX5_init_19) <|
  fC (ic_cp (Or.inl rfl)) (sim_cp hG dX5_init_20 M_J4_init (by rw [nm_J4_init]; rfl) rt_J4_init (by rw [nm_J4_init]; rfl) (by rw [nm_J4_init]; exact q434) (by rw [nm_J4_init]; exact q435)) <|
  fG mo_putf (sim_putfF hG dX5_init_23 hc_5 (by decide) rfl (by decide) in_X5 tyX5_ok nmX5 (Or.inr (Or.inr (Or.inr (Or.inr ⟨Or.inl ⟨_, rfl⟩, by decide⟩)))) (fun _ _ _ h => h) rfl rfl rfl q461) <|
  fG mo_ald (sim_ald_n dX5_init_26 rfl) <|
  fG mo_new (sim_new hG dX5_init_27 hc_15 rfl (by decide) (by decide) in_J4 tyJ4_ok q432 q433 q135 df_J4) <|
  fG mo_dup (sim_dup dX5_init_30) <|
  fC (ic_cp (Or.inl rfl)) (sim_cp hG dX5_init_31 M_J4_init (by rw [nm_J4_init]; rfl) rt_J4_init (by rw [nm_J4_init]; rfl) (by rw [nm_J4_init]; exact q434) (by rw [nm_J4_init]; exact q435)) <|
  fG mo_putf (sim_putfF hG dX5_init_34 hc_5 (by decide) rfl (by decide) in_X5 tyX5_ok nmX5 (Or.inr (Or.inr (Or.inr (Or.inr ⟨Or.inl ⟨_, rfl⟩, by decide⟩)))) (fun _ _ _ h => h) rfl rfl rfl q464) <|
  fG mo_ald (sim_ald_n dX5_init_37 rfl) <|
  fG mo_new (sim_new hG dX5_init_38 hc_15 rfl (by decide) (by decide) in_J4 tyJ4_ok q432 q433 q135 df_J4) <|
  fG mo_dup (sim_dup dX5_init_41) <|
  fC (ic_cp (Or.inl rfl)) (sim_cp hG dX5_init_42 M_J4_init (by rw [nm_J4_init]; rfl) rt_J4_init (by rw [nm_J4_init]; rfl) (by rw [nm_J4_init]; exact q434) (by rw [nm_J4_init]; exact q435)) <|
  fG mo_putf (sim_putfF hG dX5_init_45 hc_5 (by decide) rfl (by decide) in_X5 tyX5_ok nmX5 (Or.inr (Or.inr (Or.inr (Or.inr ⟨Or.inl ⟨_, rfl⟩, by decide⟩)))) (fun _ _ _ h => h) rfl rfl rfl q467) <|
  fE ie_vret (sim_vret dX5_init_48 rfl)
theorem F_X5_init {X : tp_X} {az : Array Value} (hG : tp_Good X az) (hSt : tp_Stat X) (pc : Nat) : tp_Fit X yX5_init cX5_init none 1 tp_nm tp_by tp_ml tp_rtt pc (mX5_init pc) :=
  fI (fX5_init_0 hG hSt) <| trivial
theorem fX5_some_0 {X : tp_X} {az : Array Value} (hG : tp_Good X az) (hSt : tp_Stat X) : tp_Fit X yX5_some cX5_some (some .boolean) 3 tp_nm tp_by tp_ml tp_rtt 0 [o_int (.iconst 0) 0, o_ist (.istore_n 2) 2, o_fall 2] :=
  fG mo_int (sim_iconst dX5_some_0 (by decide)) <|
  fG mo_ist (sim_ist_n dX5_some_1 rfl) <|
  fF
theorem fX5_some_2 {X : tp_X} {az : Array Value} (hG : tp_Good X az) (hSt : tp_Stat X) : tp_Fit X yX5_some cX5_some (some .boolean) 3 tp_nm tp_by tp_ml tp_rtt 2 [o_ild (.iload_n 2) 2, o_ald (.aload_n 0) 0, o_cv (.invokevirtual 25) 15 kJ4_size 0 0, o_icmpge 28 35, o_ald (.aload_n 0) 0, o_ild (.iload_n 2) 2, o_cv (.invokevirtual 29) 15 kJ4_get 1 0, o_cast (.checkcast 33) [7, 12, 13], o_ald (.aload_n 1) 1, o_ci (.invokeinterface 35 2) [(7, kX7_is), (12, kX12_is), (13, kX13_is)] 1 0, o_ifeq 5 29, o_int (.iconst 1) 1, o_iret 1] :=
  fG mo_ild (sim_ild_n dX5_some_2 rfl) <|
  fG mo_ald (sim_ald_n dX5_some_3 rfl) <|
  fC (ic_cv (Or.inl rfl)) (sim_cv hG dX5_some_4 (hG.2.1 15 _ hc_15).2.1 M_J4_size (by rw [nm_J4_size]; rfl) (by rw [nm_J4_size]; exact q926) (by rw [nm_J4_size]; exact q835) (by rw [nm_J4_size]; exact q836)) <|
  fG mo_icmpge (sim_icmpge dX5_some_7 rfl) <|
  fG mo_ald (sim_ald_n dX5_some_10 rfl) <|
  fG mo_ild (sim_ild_n dX5_some_11 rfl) <|
  fC (ic_cv (Or.inl rfl)) (sim_cv hG dX5_some_12 (hG.2.1 15 _ hc_15).2.1 M_J4_get (by rw [nm_J4_get]; rfl) (by rw [nm_J4_get]; exact q927) (by rw [nm_J4_get]; exact q839) (by rw [nm_J4_get]; exact q840)) <|
  fG mo_cast (sim_cast hG dX5_some_15 q928 (fun c hc => by
    simp only [List.mem_cons, List.not_mem_nil, or_false] at hc
    rcases hc with rfl | rfl | rfl
    · exact ⟨_, rfl, Or.inr q998⟩
    · exact ⟨_, rfl, Or.inr q944⟩
    · exact ⟨_, rfl, Or.inr q933⟩
    )) <|
  fG mo_ald (sim_ald_n dX5_some_18 rfl) <|
  fC (ic_ci (Or.inl rfl)) (sim_ci hG dX5_some_19 q930 q932 q931 (by decide +kernel) (fun q hq => by
    simp only [List.mem_cons, List.not_mem_nil, or_false] at hq
    rcases hq with rfl | rfl | rfl
    · exact ⟨_, _, _, hc_7, M_X7_is, by rw [nm_X7_is]; rfl, by rw [nm_X7_is]; exact q999, by rw [nm_X7_is]; exact q1001, by rw [nm_X7_is]; exact q1002, q1000, q998, by rw [nm_X7_is]; rfl⟩
    · exact ⟨_, _, _, hc_12, M_X12_is, by rw [nm_X12_is]; rfl, by rw [nm_X12_is]; exact q945, by rw [nm_X12_is]; exact q947, by rw [nm_X12_is]; exact q948, q946, q944, by rw [nm_X12_is]; rfl⟩
    · exact ⟨_, _, _, hc_13, M_X13_is, by rw [nm_X13_is]; rfl, by rw [nm_X13_is]; exact q934, by rw [nm_X13_is]; exact q936, by rw [nm_X13_is]; exact q937, q935, q933, by rw [nm_X13_is]; rfl⟩
    )) <|
  fG mo_ifeq (sim_ifeq dX5_some_24 rfl) <|
  fG mo_int (sim_iconst dX5_some_27 (by decide)) <|
  fE ie_iret (sim_iret dX5_some_28 rfl (Or.inr (Or.inl ⟨rfl, rfl⟩)))
theorem fX5_some_29 {X : tp_X} {az : Array Value} (hG : tp_Good X az) (hSt : tp_Stat X) : tp_Fit X yX5_some cX5_some (some .boolean) 3 tp_nm tp_by tp_ml tp_rtt 29 [o_inc 2 1, o_goto (-30) 2] :=
  fG mo_inc (sim_inc dX5_some_29 (by decide)) <|
  fG mo_goto (sim_goto dX5_some_32 rfl) <|
  trivial
theorem fX5_some_35 {X : tp_X} {az : Array Value} (hG : tp_Good X az) (hSt : tp_Stat X) : tp_Fit X yX5_some cX5_some (some .boolean) 3 tp_nm tp_by tp_ml tp_rtt 35 [o_int (.iconst 0) 0, o_iret 1] :=
  fG mo_int (sim_iconst dX5_some_35 (by decide)) <|
  fE ie_iret (sim_iret dX5_some_36 rfl (Or.inr (Or.inl ⟨rfl, rfl⟩)))
theorem F_X5_some {X : tp_X} {az : Array Value} (hG : tp_Good X az) (hSt : tp_Stat X) (pc : Nat) : tp_Fit X yX5_some cX5_some (some .boolean) 3 tp_nm tp_by tp_ml tp_rtt pc (mX5_some pc) :=
  fI (fX5_some_0 hG hSt) <| fI (fX5_some_2 hG hSt) <| fI (fX5_some_29 hG hSt) <| fI (fX5_some_35 hG hSt) <| trivial
theorem fX6_init_0 {X : tp_X} {az : Array Value} (hG : tp_Good X az) (hSt : tp_Stat X) : tp_Fit X yX6_init cX6_init none 3 tp_nm tp_by tp_ml tp_rtt 0 [o_ald (.aload_n 0) 0, o_excinit (.invokespecial 1), o_ald (.aload_n 0) 0, o_ild (.iload_n 1) 1, o_putf (.putfield 7) 6 6 0, o_ald (.aload_n 0) 0, o_ild (.iload_n 2) 2, o_putf (.putfield 13) 6 7 0, o_vret] :=
  fG mo_ald (sim_ald_n dX6_init_0 rfl) <|
  fG mo_excinit (sim_excinit hG hSt.2.2.2.2.2.2.2.2.2.1 hSt.2.2.2.2.2.2.2.2.2.2 dX6_init_1 rfl) <|
  fG mo_ald (sim_ald_n dX6_init_4 rfl) <|
  fG mo_ild (sim_ild_n dX6_init_5 rfl) <|
  fG mo_putf (sim_putfF hG dX6_init_6 hc_6 (by decide) rfl (by decide) in_X6 tyX6_ok nmX6 (Or.inl ⟨rfl, rfl⟩) (fun _ _ _ h => h) rfl rfl rfl q605) <|
  fG mo_ald (sim_ald_n dX6_init_9 rfl) <|
  fG mo_ild (sim_ild_n dX6_init_10 rfl) <|
  fG mo_putf (sim_putfF hG dX6_init_11 hc_6 (by decide) rfl (by decide) in_X6 tyX6_ok nmX6 (Or.inl ⟨rfl, rfl⟩) (fun _ _ _ h => h) rfl rfl rfl q607) <|
  fE ie_vret (sim_vret dX6_init_14 rfl)
theorem F_X6_init {X : tp_X} {az : Array Value} (hG : tp_Good X az) (hSt : tp_Stat X) (pc : Nat) : tp_Fit X yX6_init cX6_init none 3 tp_nm tp_by tp_ml tp_rtt pc (mX6_init pc) :=
  fI (fX6_init_0 hG hSt) <| trivial
theorem fX7_init_0 {X : tp_X} {az : Array Value} (hG : tp_Good X az) (hSt : tp_Stat X) : tp_Fit X yX7_init cX7_init none 2 tp_nm tp_by tp_ml tp_rtt 0 [o_ald (.aload_n 0) 0, o_cp (.invokespecial 1) kJ11_init 0 0, o_ald (.aload_n 0) 0, o_ald (.aload_n 1) 1, o_putf (.putfield 7) 7 0 4, o_vret] :=
  fG mo_ald (sim_ald_n dX7_init_0 rfl) <|
  fC (ic_cp (Or.inl rfl)) (sim_cp hG dX7_init_1 M_J11_init (by rw [nm_J11_init]; rfl) rt_J11_init (by rw [nm_J11_init]; rfl) (by rw [nm_J11_init]; exact q652) (by rw [nm_J11_init]; exact q653)) <|
  fG mo_ald (sim_ald_n dX7_init_4 rfl) <|
  fG mo_ald (sim_ald_n dX7_init_5 rfl) <|
  fG mo_putf (sim_putfF hG dX7_init_6 hc_7 (by decide) rfl (by decide) in_X7 tyX7_ok nmX7 (Or.inr (Or.inr (Or.inr (Or.inr ⟨Or.inl ⟨_, rfl⟩, by decide⟩)))) (fun _ _ _ h => h) rfl rfl rfl q656) <|
  fE ie_vret (sim_vret dX7_init_9 rfl)
theorem F_X7_init {X : tp_X} {az : Array Value} (hG : tp_Good X az) (hSt : tp_Stat X) (pc : Nat) : tp_Fit X yX7_init cX7_init none 2 tp_nm tp_by tp_ml tp_rtt pc (mX7_init pc) :=
  fI (fX7_init_0 hG hSt) <| trivial
theorem fX7_is_0 {X : tp_X} {az : Array Value} (hG : tp_Good X az) (hSt : tp_Stat X) : tp_Fit X yX7_is cX7_is (some .boolean) 2 tp_nm tp_by tp_ml tp_rtt 0 [o_ald (.aload_n 0) 0, o_getf (.getfield 7) 7 0, o_ald (.aload_n 1) 1, o_ci (.invokeinterface 13 2) [(7, kX7_is), (12, kX12_is), (13, kX13_is)] 1 0, o_ifne 7 17, o_int (.iconst 1) 1, o_goto 4 18] :=
  fG mo_ald (sim_ald_n dX7_is_0 rfl) <|
  fG mo_getf (sim_getfG hG dX7_is_1 hc_7 (by decide) rfl in_X7 (fun _ _ _ h => h) (Or.inl q656)) <|
  fG mo_ald (sim_ald_n dX7_is_4 rfl) <|
  fC (ic_ci (Or.inl rfl)) (sim_ci hG dX7_is_5 q1005 q932 q931 (by decide +kernel) (fun q hq => by
    simp only [List.mem_cons, List.not_mem_nil, or_false] at hq
    rcases hq with rfl | rfl | rfl
    · exact ⟨_, _, _, hc_7, M_X7_is, by rw [nm_X7_is]; rfl, by rw [nm_X7_is]; exact q999, by rw [nm_X7_is]; exact q1001, by rw [nm_X7_is]; exact q1002, q1000, q998, by rw [nm_X7_is]; rfl⟩
    · exact ⟨_, _, _, hc_12, M_X12_is, by rw [nm_X12_is]; rfl, by rw [nm_X12_is]; exact q945, by rw [nm_X12_is]; exact q947, by rw [nm_X12_is]; exact q948, q946, q944, by rw [nm_X12_is]; rfl⟩
    · exact ⟨_, _, _, hc_13, M_X13_is, by rw [nm_X13_is]; rfl, by rw [nm_X13_is]; exact q934, by rw [nm_X13_is]; exact q936, by rw [nm_X13_is]; exact q937, q935, q933, by rw [nm_X13_is]; rfl⟩
    )) <|
  fG mo_ifne (sim_ifne dX7_is_10 rfl) <|
  fG mo_int (sim_iconst dX7_is_13 (by decide)) <|
  fG mo_goto (sim_goto dX7_is_14 rfl) <|
  trivial
theorem fX7_is_17 {X : tp_X} {az : Array Value} (hG : tp_Good X az) (hSt : tp_Stat X) : tp_Fit X yX7_is cX7_is (some .boolean) 2 tp_nm tp_by tp_ml tp_rtt 17 [o_int (.iconst 0) 0, o_fall 18] :=
  fG mo_int (sim_iconst dX7_is_17 (by decide)) <|
  fF
theorem fX7_is_18 {X : tp_X} {az : Array Value} (hG : tp_Good X az) (hSt : tp_Stat X) : tp_Fit X yX7_is cX7_is (some .boolean) 2 tp_nm tp_by tp_ml tp_rtt 18 [o_iret 1] :=
  fE ie_iret (sim_iret dX7_is_18 rfl (Or.inr (Or.inl ⟨rfl, rfl⟩)))
theorem F_X7_is {X : tp_X} {az : Array Value} (hG : tp_Good X az) (hSt : tp_Stat X) (pc : Nat) : tp_Fit X yX7_is cX7_is (some .boolean) 2 tp_nm tp_by tp_ml tp_rtt pc (mX7_is pc) :=
  fI (fX7_is_0 hG hSt) <| fI (fX7_is_17 hG hSt) <| fI (fX7_is_18 hG hSt) <| trivial
theorem fX8_init_0 {X : tp_X} {az : Array Value} (hG : tp_Good X az) (hSt : tp_Stat X) : tp_Fit X yX8_init cX8_init none 2 tp_nm tp_by tp_ml tp_rtt 0 [o_ald (.aload_n 0) 0, o_objinit (.invokespecial 3), o_ald (.aload_n 0) 0, o_new (.new 9) 15 3 [xI 0, xN, xI 0], o_dup, o_cp (.invokespecial 11) kJ4_init 0 0, o_putf (.putfield 12) 8 1 4, o_ald (.aload_n 0) 0, o_new (.new 9) 15 3 [xI 0, xN, xI 0], o_dup, o_cp (.invokespecial 11) kJ4_init 0 0, o_putf (.putfield 18) 8 2 4, o_ald (.aload_n 0) 0, o_ald (.aload_n 1) 1, o_putf (.putfield 21) 8 0 4, o_vret] :=
  fG mo_ald (sim_ald_n dX8_init_0 rfl) <|
  fG mo_objinit (sim_objinit hG dX8_init_1 q715 q163 q164) <|
  fG mo_ald (sim_ald_n dX8_init_4 rfl) <|
  fG mo_new (sim_new hG dX8_init_5 hc_15 rfl (by decide) (by decide) in_J4 tyJ4_ok q716 q433 q135 df_J4) <|
  fG mo_dup (sim_dup dX8_init_8) <|
  fC (ic_cp (Or.inl rfl)) (sim_cp hG dX8_init_9 M_J4_init (by rw [nm_J4_init]; rfl) rt_J4_init (by rw [nm_J4_init]; rfl) (by rw [nm_J4_init]; exact q717) (by rw [nm_J4_init]; exact q435)) <|
  fG mo_putf (sim_putfF hG dX8_init_12 hc_8 (by decide) rfl (by decide) in_X8 tyX8_ok nmX8 (Or.inr (Or.inr (Or.inr (Or.inr ⟨Or.inl ⟨_, rfl⟩, by decide⟩)))) (fun _ _ _ h => h) rfl rfl rfl q719) <|
  fG mo_ald (sim_ald_n dX8_init_15 rfl) <|
  fG mo_new (sim_new hG dX8_init_16 hc_15 rfl (by decide) (by decide) in_J4 tyJ4_ok q716 q433 q135 df_J4) <|
  fG mo_dup (sim_dup dX8_init_19) <|
  fC (ic_cp (Or.inl rfl)) (sim_cp hG dX8_init_20 M_J4_init (by rw [nm_J4_init]; rfl) rt_J4_init (by rw [nm_J4_init]; rfl) (by rw [nm_J4_init]; exact q717) (by rw [nm_J4_init]; exact q435)) <|
  fG mo_putf (sim_putfF hG dX8_init_23 hc_8 (by decide) rfl (by decide) in_X8 tyX8_ok nmX8 (Or.inr (Or.inr (Or.inr (Or.inr ⟨Or.inl ⟨_, rfl⟩, by decide⟩)))) (fun _ _ _ h => h) rfl rfl rfl q720) <|
  fG mo_ald (sim_ald_n dX8_init_26 rfl) <|
  fG mo_ald (sim_ald_n dX8_init_27 rfl) <|
  fG mo_putf (sim_putfF hG dX8_init_28 hc_8 (by decide) rfl (by decide) in_X8 tyX8_ok nmX8 (Or.inr (Or.inr (Or.inr (Or.inr ⟨Or.inl ⟨_, rfl⟩, by decide⟩)))) (fun _ _ _ h => h) rfl rfl rfl q718) <|
  fE ie_vret (sim_vret dX8_init_31 rfl)
theorem F_X8_init {X : tp_X} {az : Array Value} (hG : tp_Good X az) (hSt : tp_Stat X) (pc : Nat) : tp_Fit X yX8_init cX8_init none 2 tp_nm tp_by tp_ml tp_rtt pc (mX8_init pc) :=
  fI (fX8_init_0 hG hSt) <| trivial
theorem fX8_add_0 {X : tp_X} {az : Array Value} (hG : tp_Good X az) (hSt : tp_Stat X) : tp_Fit X yX8_add cX8_add none 3 tp_nm tp_by tp_ml tp_rtt 0 [o_ald (.aload_n 0) 0, o_getf (.getfield 18) 8 2, o_ild (.iload_n 1) 1, o_cs (.invokestatic 25) kJ13_valueOf 1 0, o_cv (.invokevirtual 31) 15 kJ4_add 1 0, o_pop, o_ald (.aload_n 0) 0, o_getf (.getfield 12) 8 1, o_ald (.aload_n 2) 2, o_cv (.invokevirtual 31) 15 kJ4_add 1 0, o_pop, o_vret] :=
  fG mo_ald (sim_ald_n dX8_add_0 rfl) <|
  fG mo_getf (sim_getfG hG dX8_add_1 hc_8 (by decide) rfl in_X8 (fun _ _ _ h => h) (Or.inl q720)) <|
  fG mo_ild (sim_ild_n dX8_add_4 rfl) <|
  fC (ic_cs (Or.inl rfl)) (sim_cs hG dX8_add_5 M_J13_valueOf (by rw [nm_J13_valueOf]; rfl) (by rw [nm_J13_valueOf]; exact q732) (by rw [nm_J13_valueOf]; exact q733)) <|
  fC (ic_cv (Or.inl rfl)) (sim_cv hG dX8_add_8 (hG.2.1 15 _ hc_15).2.1 M_J4_add (by rw [nm_J4_add]; rfl) (by rw [nm_J4_add]; exact q752) (by rw [nm_J4_add]; exact q753) (by rw [nm_J4_add]; exact q754)) <|
  fG mo_pop (sim_pop dX8_add_11) <|
  fG mo_ald (sim_ald_n dX8_add_12 rfl) <|
  fG mo_getf (sim_getfG hG dX8_add_13 hc_8 (by decide) rfl in_X8 (fun _ _ _ h => h) (Or.inl q719)) <|
  fG mo_ald (sim_ald_n dX8_add_16 rfl) <|
  fC (ic_cv (Or.inl rfl)) (sim_cv hG dX8_add_17 (hG.2.1 15 _ hc_15).2.1 M_J4_add (by rw [nm_J4_add]; rfl) (by rw [nm_J4_add]; exact q752) (by rw [nm_J4_add]; exact q753) (by rw [nm_J4_add]; exact q754)) <|
  fG mo_pop (sim_pop dX8_add_20) <|
  fE ie_vret (sim_vret dX8_add_21 rfl)
theorem F_X8_add {X : tp_X} {az : Array Value} (hG : tp_Good X az) (hSt : tp_Stat X) (pc : Nat) : tp_Fit X yX8_add cX8_add none 3 tp_nm tp_by tp_ml tp_rtt pc (mX8_add pc) :=
  fI (fX8_add_0 hG hSt) <| trivial
theorem fX8_itself_0 {X : tp_X} {az : Array Value} (hG : tp_Good X az) (hSt : tp_Stat X) : tp_Fit X yX8_itself cX8_itself (some (.object "ThroughPack$Sum")) 1 tp_nm tp_by tp_ml tp_rtt 0 [o_ald (.aload_n 0) 0, o_getf (.getfield 12) 8 1, o_cv (.invokevirtual 35) 15 kJ4_isEmpty 0 0, o_ifeq 10 17, o_ald (.aload_n 0) 0, o_getf (.getfield 21) 8 0, o_goto 4 18] :=
  fG mo_ald (sim_ald_n dX8_itself_0 rfl) <|
  fG mo_getf (sim_getfG hG dX8_itself_1 hc_8 (by decide) rfl in_X8 (fun _ _ _ h => h) (Or.inl q719)) <|
  fC (ic_cv (Or.inl rfl)) (sim_cv hG dX8_itself_4 (hG.2.1 15 _ hc_15).2.1 M_J4_isEmpty (by rw [nm_J4_isEmpty]; rfl) (by rw [nm_J4_isEmpty]; exact q813) (by rw [nm_J4_isEmpty]; exact q814) (by rw [nm_J4_isEmpty]; exact q815)) <|
  fG mo_ifeq (sim_ifeq dX8_itself_7 rfl) <|
  fG mo_ald (sim_ald_n dX8_itself_10 rfl) <|
  fG mo_getf (sim_getfG hG dX8_itself_11 hc_8 (by decide) rfl in_X8 (fun _ _ _ h => h) (Or.inl q718)) <|
  fG mo_goto (sim_goto dX8_itself_14 rfl) <|
  trivial
theorem fX8_itself_17 {X : tp_X} {az : Array Value} (hG : tp_Good X az) (hSt : tp_Stat X) : tp_Fit X yX8_itself cX8_itself (some (.object "ThroughPack$Sum")) 1 tp_nm tp_by tp_ml tp_rtt 17 [o_ald (.aload_n 0) 0, o_fall 18] :=
  fG mo_ald (sim_ald_n dX8_itself_17 rfl) <|
  fF
theorem fX8_itself_18 {X : tp_X} {az : Array Value} (hG : tp_Good X az) (hSt : tp_Stat X) : tp_Fit X yX8_itself cX8_itself (some (.object "ThroughPack$Sum")) 1 tp_nm tp_by tp_ml tp_rtt 18 [o_aret] :=
  fE ie_aret (sim_aret dX8_itself_18 rfl (Or.inl ⟨_, rfl⟩))
theorem F_X8_itself {X : tp_X} {az : Array Value} (hG : tp_Good X az) (hSt : tp_Stat X) (pc : Nat) : tp_Fit X yX8_itself cX8_itself (some (.object "ThroughPack$Sum")) 1 tp_nm tp_by tp_ml tp_rtt pc (mX8_itself pc) :=
  fI (fX8_itself_0 hG hSt) <| fI (fX8_itself_17 hG hSt) <| fI (fX8_itself_18 hG hSt) <| trivial
