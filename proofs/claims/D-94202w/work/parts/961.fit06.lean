/-! FITS 6 -/
set_option maxRecDepth 100000
theorem fX3_byteAt_0 {X : tp_X} {az : Array Value} (hG : tp_Good X az) (hSt : tp_Stat X) : tp_Fit X yX3_byteAt cX3_byteAt (some .int) 2 tp_nm tp_by tp_ml tp_rtt 0 [o_ild (.iload_n 1) 1, o_ald (.aload_n 0) 0, o_getf (.getfield 112) 3 7, o_icmpge 12 17, o_ald (.aload_n 0) 0, o_getf (.getfield 19) 3 6, o_ild (.iload_n 1) 1, o_lda .iaload [0, 20], o_goto 4 18] :=
  fG mo_ild (sim_ild_n dX3_byteAt_0 rfl) <|
  fG mo_ald (sim_ald_n dX3_byteAt_1 rfl) <|
  fG mo_getf (sim_getfG hG dX3_byteAt_2 hc_3 (by decide) rfl in_X3 (fun _ _ _ h => h) (Or.inl q1259)) <|
  fG mo_icmpge (sim_icmpge dX3_byteAt_5 rfl) <|
  fG mo_ald (sim_ald_n dX3_byteAt_8 rfl) <|
  fG mo_getf (sim_getfG hG dX3_byteAt_9 hc_3 (by decide) rfl in_X3 (fun _ _ _ h => h) (Or.inl q1258)) <|
  fG mo_ild (sim_ild_n dX3_byteAt_12 rfl) <|
  fG mo_lda (sim_iald dX3_byteAt_13) <|
  fG mo_goto (sim_goto dX3_byteAt_14 rfl) <|
  trivial
theorem fX3_byteAt_17 {X : tp_X} {az : Array Value} (hG : tp_Good X az) (hSt : tp_Stat X) : tp_Fit X yX3_byteAt cX3_byteAt (some .int) 2 tp_nm tp_by tp_ml tp_rtt 17 [o_int (.iconst (-1)) (-1), o_fall 18] :=
  fG mo_int (sim_iconst dX3_byteAt_17 (by decide)) <|
  fF
theorem fX3_byteAt_18 {X : tp_X} {az : Array Value} (hG : tp_Good X az) (hSt : tp_Stat X) : tp_Fit X yX3_byteAt cX3_byteAt (some .int) 2 tp_nm tp_by tp_ml tp_rtt 18 [o_iret 0] :=
  fE ie_iret (sim_iret dX3_byteAt_18 rfl (Or.inl ⟨rfl, rfl⟩))
theorem F_X3_byteAt {X : tp_X} {az : Array Value} (hG : tp_Good X az) (hSt : tp_Stat X) (pc : Nat) : tp_Fit X yX3_byteAt cX3_byteAt (some .int) 2 tp_nm tp_by tp_ml tp_rtt pc (mX3_byteAt pc) :=
  fI (fX3_byteAt_0 hG hSt) <| fI (fX3_byteAt_17 hG hSt) <| fI (fX3_byteAt_18 hG hSt) <| trivial
theorem fX3_isDigit_0 {X : tp_X} {az : Array Value} (hG : tp_Good X az) (hSt : tp_Stat X) : tp_Fit X yX3_isDigit cX3_isDigit (some .boolean) 1 tp_nm tp_by tp_ml tp_rtt 0 [o_ild (.iload_n 0) 0, o_int (.bipush 48) 48, o_int (.bipush 57) 57, o_cs (.invokestatic 90) kX3_isIn 3 0, o_iret 1] :=
  fG mo_ild (sim_ild_n dX3_isDigit_0 rfl) <|
  fG mo_int (sim_bipush dX3_isDigit_1 (by decide)) <|
  fG mo_int (sim_bipush dX3_isDigit_3 (by decide)) <|
  fC (ic_cs (Or.inl rfl)) (sim_cs hG dX3_isDigit_5 M_X3_isIn (by rw [nm_X3_isIn]; rfl) (by rw [nm_X3_isIn]; exact q1400) (by rw [nm_X3_isIn]; exact q1401)) <|
  fE ie_iret (sim_iret dX3_isDigit_8 rfl (Or.inr (Or.inl ⟨rfl, rfl⟩)))
theorem F_X3_isDigit {X : tp_X} {az : Array Value} (hG : tp_Good X az) (hSt : tp_Stat X) (pc : Nat) : tp_Fit X yX3_isDigit cX3_isDigit (some .boolean) 1 tp_nm tp_by tp_ml tp_rtt pc (mX3_isDigit pc) :=
  fI (fX3_isDigit_0 hG hSt) <| trivial
theorem fX3_isLetter_0 {X : tp_X} {az : Array Value} (hG : tp_Good X az) (hSt : tp_Stat X) : tp_Fit X yX3_isLetter cX3_isLetter (some .boolean) 1 tp_nm tp_by tp_ml tp_rtt 0 [o_ild (.iload_n 0) 0, o_int (.bipush 97) 97, o_int (.bipush 122) 122, o_cs (.invokestatic 90) kX3_isIn 3 0, o_ifne 14 22, o_ild (.iload_n 0) 0, o_int (.bipush 65) 65, o_int (.bipush 90) 90, o_cs (.invokestatic 90) kX3_isIn 3 0, o_ifeq 7 26, o_fall 22] :=
  fG mo_ild (sim_ild_n dX3_isLetter_0 rfl) <|
  fG mo_int (sim_bipush dX3_isLetter_1 (by decide)) <|
  fG mo_int (sim_bipush dX3_isLetter_3 (by decide)) <|
  fC (ic_cs (Or.inl rfl)) (sim_cs hG dX3_isLetter_5 M_X3_isIn (by rw [nm_X3_isIn]; rfl) (by rw [nm_X3_isIn]; exact q1400) (by rw [nm_X3_isIn]; exact q1401)) <|
  fG mo_ifne (sim_ifne dX3_isLetter_8 rfl) <|
  fG mo_ild (sim_ild_n dX3_isLetter_11 rfl) <|
  fG mo_int (sim_bipush dX3_isLetter_12 (by decide)) <|
  fG mo_int (sim_bipush dX3_isLetter_14 (by decide)) <|
  fC (ic_cs (Or.inl rfl)) (sim_cs hG dX3_isLetter_16 M_X3_isIn (by rw [nm_X3_isIn]; rfl) (by rw [nm_X3_isIn]; exact q1400) (by rw [nm_X3_isIn]; exact q1401)) <|
  fG mo_ifeq (sim_ifeq dX3_isLetter_19 rfl) <|
  fF
theorem fX3_isLetter_22 {X : tp_X} {az : Array Value} (hG : tp_Good X az) (hSt : tp_Stat X) : tp_Fit X yX3_isLetter cX3_isLetter (some .boolean) 1 tp_nm tp_by tp_ml tp_rtt 22 [o_int (.iconst 1) 1, o_goto 4 27] :=
  fG mo_int (sim_iconst dX3_isLetter_22 (by decide)) <|
  fG mo_goto (sim_goto dX3_isLetter_23 rfl) <|
  trivial
theorem fX3_isLetter_26 {X : tp_X} {az : Array Value} (hG : tp_Good X az) (hSt : tp_Stat X) : tp_Fit X yX3_isLetter cX3_isLetter (some .boolean) 1 tp_nm tp_by tp_ml tp_rtt 26 [o_int (.iconst 0) 0, o_fall 27] :=
  fG mo_int (sim_iconst dX3_isLetter_26 (by decide)) <|
  fF
theorem fX3_isLetter_27 {X : tp_X} {az : Array Value} (hG : tp_Good X az) (hSt : tp_Stat X) : tp_Fit X yX3_isLetter cX3_isLetter (some .boolean) 1 tp_nm tp_by tp_ml tp_rtt 27 [o_iret 1] :=
  fE ie_iret (sim_iret dX3_isLetter_27 rfl (Or.inr (Or.inl ⟨rfl, rfl⟩)))
theorem F_X3_isLetter {X : tp_X} {az : Array Value} (hG : tp_Good X az) (hSt : tp_Stat X) (pc : Nat) : tp_Fit X yX3_isLetter cX3_isLetter (some .boolean) 1 tp_nm tp_by tp_ml tp_rtt pc (mX3_isLetter pc) :=
  fI (fX3_isLetter_0 hG hSt) <| fI (fX3_isLetter_22 hG hSt) <| fI (fX3_isLetter_26 hG hSt) <| fI (fX3_isLetter_27 hG hSt) <| trivial
theorem fX3_clause_0 {X : tp_X} {az : Array Value} (hG : tp_Good X az) (hSt : tp_Stat X) : tp_Fit X yX3_clause cX3_clause (some .int) 5 tp_nm tp_by tp_ml tp_rtt 0 [o_ald (.aload_n 0) 0, o_cv (.invokevirtual 237) 3 kX3_sortOf 0 0, o_ist (.istore_n 1) 1, o_ild (.iload_n 1) 1, o_ifne 5 11, o_int (.iconst 1) 1, o_iret 0] :=
  fG mo_ald (sim_ald_n dX3_clause_0 rfl) <|
  fC (ic_cv (Or.inl rfl)) (sim_cv hG dX3_clause_1 (hG.2.1 3 _ hc_3).2.1 M_X3_sortOf (by rw [nm_X3_sortOf]; rfl) (by rw [nm_X3_sortOf]; exact q1483) (by rw [nm_X3_sortOf]; exact q1485) (by rw [nm_X3_sortOf]; exact qs56)) <|
  fG mo_ist (sim_ist_n dX3_clause_4 rfl) <|
  fG mo_ild (sim_ild_n dX3_clause_5 rfl) <|
  fG mo_ifne (sim_ifne dX3_clause_6 rfl) <|
  fG mo_int (sim_iconst dX3_clause_9 (by decide)) <|
  fE ie_iret (sim_iret dX3_clause_10 rfl (Or.inl ⟨rfl, rfl⟩))
theorem fX3_clause_11 {X : tp_X} {az : Array Value} (hG : tp_Good X az) (hSt : tp_Stat X) : tp_Fit X yX3_clause cX3_clause (some .int) 5 tp_nm tp_by tp_ml tp_rtt 11 [o_ild (.iload_n 1) 1, o_int (.iconst 5) 5, o_icmplt 17 30, o_ald (.aload_n 0) 0, o_getf (.getfield 240) 3 24, o_ild (.iload_n 1) 1, o_ishr, o_int (.iconst 1) 1, o_iand, o_int (.iconst 1) 1, o_icmpne 5 30, o_int (.iconst 4) 4, o_iret 0] :=
  fG mo_ild (sim_ild_n dX3_clause_11 rfl) <|
  fG mo_int (sim_iconst dX3_clause_12 (by decide)) <|
  fG mo_icmplt (sim_icmplt dX3_clause_13 rfl) <|
  fG mo_ald (sim_ald_n dX3_clause_16 rfl) <|
  fG mo_getf (sim_getfG hG dX3_clause_17 hc_3 (by decide) rfl in_X3 (fun _ _ _ h => h) (Or.inl q1274)) <|
  fG mo_ild (sim_ild_n dX3_clause_20 rfl) <|
  fG mo_ishr (sim_ishr dX3_clause_21) <|
  fG mo_int (sim_iconst dX3_clause_22 (by decide)) <|
  fG mo_iand (sim_iand dX3_clause_23) <|
  fG mo_int (sim_iconst dX3_clause_24 (by decide)) <|
  fG mo_icmpne (sim_icmpne dX3_clause_25 rfl) <|
  fG mo_int (sim_iconst dX3_clause_28 (by decide)) <|
  fE ie_iret (sim_iret dX3_clause_29 rfl (Or.inl ⟨rfl, rfl⟩))
theorem fX3_clause_30 {X : tp_X} {az : Array Value} (hG : tp_Good X az) (hSt : tp_Stat X) : tp_Fit X yX3_clause cX3_clause (some .int) 5 tp_nm tp_by tp_ml tp_rtt 30 [o_ald (.aload_n 0) 0, o_getf (.getfield 16) 3 5, o_ald (.aload_n 0) 0, o_getf (.getfield 154) 3 15, o_lda .iaload [0, 20], o_ist (.istore_n 2) 2, o_ild (.iload_n 2) 2, o_int (.bipush 12) 12, o_icmpne 6 49, o_int (.bipush 6) 6, o_iret 0] :=
  fG mo_ald (sim_ald_n dX3_clause_30 rfl) <|
  fG mo_getf (sim_getfG hG dX3_clause_31 hc_3 (by decide) rfl in_X3 (fun _ _ _ h => h) (Or.inl q1257)) <|
  fG mo_ald (sim_ald_n dX3_clause_34 rfl) <|
  fG mo_getf (sim_getfG hG dX3_clause_35 hc_3 (by decide) rfl in_X3 (fun _ _ _ h => h) (Or.inl q1267)) <|
  fG mo_lda (sim_iald dX3_clause_38) <|
  fG mo_ist (sim_ist_n dX3_clause_39 rfl) <|
  fG mo_ild (sim_ild_n dX3_clause_40 rfl) <|
  fG mo_int (sim_bipush dX3_clause_41 (by decide)) <|
  fG mo_icmpne (sim_icmpne dX3_clause_43 rfl) <|
  fG mo_int (sim_bipush dX3_clause_46 (by decide)) <|
  fE ie_iret (sim_iret dX3_clause_48 rfl (Or.inl ⟨rfl, rfl⟩))
theorem fX3_clause_49 {X : tp_X} {az : Array Value} (hG : tp_Good X az) (hSt : tp_Stat X) : tp_Fit X yX3_clause cX3_clause (some .int) 5 tp_nm tp_by tp_ml tp_rtt 49 [o_ild (.iload_n 1) 1, o_int (.iconst 5) 5, o_icmplt 15 66, o_ald (.aload_n 0) 0, o_dup, o_getf (.getfield 240) 3 24, o_int (.iconst 1) 1, o_ild (.iload_n 1) 1, o_ishl, o_ior, o_putf (.putfield 240) 3 24 0, o_fall 66] :=
  fG mo_ild (sim_ild_n dX3_clause_49 rfl) <|
  fG mo_int (sim_iconst dX3_clause_50 (by decide)) <|
  fG mo_icmplt (sim_icmplt dX3_clause_51 rfl) <|
  fG mo_ald (sim_ald_n dX3_clause_54 rfl) <|
  fG mo_dup (sim_dup dX3_clause_55) <|
  fG mo_getf (sim_getfG hG dX3_clause_56 hc_3 (by decide) rfl in_X3 (fun _ _ _ h => h) (Or.inl q1274)) <|
  fG mo_int (sim_iconst dX3_clause_59 (by decide)) <|
  fG mo_ild (sim_ild_n dX3_clause_60 rfl) <|
  fG mo_ishl (sim_ishl dX3_clause_61) <|
  fG mo_ior (sim_ior dX3_clause_62) <|
  fG mo_putf (sim_putf hG dX3_clause_63 hc_3 (by decide) rfl (by decide) in_X3 tyX3_ok nmX3 (Or.inl ⟨rfl, rfl⟩) (fun _ _ _ h => h) rfl q1274) <|
  fF
theorem fX3_clause_66 {X : tp_X} {az : Array Value} (hG : tp_Good X az) (hSt : tp_Stat X) : tp_Fit X yX3_clause cX3_clause (some .int) 5 tp_nm tp_by tp_ml tp_rtt 66 [o_ald (.aload_n 0) 0, o_ild (.iload_n 1) 1, o_putf (.putfield 186) 3 23 0, o_ald (.aload_n 0) 0, o_cv (.invokevirtual 189) 3 kX3_nextToken 0 0, o_ald (.aload_n 0) 0, o_getf (.getfield 154) 3 15, o_int (.iconst 1) 1, o_iadd, o_int (.iconst 4) 4, o_ild (.iload_n 2) 2, o_imul, o_iadd, o_ist (.istore_n 3) 3, o_ald (.aload_n 0) 0, o_getf (.getfield 16) 3 5, o_ild (.iload_n 3) 3, o_ild (.iload_n 1) 1, o_sta .iastore [0], o_ild (.iload_n 1) 1, o_int (.iconst 4) 4, o_icmpne 11 106, o_ald (.aload_n 0) 0, o_ild (.iload_n 3) 3, o_cv (.invokevirtual 243) 3 kX3_goesBy 1 0, o_goto 4 107] :=
  fG mo_ald (sim_ald_n dX3_clause_66 rfl) <|
  fG mo_ild (sim_ild_n dX3_clause_67 rfl) <|
  fG mo_putf (sim_putf hG dX3_clause_68 hc_3 (by decide) rfl (by decide) in_X3 tyX3_ok nmX3 (Or.inl ⟨rfl, rfl⟩) (fun _ _ _ h => h) rfl q1273) <|
  fG mo_ald (sim_ald_n dX3_clause_71 rfl) <|
  fC (ic_cv (Or.inl rfl)) (sim_cv hG dX3_clause_72 (hG.2.1 3 _ hc_3).2.1 M_X3_nextToken (by rw [nm_X3_nextToken]; rfl) (by rw [nm_X3_nextToken]; exact q1464) (by rw [nm_X3_nextToken]; exact q1466) (by rw [nm_X3_nextToken]; exact qs53)) <|
  fG mo_ald (sim_ald_n dX3_clause_75 rfl) <|
  fG mo_getf (sim_getfG hG dX3_clause_76 hc_3 (by decide) rfl in_X3 (fun _ _ _ h => h) (Or.inl q1267)) <|
  fG mo_int (sim_iconst dX3_clause_79 (by decide)) <|
  fG mo_iadd (sim_iadd dX3_clause_80) <|
  fG mo_int (sim_iconst dX3_clause_81 (by decide)) <|
  fG mo_ild (sim_ild_n dX3_clause_82 rfl) <|
  fG mo_imul (sim_imul dX3_clause_83) <|
  fG mo_iadd (sim_iadd dX3_clause_84) <|
  fG mo_ist (sim_ist_n dX3_clause_85 rfl) <|
  fG mo_ald (sim_ald_n dX3_clause_86 rfl) <|
  fG mo_getf (sim_getfG hG dX3_clause_87 hc_3 (by decide) rfl in_X3 (fun _ _ _ h => h) (Or.inl q1257)) <|
  fG mo_ild (sim_ild_n dX3_clause_90 rfl) <|
  fG mo_ild (sim_ild_n dX3_clause_91 rfl) <|
  fG mo_sta (sim_iast dX3_clause_92) <|
  fG mo_ild (sim_ild_n dX3_clause_93 rfl) <|
  fG mo_int (sim_iconst dX3_clause_94 (by decide)) <|
  fG mo_icmpne (sim_icmpne dX3_clause_95 rfl) <|
  fG mo_ald (sim_ald_n dX3_clause_98 rfl) <|
  fG mo_ild (sim_ild_n dX3_clause_99 rfl) <|
  fC (ic_cv (Or.inl rfl)) (sim_cv hG dX3_clause_100 (hG.2.1 3 _ hc_3).2.1 M_X3_goesBy (by rw [nm_X3_goesBy]; rfl) (by rw [nm_X3_goesBy]; exact q1498) (by rw [nm_X3_goesBy]; exact q1500) (by rw [nm_X3_goesBy]; exact qs58)) <|
  fG mo_goto (sim_goto dX3_clause_103 rfl) <|
  trivial
theorem fX3_clause_106 {X : tp_X} {az : Array Value} (hG : tp_Good X az) (hSt : tp_Stat X) : tp_Fit X yX3_clause cX3_clause (some .int) 5 tp_nm tp_by tp_ml tp_rtt 106 [o_int (.iconst 0) 0, o_fall 107] :=
  fG mo_int (sim_iconst dX3_clause_106 (by decide)) <|
  fF
theorem fX3_clause_107 {X : tp_X} {az : Array Value} (hG : tp_Good X az) (hSt : tp_Stat X) : tp_Fit X yX3_clause cX3_clause (some .int) 5 tp_nm tp_by tp_ml tp_rtt 107 [o_ist (.istore 4) 4, o_ild (.iload 4) 4, o_ifeq 6 117, o_ild (.iload 4) 4, o_iret 0] :=
  fG mo_ist (sim_ist dX3_clause_107) <|
  fG mo_ild (sim_ild dX3_clause_109) <|
  fG mo_ifeq (sim_ifeq dX3_clause_111 rfl) <|
  fG mo_ild (sim_ild dX3_clause_114) <|
  fE ie_iret (sim_iret dX3_clause_116 rfl (Or.inl ⟨rfl, rfl⟩))
theorem fX3_clause_117 {X : tp_X} {az : Array Value} (hG : tp_Good X az) (hSt : tp_Stat X) : tp_Fit X yX3_clause cX3_clause (some .int) 5 tp_nm tp_by tp_ml tp_rtt 117 [o_ald (.aload_n 0) 0, o_getf (.getfield 16) 3 5, o_ild (.iload_n 3) 3, o_int (.iconst 2) 2, o_iadd, o_ald (.aload_n 0) 0, o_getf (.getfield 157) 3 17, o_sta .iastore [0], o_ild (.iload_n 1) 1, o_int (.iconst 5) 5, o_icmplt 10 141, o_ald (.aload_n 0) 0, o_cv (.invokevirtual 224) 3 kX3_summed 0 0, o_goto 7 145] :=
  fG mo_ald (sim_ald_n dX3_clause_117 rfl) <|
  fG mo_getf (sim_getfG hG dX3_clause_118 hc_3 (by decide) rfl in_X3 (fun _ _ _ h => h) (Or.inl q1257)) <|
  fG mo_ild (sim_ild_n dX3_clause_121 rfl) <|
  fG mo_int (sim_iconst dX3_clause_122 (by decide)) <|
  fG mo_iadd (sim_iadd dX3_clause_123) <|
  fG mo_ald (sim_ald_n dX3_clause_124 rfl) <|
  fG mo_getf (sim_getfG hG dX3_clause_125 hc_3 (by decide) rfl in_X3 (fun _ _ _ h => h) (Or.inl q1268)) <|
  fG mo_sta (sim_iast dX3_clause_128) <|
  fG mo_ild (sim_ild_n dX3_clause_129 rfl) <|
  fG mo_int (sim_iconst dX3_clause_130 (by decide)) <|
  fG mo_icmplt (sim_icmplt dX3_clause_131 rfl) <|
  fG mo_ald (sim_ald_n dX3_clause_134 rfl) <|
  fC (ic_cv (Or.inl rfl)) (sim_cv hG dX3_clause_135 (hG.2.1 3 _ hc_3).2.1 M_X3_summed (by rw [nm_X3_summed]; rfl) (by rw [nm_X3_summed]; exact q1502) (by rw [nm_X3_summed]; exact q1504) (by rw [nm_X3_summed]; exact qs59)) <|
  fG mo_goto (sim_goto dX3_clause_138 rfl) <|
  trivial
theorem fX3_clause_141 {X : tp_X} {az : Array Value} (hG : tp_Good X az) (hSt : tp_Stat X) : tp_Fit X yX3_clause cX3_clause (some .int) 5 tp_nm tp_by tp_ml tp_rtt 141 [o_ald (.aload_n 0) 0, o_cv (.invokevirtual 246) 3 kX3_either 0 0, o_fall 145] :=
  fG mo_ald (sim_ald_n dX3_clause_141 rfl) <|
  fC (ic_cv (Or.inl rfl)) (sim_cv hG dX3_clause_142 (hG.2.1 3 _ hc_3).2.1 M_X3_either (by rw [nm_X3_either]; rfl) (by rw [nm_X3_either]; exact q1554) (by rw [nm_X3_either]; exact q1556) (by rw [nm_X3_either]; exact qs70)) <|
  fF
theorem fX3_clause_145 {X : tp_X} {az : Array Value} (hG : tp_Good X az) (hSt : tp_Stat X) : tp_Fit X yX3_clause cX3_clause (some .int) 5 tp_nm tp_by tp_ml tp_rtt 145 [o_ist (.istore 4) 4, o_ild (.iload 4) 4, o_ifeq 6 155, o_ild (.iload 4) 4, o_iret 0] :=
  fG mo_ist (sim_ist dX3_clause_145) <|
  fG mo_ild (sim_ild dX3_clause_147) <|
  fG mo_ifeq (sim_ifeq dX3_clause_149 rfl) <|
  fG mo_ild (sim_ild dX3_clause_152) <|
  fE ie_iret (sim_iret dX3_clause_154 rfl (Or.inl ⟨rfl, rfl⟩))
theorem fX3_clause_155 {X : tp_X} {az : Array Value} (hG : tp_Good X az) (hSt : tp_Stat X) : tp_Fit X yX3_clause cX3_clause (some .int) 5 tp_nm tp_by tp_ml tp_rtt 155 [o_ald (.aload_n 0) 0, o_getf (.getfield 16) 3 5, o_ild (.iload_n 3) 3, o_int (.iconst 3) 3, o_iadd, o_ald (.aload_n 0) 0, o_getf (.getfield 157) 3 17, o_sta .iastore [0], o_ald (.aload_n 0) 0, o_getf (.getfield 16) 3 5, o_ald (.aload_n 0) 0, o_getf (.getfield 154) 3 15, o_dup2, o_lda .iaload [0, 20], o_int (.iconst 1) 1, o_iadd, o_sta .iastore [0], o_ald (.aload_n 0) 0, o_getf (.getfield 129) 3 12, o_int (.bipush 59) 59, o_icmpeq 5 191, o_int (.iconst 1) 1, o_iret 0] :=
  fG mo_ald (sim_ald_n dX3_clause_155 rfl) <|
  fG mo_getf (sim_getfG hG dX3_clause_156 hc_3 (by decide) rfl in_X3 (fun _ _ _ h => h) (Or.inl q1257)) <|
  fG mo_ild (sim_ild_n dX3_clause_159 rfl) <|
  fG mo_int (sim_iconst dX3_clause_160 (by decide)) <|
  fG mo_iadd (sim_iadd dX3_clause_161) <|
  fG mo_ald (sim_ald_n dX3_clause_162 rfl) <|
  fG mo_getf (sim_getfG hG dX3_clause_163 hc_3 (by decide) rfl in_X3 (fun _ _ _ h => h) (Or.inl q1268)) <|
  fG mo_sta (sim_iast dX3_clause_166) <|
  fG mo_ald (sim_ald_n dX3_clause_167 rfl) <|
  fG mo_getf (sim_getfG hG dX3_clause_168 hc_3 (by decide) rfl in_X3 (fun _ _ _ h => h) (Or.inl q1257)) <|
  fG mo_ald (sim_ald_n dX3_clause_171 rfl) <|
  fG mo_getf (sim_getfG hG dX3_clause_172 hc_3 (by decide) rfl in_X3 (fun _ _ _ h => h) (Or.inl q1267)) <|
  fG mo_dup2 (sim_dup2 dX3_clause_175) <|
  fG mo_lda (sim_iald dX3_clause_176) <|
  fG mo_int (sim_iconst dX3_clause_177 (by decide)) <|
  fG mo_iadd (sim_iadd dX3_clause_178) <|
  fG mo_sta (sim_iast dX3_clause_179) <|
  fG mo_ald (sim_ald_n dX3_clause_180 rfl) <|
  fG mo_getf (sim_getfG hG dX3_clause_181 hc_3 (by decide) rfl in_X3 (fun _ _ _ h => h) (Or.inl q1264)) <|
  fG mo_int (sim_bipush dX3_clause_184 (by decide)) <|
  fG mo_icmpeq (sim_icmpeq dX3_clause_186 rfl) <|
  fG mo_int (sim_iconst dX3_clause_189 (by decide)) <|
  fE ie_iret (sim_iret dX3_clause_190 rfl (Or.inl ⟨rfl, rfl⟩))
theorem fX3_clause_191 {X : tp_X} {az : Array Value} (hG : tp_Good X az) (hSt : tp_Stat X) : tp_Fit X yX3_clause cX3_clause (some .int) 5 tp_nm tp_by tp_ml tp_rtt 191 [o_ald (.aload_n 0) 0, o_cv (.invokevirtual 189) 3 kX3_nextToken 0 0, o_int (.iconst 0) 0, o_iret 0] :=
  fG mo_ald (sim_ald_n dX3_clause_191 rfl) <|
  fC (ic_cv (Or.inl rfl)) (sim_cv hG dX3_clause_192 (hG.2.1 3 _ hc_3).2.1 M_X3_nextToken (by rw [nm_X3_nextToken]; rfl) (by rw [nm_X3_nextToken]; exact q1464) (by rw [nm_X3_nextToken]; exact q1466) (by rw [nm_X3_nextToken]; exact qs53)) <|
  fG mo_int (sim_iconst dX3_clause_195 (by decide)) <|
  fE ie_iret (sim_iret dX3_clause_196 rfl (Or.inl ⟨rfl, rfl⟩))
theorem F_X3_clause {X : tp_X} {az : Array Value} (hG : tp_Good X az) (hSt : tp_Stat X) (pc : Nat) : tp_Fit X yX3_clause cX3_clause (some .int) 5 tp_nm tp_by tp_ml tp_rtt pc (mX3_clause pc) :=
  fI (fX3_clause_0 hG hSt) <| fI (fX3_clause_11 hG hSt) <| fI (fX3_clause_30 hG hSt) <| fI (fX3_clause_49 hG hSt) <| fI (fX3_clause_66 hG hSt) <| fI (fX3_clause_106 hG hSt) <| fI (fX3_clause_107 hG hSt) <| fI (fX3_clause_117 hG hSt) <| fI (fX3_clause_141 hG hSt) <| fI (fX3_clause_145 hG hSt) <| fI (fX3_clause_155 hG hSt) <| fI (fX3_clause_191 hG hSt) <| trivial
theorem fX3_sortOf_0 {X : tp_X} {az : Array Value} (hG : tp_Good X az) (hSt : tp_Stat X) : tp_Fit X yX3_sortOf cX3_sortOf (some .int) 1 tp_nm tp_by tp_ml tp_rtt 0 [o_ald (.aload_n 0) 0, o_int (.bipush 109) 109, o_int (.bipush 97) 97, o_int (.bipush 121) 121, o_cs (.invokestatic 146) kX3_w3 3 0, o_cv (.invokevirtual 220) 3 kX3_isWord 1 0, o_ifeq 5 18, o_int (.iconst 1) 1, o_iret 0] :=
  fG mo_ald (sim_ald_n dX3_sortOf_0 rfl) <|
  fG mo_int (sim_bipush dX3_sortOf_1 (by decide)) <|
  fG mo_int (sim_bipush dX3_sortOf_3 (by decide)) <|
  fG mo_int (sim_bipush dX3_sortOf_5 (by decide)) <|
  fC (ic_cs (Or.inl rfl)) (sim_cs hG dX3_sortOf_7 M_X3_w3 (by rw [nm_X3_w3]; rfl) (by rw [nm_X3_w3]; exact q1487) (by rw [nm_X3_w3]; exact q1488)) <|
  fC (ic_cv (Or.inl rfl)) (sim_cv hG dX3_sortOf_10 (hG.2.1 3 _ hc_3).2.1 M_X3_isWord (by rw [nm_X3_isWord]; rfl) (by rw [nm_X3_isWord]; exact q1490) (by rw [nm_X3_isWord]; exact q1492) (by rw [nm_X3_isWord]; exact qs57)) <|
  fG mo_ifeq (sim_ifeq dX3_sortOf_13 rfl) <|
  fG mo_int (sim_iconst dX3_sortOf_16 (by decide)) <|
  fE ie_iret (sim_iret dX3_sortOf_17 rfl (Or.inl ⟨rfl, rfl⟩))
theorem fX3_sortOf_18 {X : tp_X} {az : Array Value} (hG : tp_Good X az) (hSt : tp_Stat X) : tp_Fit X yX3_sortOf cX3_sortOf (some .int) 1 tp_nm tp_by tp_ml tp_rtt 18 [o_ald (.aload_n 0) 0, o_int (.bipush 110) 110, o_int (.bipush 105) 105, o_int (.bipush 112) 112, o_int (.bipush 115) 115, o_cs (.invokestatic 174) kX3_w4 4 0, o_cv (.invokevirtual 220) 3 kX3_isWord 1 0, o_ifeq 5 38, o_int (.iconst 2) 2, o_iret 0] :=
  fG mo_ald (sim_ald_n dX3_sortOf_18 rfl) <|
  fG mo_int (sim_bipush dX3_sortOf_19 (by decide)) <|
  fG mo_int (sim_bipush dX3_sortOf_21 (by decide)) <|
  fG mo_int (sim_bipush dX3_sortOf_23 (by decide)) <|
  fG mo_int (sim_bipush dX3_sortOf_25 (by decide)) <|
  fC (ic_cs (Or.inl rfl)) (sim_cs hG dX3_sortOf_27 M_X3_w4 (by rw [nm_X3_w4]; rfl) (by rw [nm_X3_w4]; exact q1494) (by rw [nm_X3_w4]; exact q1495)) <|
  fC (ic_cv (Or.inl rfl)) (sim_cv hG dX3_sortOf_30 (hG.2.1 3 _ hc_3).2.1 M_X3_isWord (by rw [nm_X3_isWord]; rfl) (by rw [nm_X3_isWord]; exact q1490) (by rw [nm_X3_isWord]; exact q1492) (by rw [nm_X3_isWord]; exact qs57)) <|
  fG mo_ifeq (sim_ifeq dX3_sortOf_33 rfl) <|
  fG mo_int (sim_iconst dX3_sortOf_36 (by decide)) <|
  fE ie_iret (sim_iret dX3_sortOf_37 rfl (Or.inl ⟨rfl, rfl⟩))
theorem fX3_sortOf_38 {X : tp_X} {az : Array Value} (hG : tp_Good X az) (hSt : tp_Stat X) : tp_Fit X yX3_sortOf cX3_sortOf (some .int) 1 tp_nm tp_by tp_ml tp_rtt 38 [o_ald (.aload_n 0) 0, o_int (.bipush 119) 119, o_int (.bipush 97) 97, o_int (.bipush 108) 108, o_int (.bipush 107) 107, o_cs (.invokestatic 174) kX3_w4 4 0, o_cv (.invokevirtual 220) 3 kX3_isWord 1 0, o_ifeq 5 58, o_int (.iconst 3) 3, o_iret 0] :=
  fG mo_ald (sim_ald_n dX3_sortOf_38 rfl) <|
  fG mo_int (sim_bipush dX3_sortOf_39 (by decide)) <|
  fG mo_int (sim_bipush dX3_sortOf_41 (by decide)) <|
  fG mo_int (sim_bipush dX3_sortOf_43 (by decide)) <|
  fG mo_int (sim_bipush dX3_sortOf_45 (by decide)) <|
  fC (ic_cs (Or.inl rfl)) (sim_cs hG dX3_sortOf_47 M_X3_w4 (by rw [nm_X3_w4]; rfl) (by rw [nm_X3_w4]; exact q1494) (by rw [nm_X3_w4]; exact q1495)) <|
  fC (ic_cv (Or.inl rfl)) (sim_cv hG dX3_sortOf_50 (hG.2.1 3 _ hc_3).2.1 M_X3_isWord (by rw [nm_X3_isWord]; rfl) (by rw [nm_X3_isWord]; exact q1490) (by rw [nm_X3_isWord]; exact q1492) (by rw [nm_X3_isWord]; exact qs57)) <|
  fG mo_ifeq (sim_ifeq dX3_sortOf_53 rfl) <|
  fG mo_int (sim_iconst dX3_sortOf_56 (by decide)) <|
  fE ie_iret (sim_iret dX3_sortOf_57 rfl (Or.inl ⟨rfl, rfl⟩))
theorem fX3_sortOf_58 {X : tp_X} {az : Array Value} (hG : tp_Good X az) (hSt : tp_Stat X) : tp_Fit X yX3_sortOf cX3_sortOf (some .int) 1 tp_nm tp_by tp_ml tp_rtt 58 [o_ald (.aload_n 0) 0, o_lng (.ldc2_w 235) 26479, o_cv (.invokevirtual 220) 3 kX3_isWord 1 0, o_ifeq 5 70, o_int (.iconst 4) 4, o_iret 0] :=
  fG mo_ald (sim_ald_n dX3_sortOf_58 rfl) <|
  fG mo_lng (sim_ldc2 hG dX3_sortOf_59 q1497 rfl) <|
  fC (ic_cv (Or.inl rfl)) (sim_cv hG dX3_sortOf_62 (hG.2.1 3 _ hc_3).2.1 M_X3_isWord (by rw [nm_X3_isWord]; rfl) (by rw [nm_X3_isWord]; exact q1490) (by rw [nm_X3_isWord]; exact q1492) (by rw [nm_X3_isWord]; exact qs57)) <|
  fG mo_ifeq (sim_ifeq dX3_sortOf_65 rfl) <|
  fG mo_int (sim_iconst dX3_sortOf_68 (by decide)) <|
  fE ie_iret (sim_iret dX3_sortOf_69 rfl (Or.inl ⟨rfl, rfl⟩))
theorem fX3_sortOf_70 {X : tp_X} {az : Array Value} (hG : tp_Good X az) (hSt : tp_Stat X) : tp_Fit X yX3_sortOf cX3_sortOf (some .int) 1 tp_nm tp_by tp_ml tp_rtt 70 [o_ald (.aload_n 0) 0, o_int (.bipush 99) 99, o_int (.bipush 111) 111, o_int (.bipush 115) 115, o_int (.bipush 116) 116, o_cs (.invokestatic 174) kX3_w4 4 0, o_cv (.invokevirtual 220) 3 kX3_isWord 1 0, o_ifeq 7 92, o_int (.iconst 5) 5, o_goto 25 114] :=
  fG mo_ald (sim_ald_n dX3_sortOf_70 rfl) <|
  fG mo_int (sim_bipush dX3_sortOf_71 (by decide)) <|
  fG mo_int (sim_bipush dX3_sortOf_73 (by decide)) <|
  fG mo_int (sim_bipush dX3_sortOf_75 (by decide)) <|
  fG mo_int (sim_bipush dX3_sortOf_77 (by decide)) <|
  fC (ic_cs (Or.inl rfl)) (sim_cs hG dX3_sortOf_79 M_X3_w4 (by rw [nm_X3_w4]; rfl) (by rw [nm_X3_w4]; exact q1494) (by rw [nm_X3_w4]; exact q1495)) <|
  fC (ic_cv (Or.inl rfl)) (sim_cv hG dX3_sortOf_82 (hG.2.1 3 _ hc_3).2.1 M_X3_isWord (by rw [nm_X3_isWord]; rfl) (by rw [nm_X3_isWord]; exact q1490) (by rw [nm_X3_isWord]; exact q1492) (by rw [nm_X3_isWord]; exact qs57)) <|
  fG mo_ifeq (sim_ifeq dX3_sortOf_85 rfl) <|
  fG mo_int (sim_iconst dX3_sortOf_88 (by decide)) <|
  fG mo_goto (sim_goto dX3_sortOf_89 rfl) <|
  trivial
theorem fX3_sortOf_92 {X : tp_X} {az : Array Value} (hG : tp_Good X az) (hSt : tp_Stat X) : tp_Fit X yX3_sortOf cX3_sortOf (some .int) 1 tp_nm tp_by tp_ml tp_rtt 92 [o_ald (.aload_n 0) 0, o_int (.bipush 105) 105, o_int (.bipush 99) 99, o_int (.bipush 101) 101, o_cs (.invokestatic 146) kX3_w3 3 0, o_cv (.invokevirtual 220) 3 kX3_isWord 1 0, o_ifeq 8 113, o_int (.bipush 6) 6, o_goto 4 114] :=
  fG mo_ald (sim_ald_n dX3_sortOf_92 rfl) <|
  fG mo_int (sim_bipush dX3_sortOf_93 (by decide)) <|
  fG mo_int (sim_bipush dX3_sortOf_95 (by decide)) <|
  fG mo_int (sim_bipush dX3_sortOf_97 (by decide)) <|
  fC (ic_cs (Or.inl rfl)) (sim_cs hG dX3_sortOf_99 M_X3_w3 (by rw [nm_X3_w3]; rfl) (by rw [nm_X3_w3]; exact q1487) (by rw [nm_X3_w3]; exact q1488)) <|
  fC (ic_cv (Or.inl rfl)) (sim_cv hG dX3_sortOf_102 (hG.2.1 3 _ hc_3).2.1 M_X3_isWord (by rw [nm_X3_isWord]; rfl) (by rw [nm_X3_isWord]; exact q1490) (by rw [nm_X3_isWord]; exact q1492) (by rw [nm_X3_isWord]; exact qs57)) <|
  fG mo_ifeq (sim_ifeq dX3_sortOf_105 rfl) <|
  fG mo_int (sim_bipush dX3_sortOf_108 (by decide)) <|
  fG mo_goto (sim_goto dX3_sortOf_110 rfl) <|
  trivial
theorem fX3_sortOf_113 {X : tp_X} {az : Array Value} (hG : tp_Good X az) (hSt : tp_Stat X) : tp_Fit X yX3_sortOf cX3_sortOf (some .int) 1 tp_nm tp_by tp_ml tp_rtt 113 [o_int (.iconst 0) 0, o_fall 114] :=
  fG mo_int (sim_iconst dX3_sortOf_113 (by decide)) <|
  fF
theorem fX3_sortOf_114 {X : tp_X} {az : Array Value} (hG : tp_Good X az) (hSt : tp_Stat X) : tp_Fit X yX3_sortOf cX3_sortOf (some .int) 1 tp_nm tp_by tp_ml tp_rtt 114 [o_iret 0] :=
  fE ie_iret (sim_iret dX3_sortOf_114 rfl (Or.inl ⟨rfl, rfl⟩))
theorem F_X3_sortOf {X : tp_X} {az : Array Value} (hG : tp_Good X az) (hSt : tp_Stat X) (pc : Nat) : tp_Fit X yX3_sortOf cX3_sortOf (some .int) 1 tp_nm tp_by tp_ml tp_rtt pc (mX3_sortOf pc) :=
  fI (fX3_sortOf_0 hG hSt) <| fI (fX3_sortOf_18 hG hSt) <| fI (fX3_sortOf_38 hG hSt) <| fI (fX3_sortOf_58 hG hSt) <| fI (fX3_sortOf_70 hG hSt) <| fI (fX3_sortOf_92 hG hSt) <| fI (fX3_sortOf_113 hG hSt) <| fI (fX3_sortOf_114 hG hSt) <| trivial
theorem fX3_w3_0 {X : tp_X} {az : Array Value} (hG : tp_Good X az) (hSt : tp_Stat X) : tp_Fit X yX3_w3 cX3_w3 (some .long) 3 tp_nm tp_by tp_ml tp_rtt 0 [o_ild (.iload_n 0) 0, o_i2l, o_int (.bipush 8) 8, o_lshl, o_ild (.iload_n 1) 1, o_i2l, o_lor, o_int (.bipush 8) 8, o_lshl, o_ild (.iload_n 2) 2, o_i2l, o_lor, o_lret] :=
  fG mo_ild (sim_ild_n dX3_w3_0 rfl) <|
  fG mo_i2l (sim_i2l dX3_w3_1) <|
  fG mo_int (sim_bipush dX3_w3_2 (by decide)) <|
  fG mo_lshl (sim_lshl dX3_w3_4) <|
  fG mo_ild (sim_ild_n dX3_w3_5 rfl) <|
  fG mo_i2l (sim_i2l dX3_w3_6) <|
  fG mo_lor (sim_lor dX3_w3_7) <|
  fG mo_int (sim_bipush dX3_w3_8 (by decide)) <|
  fG mo_lshl (sim_lshl dX3_w3_10) <|
  fG mo_ild (sim_ild_n dX3_w3_11 rfl) <|
  fG mo_i2l (sim_i2l dX3_w3_12) <|
  fG mo_lor (sim_lor dX3_w3_13) <|
  fE ie_lret (sim_lret dX3_w3_14 rfl)
theorem F_X3_w3 {X : tp_X} {az : Array Value} (hG : tp_Good X az) (hSt : tp_Stat X) (pc : Nat) : tp_Fit X yX3_w3 cX3_w3 (some .long) 3 tp_nm tp_by tp_ml tp_rtt pc (mX3_w3 pc) :=
  fI (fX3_w3_0 hG hSt) <| trivial
theorem fX3_isWord_0 {X : tp_X} {az : Array Value} (hG : tp_Good X az) (hSt : tp_Stat X) : tp_Fit X yX3_isWord cX3_isWord (some .boolean) 3 tp_nm tp_by tp_ml tp_rtt 0 [o_ald (.aload_n 0) 0, o_getf (.getfield 129) 3 12, o_int (.iconst 2) 2, o_icmpne 16 21, o_ald (.aload_n 0) 0, o_getf (.getfield 142) 3 14, o_lld (.lload_n 1) 1, o_lcmp, o_ifne 7 21, o_int (.iconst 1) 1, o_goto 4 22] :=
  fG mo_ald (sim_ald_n dX3_isWord_0 rfl) <|
  fG mo_getf (sim_getfG hG dX3_isWord_1 hc_3 (by decide) rfl in_X3 (fun _ _ _ h => h) (Or.inl q1264)) <|
  fG mo_int (sim_iconst dX3_isWord_4 (by decide)) <|
  fG mo_icmpne (sim_icmpne dX3_isWord_5 rfl) <|
  fG mo_ald (sim_ald_n dX3_isWord_8 rfl) <|
  fG mo_getf (sim_getfG hG dX3_isWord_9 hc_3 (by decide) rfl in_X3 (fun _ _ _ h => h) (Or.inl q1266)) <|
  fG mo_lld (sim_lld_n dX3_isWord_12 rfl) <|
  fG mo_lcmp (sim_lcmp dX3_isWord_13) <|
  fG mo_ifne (sim_ifne dX3_isWord_14 rfl) <|
  fG mo_int (sim_iconst dX3_isWord_17 (by decide)) <|
  fG mo_goto (sim_goto dX3_isWord_18 rfl) <|
  trivial
theorem fX3_isWord_21 {X : tp_X} {az : Array Value} (hG : tp_Good X az) (hSt : tp_Stat X) : tp_Fit X yX3_isWord cX3_isWord (some .boolean) 3 tp_nm tp_by tp_ml tp_rtt 21 [o_int (.iconst 0) 0, o_fall 22] :=
  fG mo_int (sim_iconst dX3_isWord_21 (by decide)) <|
  fF
theorem fX3_isWord_22 {X : tp_X} {az : Array Value} (hG : tp_Good X az) (hSt : tp_Stat X) : tp_Fit X yX3_isWord cX3_isWord (some .boolean) 3 tp_nm tp_by tp_ml tp_rtt 22 [o_iret 1] :=
  fE ie_iret (sim_iret dX3_isWord_22 rfl (Or.inr (Or.inl ⟨rfl, rfl⟩)))
theorem F_X3_isWord {X : tp_X} {az : Array Value} (hG : tp_Good X az) (hSt : tp_Stat X) (pc : Nat) : tp_Fit X yX3_isWord cX3_isWord (some .boolean) 3 tp_nm tp_by tp_ml tp_rtt pc (mX3_isWord pc) :=
  fI (fX3_isWord_0 hG hSt) <| fI (fX3_isWord_21 hG hSt) <| fI (fX3_isWord_22 hG hSt) <| trivial
theorem fX3_w4_0 {X : tp_X} {az : Array Value} (hG : tp_Good X az) (hSt : tp_Stat X) : tp_Fit X yX3_w4 cX3_w4 (some .long) 4 tp_nm tp_by tp_ml tp_rtt 0 [o_ild (.iload_n 0) 0, o_ild (.iload_n 1) 1, o_ild (.iload_n 2) 2, o_cs (.invokestatic 146) kX3_w3 3 0, o_int (.bipush 8) 8, o_lshl, o_ild (.iload_n 3) 3, o_i2l, o_lor, o_lret] :=
  fG mo_ild (sim_ild_n dX3_w4_0 rfl) <|
  fG mo_ild (sim_ild_n dX3_w4_1 rfl) <|
  fG mo_ild (sim_ild_n dX3_w4_2 rfl) <|
  fC (ic_cs (Or.inl rfl)) (sim_cs hG dX3_w4_3 M_X3_w3 (by rw [nm_X3_w3]; rfl) (by rw [nm_X3_w3]; exact q1487) (by rw [nm_X3_w3]; exact q1488)) <|
  fG mo_int (sim_bipush dX3_w4_6 (by decide)) <|
  fG mo_lshl (sim_lshl dX3_w4_8) <|
  fG mo_ild (sim_ild_n dX3_w4_9 rfl) <|
  fG mo_i2l (sim_i2l dX3_w4_10) <|
  fG mo_lor (sim_lor dX3_w4_11) <|
  fE ie_lret (sim_lret dX3_w4_12 rfl)
theorem F_X3_w4 {X : tp_X} {az : Array Value} (hG : tp_Good X az) (hSt : tp_Stat X) (pc : Nat) : tp_Fit X yX3_w4 cX3_w4 (some .long) 4 tp_nm tp_by tp_ml tp_rtt pc (mX3_w4 pc) :=
  fI (fX3_w4_0 hG hSt) <| trivial
theorem fX3_goesBy_0 {X : tp_X} {az : Array Value} (hG : tp_Good X az) (hSt : tp_Stat X) : tp_Fit X yX3_goesBy cX3_goesBy (some .int) 2 tp_nm tp_by tp_ml tp_rtt 0 [o_ald (.aload_n 0) 0, o_getf (.getfield 129) 3 12, o_int (.iconst 1) 1, o_icmpeq 5 10, o_int (.iconst 1) 1, o_iret 0] :=
  fG mo_ald (sim_ald_n dX3_goesBy_0 rfl) <|
  fG mo_getf (sim_getfG hG dX3_goesBy_1 hc_3 (by decide) rfl in_X3 (fun _ _ _ h => h) (Or.inl q1264)) <|
  fG mo_int (sim_iconst dX3_goesBy_4 (by decide)) <|
  fG mo_icmpeq (sim_icmpeq dX3_goesBy_5 rfl) <|
  fG mo_int (sim_iconst dX3_goesBy_8 (by decide)) <|
  fE ie_iret (sim_iret dX3_goesBy_9 rfl (Or.inl ⟨rfl, rfl⟩))
theorem fX3_goesBy_10 {X : tp_X} {az : Array Value} (hG : tp_Good X az) (hSt : tp_Stat X) : tp_Fit X yX3_goesBy cX3_goesBy (some .int) 2 tp_nm tp_by tp_ml tp_rtt 10 [o_ald (.aload_n 0) 0, o_getf (.getfield 135) 3 13, o_int (.bipush 7) 7, o_icmple 5 21, o_int (.iconst 2) 2, o_iret 0] :=
  fG mo_ald (sim_ald_n dX3_goesBy_10 rfl) <|
  fG mo_getf (sim_getfG hG dX3_goesBy_11 hc_3 (by decide) rfl in_X3 (fun _ _ _ h => h) (Or.inl q1265)) <|
  fG mo_int (sim_bipush dX3_goesBy_14 (by decide)) <|
  fG mo_icmple (sim_icmple dX3_goesBy_16 rfl) <|
  fG mo_int (sim_iconst dX3_goesBy_19 (by decide)) <|
  fE ie_iret (sim_iret dX3_goesBy_20 rfl (Or.inl ⟨rfl, rfl⟩))
theorem fX3_goesBy_21 {X : tp_X} {az : Array Value} (hG : tp_Good X az) (hSt : tp_Stat X) : tp_Fit X yX3_goesBy cX3_goesBy (some .int) 2 tp_nm tp_by tp_ml tp_rtt 21 [o_ald (.aload_n 0) 0, o_getf (.getfield 16) 3 5, o_ild (.iload_n 1) 1, o_int (.iconst 1) 1, o_iadd, o_ald (.aload_n 0) 0, o_getf (.getfield 135) 3 13, o_sta .iastore [0], o_ald (.aload_n 0) 0, o_cv (.invokevirtual 189) 3 kX3_nextToken 0 0, o_ald (.aload_n 0) 0, o_int (.bipush 119) 119, o_int (.bipush 104) 104, o_int (.bipush 101) 101, o_int (.bipush 110) 110, o_cs (.invokestatic 174) kX3_w4 4 0, o_cv (.invokevirtual 220) 3 kX3_isWord 1 0, o_ifne 5 57, o_int (.iconst 1) 1, o_iret 0] :=
  fG mo_ald (sim_ald_n dX3_goesBy_21 rfl) <|
  fG mo_getf (sim_getfG hG dX3_goesBy_22 hc_3 (by decide) rfl in_X3 (fun _ _ _ h => h) (Or.inl q1257)) <|
  fG mo_ild (sim_ild_n dX3_goesBy_25 rfl) <|
  fG mo_int (sim_iconst dX3_goesBy_26 (by decide)) <|
  fG mo_iadd (sim_iadd dX3_goesBy_27) <|
  fG mo_ald (sim_ald_n dX3_goesBy_28 rfl) <|
  fG mo_getf (sim_getfG hG dX3_goesBy_29 hc_3 (by decide) rfl in_X3 (fun _ _ _ h => h) (Or.inl q1265)) <|
  fG mo_sta (sim_iast dX3_goesBy_32) <|
  fG mo_ald (sim_ald_n dX3_goesBy_33 rfl) <|
  fC (ic_cv (Or.inl rfl)) (sim_cv hG dX3_goesBy_34 (hG.2.1 3 _ hc_3).2.1 M_X3_nextToken (by rw [nm_X3_nextToken]; rfl) (by rw [nm_X3_nextToken]; exact q1464) (by rw [nm_X3_nextToken]; exact q1466) (by rw [nm_X3_nextToken]; exact qs53)) <|
  fG mo_ald (sim_ald_n dX3_goesBy_37 rfl) <|
  fG mo_int (sim_bipush dX3_goesBy_38 (by decide)) <|
  fG mo_int (sim_bipush dX3_goesBy_40 (by decide)) <|
  fG mo_int (sim_bipush dX3_goesBy_42 (by decide)) <|
  fG mo_int (sim_bipush dX3_goesBy_44 (by decide)) <|
  fC (ic_cs (Or.inl rfl)) (sim_cs hG dX3_goesBy_46 M_X3_w4 (by rw [nm_X3_w4]; rfl) (by rw [nm_X3_w4]; exact q1494) (by rw [nm_X3_w4]; exact q1495)) <|
  fC (ic_cv (Or.inl rfl)) (sim_cv hG dX3_goesBy_49 (hG.2.1 3 _ hc_3).2.1 M_X3_isWord (by rw [nm_X3_isWord]; rfl) (by rw [nm_X3_isWord]; exact q1490) (by rw [nm_X3_isWord]; exact q1492) (by rw [nm_X3_isWord]; exact qs57)) <|
  fG mo_ifne (sim_ifne dX3_goesBy_52 rfl) <|
  fG mo_int (sim_iconst dX3_goesBy_55 (by decide)) <|
  fE ie_iret (sim_iret dX3_goesBy_56 rfl (Or.inl ⟨rfl, rfl⟩))
theorem fX3_goesBy_57 {X : tp_X} {az : Array Value} (hG : tp_Good X az) (hSt : tp_Stat X) : tp_Fit X yX3_goesBy cX3_goesBy (some .int) 2 tp_nm tp_by tp_ml tp_rtt 57 [o_ald (.aload_n 0) 0, o_cv (.invokevirtual 189) 3 kX3_nextToken 0 0, o_int (.iconst 0) 0, o_iret 0] :=
  fG mo_ald (sim_ald_n dX3_goesBy_57 rfl) <|
  fC (ic_cv (Or.inl rfl)) (sim_cv hG dX3_goesBy_58 (hG.2.1 3 _ hc_3).2.1 M_X3_nextToken (by rw [nm_X3_nextToken]; rfl) (by rw [nm_X3_nextToken]; exact q1464) (by rw [nm_X3_nextToken]; exact q1466) (by rw [nm_X3_nextToken]; exact qs53)) <|
  fG mo_int (sim_iconst dX3_goesBy_61 (by decide)) <|
  fE ie_iret (sim_iret dX3_goesBy_62 rfl (Or.inl ⟨rfl, rfl⟩))
theorem F_X3_goesBy {X : tp_X} {az : Array Value} (hG : tp_Good X az) (hSt : tp_Stat X) (pc : Nat) : tp_Fit X yX3_goesBy cX3_goesBy (some .int) 2 tp_nm tp_by tp_ml tp_rtt pc (mX3_goesBy pc) :=
  fI (fX3_goesBy_0 hG hSt) <| fI (fX3_goesBy_10 hG hSt) <| fI (fX3_goesBy_21 hG hSt) <| fI (fX3_goesBy_57 hG hSt) <| trivial
theorem fX3_summed_0 {X : tp_X} {az : Array Value} (hG : tp_Good X az) (hSt : tp_Stat X) : tp_Fit X yX3_summed cX3_summed (some .int) 2 tp_nm tp_by tp_ml tp_rtt 0 [o_ald (.aload_n 0) 0, o_int (.iconst 0) 0, o_putf (.putfield 160) 3 20 0, o_ald (.aload_n 0) 0, o_int (.iconst 0) 0, o_putf (.putfield 163) 3 22 1, o_fall 10] :=
  fG mo_ald (sim_ald_n dX3_summed_0 rfl) <|
  fG mo_int (sim_iconst dX3_summed_1 (by decide)) <|
  fG mo_putf (sim_putf hG dX3_summed_2 hc_3 (by decide) rfl (by decide) in_X3 tyX3_ok nmX3 (Or.inl ⟨rfl, rfl⟩) (fun _ _ _ h => h) rfl q1270) <|
  fG mo_ald (sim_ald_n dX3_summed_5 rfl) <|
  fG mo_int (sim_iconst dX3_summed_6 (by decide)) <|
  fG mo_putf (sim_putf hG dX3_summed_7 hc_3 (by decide) rfl (by decide) in_X3 tyX3_ok nmX3 (Or.inr (Or.inl ⟨rfl, rfl⟩)) (fun _ _ _ h => h) rfl q1272) <|
  fF
theorem fX3_summed_10 {X : tp_X} {az : Array Value} (hG : tp_Good X az) (hSt : tp_Stat X) : tp_Fit X yX3_summed cX3_summed (some .int) 2 tp_nm tp_by tp_ml tp_rtt 10 [o_ald (.aload_n 0) 0, o_getf (.getfield 163) 3 22, o_ifeq 10 24, o_ald (.aload_n 0) 0, o_cv (.invokevirtual 211) 3 kX3_goesOn 0 0, o_ifeq 31 52, o_fall 24] :=
  fG mo_ald (sim_ald_n dX3_summed_10 rfl) <|
  fG mo_getf (sim_getfG hG dX3_summed_11 hc_3 (by decide) rfl in_X3 (fun _ _ _ h => h) (Or.inl q1272)) <|
  fG mo_ifeq (sim_ifeq dX3_summed_14 rfl) <|
  fG mo_ald (sim_ald_n dX3_summed_17 rfl) <|
  fC (ic_cv (Or.inl rfl)) (sim_cv hG dX3_summed_18 (hG.2.1 3 _ hc_3).2.1 M_X3_goesOn (by rw [nm_X3_goesOn]; rfl) (by rw [nm_X3_goesOn]; exact q1506) (by rw [nm_X3_goesOn]; exact q1508) (by rw [nm_X3_goesOn]; exact qs60)) <|
  fG mo_ifeq (sim_ifeq dX3_summed_21 rfl) <|
  fF
theorem fX3_summed_24 {X : tp_X} {az : Array Value} (hG : tp_Good X az) (hSt : tp_Stat X) : tp_Fit X yX3_summed cX3_summed (some .int) 2 tp_nm tp_by tp_ml tp_rtt 24 [o_ald (.aload_n 0) 0, o_getf (.getfield 163) 3 22, o_ifeq 10 38, o_ald (.aload_n 0) 0, o_cv (.invokevirtual 214) 3 kX3_behindOne 0 0, o_goto 7 42] :=
  fG mo_ald (sim_ald_n dX3_summed_24 rfl) <|
  fG mo_getf (sim_getfG hG dX3_summed_25 hc_3 (by decide) rfl in_X3 (fun _ _ _ h => h) (Or.inl q1272)) <|
  fG mo_ifeq (sim_ifeq dX3_summed_28 rfl) <|
  fG mo_ald (sim_ald_n dX3_summed_31 rfl) <|
  fC (ic_cv (Or.inl rfl)) (sim_cv hG dX3_summed_32 (hG.2.1 3 _ hc_3).2.1 M_X3_behindOne (by rw [nm_X3_behindOne]; rfl) (by rw [nm_X3_behindOne]; exact q1514) (by rw [nm_X3_behindOne]; exact q1516) (by rw [nm_X3_behindOne]; exact qs62)) <|
  fG mo_goto (sim_goto dX3_summed_35 rfl) <|
  trivial
theorem fX3_summed_38 {X : tp_X} {az : Array Value} (hG : tp_Good X az) (hSt : tp_Stat X) : tp_Fit X yX3_summed cX3_summed (some .int) 2 tp_nm tp_by tp_ml tp_rtt 38 [o_ald (.aload_n 0) 0, o_cv (.invokevirtual 217) 3 kX3_beginOne 0 0, o_fall 42] :=
  fG mo_ald (sim_ald_n dX3_summed_38 rfl) <|
  fC (ic_cv (Or.inl rfl)) (sim_cv hG dX3_summed_39 (hG.2.1 3 _ hc_3).2.1 M_X3_beginOne (by rw [nm_X3_beginOne]; rfl) (by rw [nm_X3_beginOne]; exact q1534) (by rw [nm_X3_beginOne]; exact q1536) (by rw [nm_X3_beginOne]; exact qs67)) <|
  fF
theorem fX3_summed_42 {X : tp_X} {az : Array Value} (hG : tp_Good X az) (hSt : tp_Stat X) : tp_Fit X yX3_summed cX3_summed (some .int) 2 tp_nm tp_by tp_ml tp_rtt 42 [o_ist (.istore_n 1) 1, o_ild (.iload_n 1) 1, o_ifeq 5 49, o_ild (.iload_n 1) 1, o_iret 0] :=
  fG mo_ist (sim_ist_n dX3_summed_42 rfl) <|
  fG mo_ild (sim_ild_n dX3_summed_43 rfl) <|
  fG mo_ifeq (sim_ifeq dX3_summed_44 rfl) <|
  fG mo_ild (sim_ild_n dX3_summed_47 rfl) <|
  fE ie_iret (sim_iret dX3_summed_48 rfl (Or.inl ⟨rfl, rfl⟩))
theorem fX3_summed_49 {X : tp_X} {az : Array Value} (hG : tp_Good X az) (hSt : tp_Stat X) : tp_Fit X yX3_summed cX3_summed (some .int) 2 tp_nm tp_by tp_ml tp_rtt 49 [o_goto (-39) 10] :=
  fG mo_goto (sim_goto dX3_summed_49 rfl) <|
  trivial
theorem fX3_summed_52 {X : tp_X} {az : Array Value} (hG : tp_Good X az) (hSt : tp_Stat X) : tp_Fit X yX3_summed cX3_summed (some .int) 2 tp_nm tp_by tp_ml tp_rtt 52 [o_ald (.aload_n 0) 0, o_int (.iconst 3) 3, o_cv (.invokevirtual 208) 3 kX3_settle 1 0, o_ald (.aload_n 0) 0, o_getf (.getfield 160) 3 20, o_ifle 7 68, o_int (.iconst 1) 1, o_goto 4 69] :=
  fG mo_ald (sim_ald_n dX3_summed_52 rfl) <|
  fG mo_int (sim_iconst dX3_summed_53 (by decide)) <|
  fC (ic_cv (Or.inl rfl)) (sim_cv hG dX3_summed_54 (hG.2.1 3 _ hc_3).2.1 M_X3_settle (by rw [nm_X3_settle]; rfl) (by rw [nm_X3_settle]; exact q1518) (by rw [nm_X3_settle]; exact q1520) (by rw [nm_X3_settle]; exact qs63)) <|
  fG mo_ald (sim_ald_n dX3_summed_57 rfl) <|
  fG mo_getf (sim_getfG hG dX3_summed_58 hc_3 (by decide) rfl in_X3 (fun _ _ _ h => h) (Or.inl q1270)) <|
  fG mo_ifle (sim_ifle dX3_summed_61 rfl) <|
  fG mo_int (sim_iconst dX3_summed_64 (by decide)) <|
  fG mo_goto (sim_goto dX3_summed_65 rfl) <|
  trivial
theorem fX3_summed_68 {X : tp_X} {az : Array Value} (hG : tp_Good X az) (hSt : tp_Stat X) : tp_Fit X yX3_summed cX3_summed (some .int) 2 tp_nm tp_by tp_ml tp_rtt 68 [o_int (.iconst 0) 0, o_fall 69] :=
  fG mo_int (sim_iconst dX3_summed_68 (by decide)) <|
  fF
theorem fX3_summed_69 {X : tp_X} {az : Array Value} (hG : tp_Good X az) (hSt : tp_Stat X) : tp_Fit X yX3_summed cX3_summed (some .int) 2 tp_nm tp_by tp_ml tp_rtt 69 [o_iret 0] :=
  fE ie_iret (sim_iret dX3_summed_69 rfl (Or.inl ⟨rfl, rfl⟩))
theorem F_X3_summed {X : tp_X} {az : Array Value} (hG : tp_Good X az) (hSt : tp_Stat X) (pc : Nat) : tp_Fit X yX3_summed cX3_summed (some .int) 2 tp_nm tp_by tp_ml tp_rtt pc (mX3_summed pc) :=
  fI (fX3_summed_0 hG hSt) <| fI (fX3_summed_10 hG hSt) <| fI (fX3_summed_24 hG hSt) <| fI (fX3_summed_38 hG hSt) <| fI (fX3_summed_42 hG hSt) <| fI (fX3_summed_49 hG hSt) <| fI (fX3_summed_52 hG hSt) <| fI (fX3_summed_68 hG hSt) <| fI (fX3_summed_69 hG hSt) <| trivial
theorem fX3_goesOn_0 {X : tp_X} {az : Array Value} (hG : tp_Good X az) (hSt : tp_Stat X) : tp_Fit X yX3_goesOn cX3_goesOn (some .boolean) 1 tp_nm tp_by tp_ml tp_rtt 0 [o_ald (.aload_n 0) 0, o_getf (.getfield 129) 3 12, o_int (.bipush 43) 43, o_icmpeq 46 52, o_ald (.aload_n 0) 0, o_getf (.getfield 129) 3 12, o_int (.bipush 45) 45, o_icmpeq 37 52, o_ald (.aload_n 0) 0, o_getf (.getfield 129) 3 12, o_int (.bipush 42) 42, o_icmpeq 28 52, o_ald (.aload_n 0) 0, o_getf (.getfield 129) 3 12, o_int (.bipush 47) 47, o_icmpeq 19 52, o_ald (.aload_n 0) 0, o_getf (.getfield 129) 3 12, o_int (.bipush 41) 41, o_icmpne 14 56, o_ald (.aload_n 0) 0, o_cv (.invokevirtual 204) 3 kX3_hasParen 0 0, o_ifeq 7 56, o_fall 52] :=
  fG mo_ald (sim_ald_n dX3_goesOn_0 rfl) <|
  fG mo_getf (sim_getfG hG dX3_goesOn_1 hc_3 (by decide) rfl in_X3 (fun _ _ _ h => h) (Or.inl q1264)) <|
  fG mo_int (sim_bipush dX3_goesOn_4 (by decide)) <|
  fG mo_icmpeq (sim_icmpeq dX3_goesOn_6 rfl) <|
  fG mo_ald (sim_ald_n dX3_goesOn_9 rfl) <|
  fG mo_getf (sim_getfG hG dX3_goesOn_10 hc_3 (by decide) rfl in_X3 (fun _ _ _ h => h) (Or.inl q1264)) <|
  fG mo_int (sim_bipush dX3_goesOn_13 (by decide)) <|
  fG mo_icmpeq (sim_icmpeq dX3_goesOn_15 rfl) <|
  fG mo_ald (sim_ald_n dX3_goesOn_18 rfl) <|
  fG mo_getf (sim_getfG hG dX3_goesOn_19 hc_3 (by decide) rfl in_X3 (fun _ _ _ h => h) (Or.inl q1264)) <|
  fG mo_int (sim_bipush dX3_goesOn_22 (by decide)) <|
  fG mo_icmpeq (sim_icmpeq dX3_goesOn_24 rfl) <|
  fG mo_ald (sim_ald_n dX3_goesOn_27 rfl) <|
  fG mo_getf (sim_getfG hG dX3_goesOn_28 hc_3 (by decide) rfl in_X3 (fun _ _ _ h => h) (Or.inl q1264)) <|
  fG mo_int (sim_bipush dX3_goesOn_31 (by decide)) <|
  fG mo_icmpeq (sim_icmpeq dX3_goesOn_33 rfl) <|
  fG mo_ald (sim_ald_n dX3_goesOn_36 rfl) <|
  fG mo_getf (sim_getfG hG dX3_goesOn_37 hc_3 (by decide) rfl in_X3 (fun _ _ _ h => h) (Or.inl q1264)) <|
  fG mo_int (sim_bipush dX3_goesOn_40 (by decide)) <|
  fG mo_icmpne (sim_icmpne dX3_goesOn_42 rfl) <|
  fG mo_ald (sim_ald_n dX3_goesOn_45 rfl) <|
  fC (ic_cv (Or.inl rfl)) (sim_cv hG dX3_goesOn_46 (hG.2.1 3 _ hc_3).2.1 M_X3_hasParen (by rw [nm_X3_hasParen]; rfl) (by rw [nm_X3_hasParen]; exact q1510) (by rw [nm_X3_hasParen]; exact q1512) (by rw [nm_X3_hasParen]; exact qs61)) <|
  fG mo_ifeq (sim_ifeq dX3_goesOn_49 rfl) <|
  fF
theorem fX3_goesOn_52 {X : tp_X} {az : Array Value} (hG : tp_Good X az) (hSt : tp_Stat X) : tp_Fit X yX3_goesOn cX3_goesOn (some .boolean) 1 tp_nm tp_by tp_ml tp_rtt 52 [o_int (.iconst 1) 1, o_goto 4 57] :=
  fG mo_int (sim_iconst dX3_goesOn_52 (by decide)) <|
  fG mo_goto (sim_goto dX3_goesOn_53 rfl) <|
  trivial
theorem fX3_goesOn_56 {X : tp_X} {az : Array Value} (hG : tp_Good X az) (hSt : tp_Stat X) : tp_Fit X yX3_goesOn cX3_goesOn (some .boolean) 1 tp_nm tp_by tp_ml tp_rtt 56 [o_int (.iconst 0) 0, o_fall 57] :=
  fG mo_int (sim_iconst dX3_goesOn_56 (by decide)) <|
  fF
theorem fX3_goesOn_57 {X : tp_X} {az : Array Value} (hG : tp_Good X az) (hSt : tp_Stat X) : tp_Fit X yX3_goesOn cX3_goesOn (some .boolean) 1 tp_nm tp_by tp_ml tp_rtt 57 [o_iret 1] :=
  fE ie_iret (sim_iret dX3_goesOn_57 rfl (Or.inr (Or.inl ⟨rfl, rfl⟩)))
theorem F_X3_goesOn {X : tp_X} {az : Array Value} (hG : tp_Good X az) (hSt : tp_Stat X) (pc : Nat) : tp_Fit X yX3_goesOn cX3_goesOn (some .boolean) 1 tp_nm tp_by tp_ml tp_rtt pc (mX3_goesOn pc) :=
  fI (fX3_goesOn_0 hG hSt) <| fI (fX3_goesOn_52 hG hSt) <| fI (fX3_goesOn_56 hG hSt) <| fI (fX3_goesOn_57 hG hSt) <| trivial
theorem fX3_hasParen_0 {X : tp_X} {az : Array Value} (hG : tp_Good X az) (hSt : tp_Stat X) : tp_Fit X yX3_hasParen cX3_hasParen (some .boolean) 2 tp_nm tp_by tp_ml tp_rtt 0 [o_int (.iconst 0) 0, o_ist (.istore_n 1) 1, o_fall 2] :=
  fG mo_int (sim_iconst dX3_hasParen_0 (by decide)) <|
  fG mo_ist (sim_ist_n dX3_hasParen_1 rfl) <|
  fF
theorem fX3_hasParen_2 {X : tp_X} {az : Array Value} (hG : tp_Good X az) (hSt : tp_Stat X) : tp_Fit X yX3_hasParen cX3_hasParen (some .boolean) 2 tp_nm tp_by tp_ml tp_rtt 2 [o_ild (.iload_n 1) 1, o_ald (.aload_n 0) 0, o_getf (.getfield 160) 3 20, o_icmpge 22 29, o_ald (.aload_n 0) 0, o_getf (.getfield 29) 3 19, o_ild (.iload_n 1) 1, o_lda .iaload [0, 20], o_int (.bipush 40) 40, o_icmpne 5 23, o_int (.iconst 1) 1, o_iret 1] :=
  fG mo_ild (sim_ild_n dX3_hasParen_2 rfl) <|
  fG mo_ald (sim_ald_n dX3_hasParen_3 rfl) <|
  fG mo_getf (sim_getfG hG dX3_hasParen_4 hc_3 (by decide) rfl in_X3 (fun _ _ _ h => h) (Or.inl q1270)) <|
  fG mo_icmpge (sim_icmpge dX3_hasParen_7 rfl) <|
  fG mo_ald (sim_ald_n dX3_hasParen_10 rfl) <|
  fG mo_getf (sim_getfG hG dX3_hasParen_11 hc_3 (by decide) rfl in_X3 (fun _ _ _ h => h) (Or.inl q1269)) <|
  fG mo_ild (sim_ild_n dX3_hasParen_14 rfl) <|
  fG mo_lda (sim_iald dX3_hasParen_15) <|
  fG mo_int (sim_bipush dX3_hasParen_16 (by decide)) <|
  fG mo_icmpne (sim_icmpne dX3_hasParen_18 rfl) <|
  fG mo_int (sim_iconst dX3_hasParen_21 (by decide)) <|
  fE ie_iret (sim_iret dX3_hasParen_22 rfl (Or.inr (Or.inl ⟨rfl, rfl⟩)))
theorem fX3_hasParen_23 {X : tp_X} {az : Array Value} (hG : tp_Good X az) (hSt : tp_Stat X) : tp_Fit X yX3_hasParen cX3_hasParen (some .boolean) 2 tp_nm tp_by tp_ml tp_rtt 23 [o_inc 1 1, o_goto (-24) 2] :=
  fG mo_inc (sim_inc dX3_hasParen_23 (by decide)) <|
  fG mo_goto (sim_goto dX3_hasParen_26 rfl) <|
  trivial
theorem fX3_hasParen_29 {X : tp_X} {az : Array Value} (hG : tp_Good X az) (hSt : tp_Stat X) : tp_Fit X yX3_hasParen cX3_hasParen (some .boolean) 2 tp_nm tp_by tp_ml tp_rtt 29 [o_int (.iconst 0) 0, o_iret 1] :=
  fG mo_int (sim_iconst dX3_hasParen_29 (by decide)) <|
  fE ie_iret (sim_iret dX3_hasParen_30 rfl (Or.inr (Or.inl ⟨rfl, rfl⟩)))
theorem F_X3_hasParen {X : tp_X} {az : Array Value} (hG : tp_Good X az) (hSt : tp_Stat X) (pc : Nat) : tp_Fit X yX3_hasParen cX3_hasParen (some .boolean) 2 tp_nm tp_by tp_ml tp_rtt pc (mX3_hasParen pc) :=
  fI (fX3_hasParen_0 hG hSt) <| fI (fX3_hasParen_2 hG hSt) <| fI (fX3_hasParen_23 hG hSt) <| fI (fX3_hasParen_29 hG hSt) <| trivial
theorem fX3_behindOne_0 {X : tp_X} {az : Array Value} (hG : tp_Good X az) (hSt : tp_Stat X) : tp_Fit X yX3_behindOne cX3_behindOne (some .int) 2 tp_nm tp_by tp_ml tp_rtt 0 [o_ald (.aload_n 0) 0, o_getf (.getfield 129) 3 12, o_ist (.istore_n 1) 1, o_ild (.iload_n 1) 1, o_int (.bipush 43) 43, o_icmpeq 9 17, o_ild (.iload_n 1) 1, o_int (.bipush 45) 45, o_icmpne 31 45, o_fall 17] :=
  fG mo_ald (sim_ald_n dX3_behindOne_0 rfl) <|
  fG mo_getf (sim_getfG hG dX3_behindOne_1 hc_3 (by decide) rfl in_X3 (fun _ _ _ h => h) (Or.inl q1264)) <|
  fG mo_ist (sim_ist_n dX3_behindOne_4 rfl) <|
  fG mo_ild (sim_ild_n dX3_behindOne_5 rfl) <|
  fG mo_int (sim_bipush dX3_behindOne_6 (by decide)) <|
  fG mo_icmpeq (sim_icmpeq dX3_behindOne_8 rfl) <|
  fG mo_ild (sim_ild_n dX3_behindOne_11 rfl) <|
  fG mo_int (sim_bipush dX3_behindOne_12 (by decide)) <|
  fG mo_icmpne (sim_icmpne dX3_behindOne_14 rfl) <|
  fF
theorem fX3_behindOne_17 {X : tp_X} {az : Array Value} (hG : tp_Good X az) (hSt : tp_Stat X) : tp_Fit X yX3_behindOne cX3_behindOne (some .int) 2 tp_nm tp_by tp_ml tp_rtt 17 [o_ald (.aload_n 0) 0, o_int (.iconst 3) 3, o_cv (.invokevirtual 208) 3 kX3_settle 1 0, o_ald (.aload_n 0) 0, o_ild (.iload_n 1) 1, o_int (.bipush 43) 43, o_icmpne 7 33, o_int (.iconst 3) 3, o_goto 4 34] :=
  fG mo_ald (sim_ald_n dX3_behindOne_17 rfl) <|
  fG mo_int (sim_iconst dX3_behindOne_18 (by decide)) <|
  fC (ic_cv (Or.inl rfl)) (sim_cv hG dX3_behindOne_19 (hG.2.1 3 _ hc_3).2.1 M_X3_settle (by rw [nm_X3_settle]; rfl) (by rw [nm_X3_settle]; exact q1518) (by rw [nm_X3_settle]; exact q1520) (by rw [nm_X3_settle]; exact qs63)) <|
  fG mo_ald (sim_ald_n dX3_behindOne_22 rfl) <|
  fG mo_ild (sim_ild_n dX3_behindOne_23 rfl) <|
  fG mo_int (sim_bipush dX3_behindOne_24 (by decide)) <|
  fG mo_icmpne (sim_icmpne dX3_behindOne_26 rfl) <|
  fG mo_int (sim_iconst dX3_behindOne_29 (by decide)) <|
  fG mo_goto (sim_goto dX3_behindOne_30 rfl) <|
  trivial
theorem fX3_behindOne_33 {X : tp_X} {az : Array Value} (hG : tp_Good X az) (hSt : tp_Stat X) : tp_Fit X yX3_behindOne cX3_behindOne (some .int) 2 tp_nm tp_by tp_ml tp_rtt 33 [o_int (.iconst 4) 4, o_fall 34] :=
  fG mo_int (sim_iconst dX3_behindOne_33 (by decide)) <|
  fF
theorem fX3_behindOne_34 {X : tp_X} {az : Array Value} (hG : tp_Good X az) (hSt : tp_Stat X) : tp_Fit X yX3_behindOne cX3_behindOne (some .int) 2 tp_nm tp_by tp_ml tp_rtt 34 [o_cv (.invokevirtual 202) 3 kX3_push 1 0, o_ald (.aload_n 0) 0, o_int (.iconst 0) 0, o_putf (.putfield 163) 3 22 1, o_goto 73 115] :=
  fC (ic_cv (Or.inl rfl)) (sim_cv hG dX3_behindOne_34 (hG.2.1 3 _ hc_3).2.1 M_X3_push (by rw [nm_X3_push]; rfl) (by rw [nm_X3_push]; exact q1526) (by rw [nm_X3_push]; exact q1528) (by rw [nm_X3_push]; exact qs65)) <|
  fG mo_ald (sim_ald_n dX3_behindOne_37 rfl) <|
  fG mo_int (sim_iconst dX3_behindOne_38 (by decide)) <|
  fG mo_putf (sim_putf hG dX3_behindOne_39 hc_3 (by decide) rfl (by decide) in_X3 tyX3_ok nmX3 (Or.inr (Or.inl ⟨rfl, rfl⟩)) (fun _ _ _ h => h) rfl q1272) <|
  fG mo_goto (sim_goto dX3_behindOne_42 rfl) <|
  trivial
theorem fX3_behindOne_45 {X : tp_X} {az : Array Value} (hG : tp_Good X az) (hSt : tp_Stat X) : tp_Fit X yX3_behindOne cX3_behindOne (some .int) 2 tp_nm tp_by tp_ml tp_rtt 45 [o_ild (.iload_n 1) 1, o_int (.bipush 42) 42, o_icmpeq 9 57, o_ild (.iload_n 1) 1, o_int (.bipush 47) 47, o_icmpne 32 86, o_fall 57] :=
  fG mo_ild (sim_ild_n dX3_behindOne_45 rfl) <|
  fG mo_int (sim_bipush dX3_behindOne_46 (by decide)) <|
  fG mo_icmpeq (sim_icmpeq dX3_behindOne_48 rfl) <|
  fG mo_ild (sim_ild_n dX3_behindOne_51 rfl) <|
  fG mo_int (sim_bipush dX3_behindOne_52 (by decide)) <|
  fG mo_icmpne (sim_icmpne dX3_behindOne_54 rfl) <|
  fF
theorem fX3_behindOne_57 {X : tp_X} {az : Array Value} (hG : tp_Good X az) (hSt : tp_Stat X) : tp_Fit X yX3_behindOne cX3_behindOne (some .int) 2 tp_nm tp_by tp_ml tp_rtt 57 [o_ald (.aload_n 0) 0, o_int (.iconst 5) 5, o_cv (.invokevirtual 208) 3 kX3_settle 1 0, o_ald (.aload_n 0) 0, o_ild (.iload_n 1) 1, o_int (.bipush 42) 42, o_icmpne 7 73, o_int (.iconst 5) 5, o_goto 5 75] :=
  fG mo_ald (sim_ald_n dX3_behindOne_57 rfl) <|
  fG mo_int (sim_iconst dX3_behindOne_58 (by decide)) <|
  fC (ic_cv (Or.inl rfl)) (sim_cv hG dX3_behindOne_59 (hG.2.1 3 _ hc_3).2.1 M_X3_settle (by rw [nm_X3_settle]; rfl) (by rw [nm_X3_settle]; exact q1518) (by rw [nm_X3_settle]; exact q1520) (by rw [nm_X3_settle]; exact qs63)) <|
  fG mo_ald (sim_ald_n dX3_behindOne_62 rfl) <|
  fG mo_ild (sim_ild_n dX3_behindOne_63 rfl) <|
  fG mo_int (sim_bipush dX3_behindOne_64 (by decide)) <|
  fG mo_icmpne (sim_icmpne dX3_behindOne_66 rfl) <|
  fG mo_int (sim_iconst dX3_behindOne_69 (by decide)) <|
  fG mo_goto (sim_goto dX3_behindOne_70 rfl) <|
  trivial
theorem fX3_behindOne_73 {X : tp_X} {az : Array Value} (hG : tp_Good X az) (hSt : tp_Stat X) : tp_Fit X yX3_behindOne cX3_behindOne (some .int) 2 tp_nm tp_by tp_ml tp_rtt 73 [o_int (.bipush 6) 6, o_fall 75] :=
  fG mo_int (sim_bipush dX3_behindOne_73 (by decide)) <|
  fF
theorem fX3_behindOne_75 {X : tp_X} {az : Array Value} (hG : tp_Good X az) (hSt : tp_Stat X) : tp_Fit X yX3_behindOne cX3_behindOne (some .int) 2 tp_nm tp_by tp_ml tp_rtt 75 [o_cv (.invokevirtual 202) 3 kX3_push 1 0, o_ald (.aload_n 0) 0, o_int (.iconst 0) 0, o_putf (.putfield 163) 3 22 1, o_goto 32 115] :=
  fC (ic_cv (Or.inl rfl)) (sim_cv hG dX3_behindOne_75 (hG.2.1 3 _ hc_3).2.1 M_X3_push (by rw [nm_X3_push]; rfl) (by rw [nm_X3_push]; exact q1526) (by rw [nm_X3_push]; exact q1528) (by rw [nm_X3_push]; exact qs65)) <|
  fG mo_ald (sim_ald_n dX3_behindOne_78 rfl) <|
  fG mo_int (sim_iconst dX3_behindOne_79 (by decide)) <|
  fG mo_putf (sim_putf hG dX3_behindOne_80 hc_3 (by decide) rfl (by decide) in_X3 tyX3_ok nmX3 (Or.inr (Or.inl ⟨rfl, rfl⟩)) (fun _ _ _ h => h) rfl q1272) <|
  fG mo_goto (sim_goto dX3_behindOne_83 rfl) <|
  trivial
theorem fX3_behindOne_86 {X : tp_X} {az : Array Value} (hG : tp_Good X az) (hSt : tp_Stat X) : tp_Fit X yX3_behindOne cX3_behindOne (some .int) 2 tp_nm tp_by tp_ml tp_rtt 86 [o_ald (.aload_n 0) 0, o_int (.iconst 3) 3, o_cv (.invokevirtual 208) 3 kX3_settle 1 0, o_ald (.aload_n 0) 0, o_dup, o_getf (.getfield 160) 3 20, o_int (.iconst 1) 1, o_isub, o_putf (.putfield 160) 3 20 0, o_ald (.aload_n 0) 0, o_dup, o_getf (.getfield 167) 3 21, o_int (.iconst 1) 1, o_isub, o_putf (.putfield 167) 3 21 0, o_ald (.aload_n 0) 0, o_cv (.invokevirtual 192) 3 kX3_whole 0 0, o_fall 115] :=
  fG mo_ald (sim_ald_n dX3_behindOne_86 rfl) <|
  fG mo_int (sim_iconst dX3_behindOne_87 (by decide)) <|
  fC (ic_cv (Or.inl rfl)) (sim_cv hG dX3_behindOne_88 (hG.2.1 3 _ hc_3).2.1 M_X3_settle (by rw [nm_X3_settle]; rfl) (by rw [nm_X3_settle]; exact q1518) (by rw [nm_X3_settle]; exact q1520) (by rw [nm_X3_settle]; exact qs63)) <|
  fG mo_ald (sim_ald_n dX3_behindOne_91 rfl) <|
  fG mo_dup (sim_dup dX3_behindOne_92) <|
  fG mo_getf (sim_getfG hG dX3_behindOne_93 hc_3 (by decide) rfl in_X3 (fun _ _ _ h => h) (Or.inl q1270)) <|
  fG mo_int (sim_iconst dX3_behindOne_96 (by decide)) <|
  fG mo_isub (sim_isub dX3_behindOne_97) <|
  fG mo_putf (sim_putf hG dX3_behindOne_98 hc_3 (by decide) rfl (by decide) in_X3 tyX3_ok nmX3 (Or.inl ⟨rfl, rfl⟩) (fun _ _ _ h => h) rfl q1270) <|
  fG mo_ald (sim_ald_n dX3_behindOne_101 rfl) <|
  fG mo_dup (sim_dup dX3_behindOne_102) <|
  fG mo_getf (sim_getfG hG dX3_behindOne_103 hc_3 (by decide) rfl in_X3 (fun _ _ _ h => h) (Or.inl q1271)) <|
  fG mo_int (sim_iconst dX3_behindOne_106 (by decide)) <|
  fG mo_isub (sim_isub dX3_behindOne_107) <|
  fG mo_putf (sim_putf hG dX3_behindOne_108 hc_3 (by decide) rfl (by decide) in_X3 tyX3_ok nmX3 (Or.inl ⟨rfl, rfl⟩) (fun _ _ _ h => h) rfl q1271) <|
  fG mo_ald (sim_ald_n dX3_behindOne_111 rfl) <|
  fC (ic_cv (Or.inl rfl)) (sim_cv hG dX3_behindOne_112 (hG.2.1 3 _ hc_3).2.1 M_X3_whole (by rw [nm_X3_whole]; rfl) (by rw [nm_X3_whole]; exact q1530) (by rw [nm_X3_whole]; exact q1532) (by rw [nm_X3_whole]; exact qs66)) <|
  fF
theorem fX3_behindOne_115 {X : tp_X} {az : Array Value} (hG : tp_Good X az) (hSt : tp_Stat X) : tp_Fit X yX3_behindOne cX3_behindOne (some .int) 2 tp_nm tp_by tp_ml tp_rtt 115 [o_ald (.aload_n 0) 0, o_cv (.invokevirtual 189) 3 kX3_nextToken 0 0, o_int (.iconst 0) 0, o_iret 0] :=
  fG mo_ald (sim_ald_n dX3_behindOne_115 rfl) <|
  fC (ic_cv (Or.inl rfl)) (sim_cv hG dX3_behindOne_116 (hG.2.1 3 _ hc_3).2.1 M_X3_nextToken (by rw [nm_X3_nextToken]; rfl) (by rw [nm_X3_nextToken]; exact q1464) (by rw [nm_X3_nextToken]; exact q1466) (by rw [nm_X3_nextToken]; exact qs53)) <|
  fG mo_int (sim_iconst dX3_behindOne_119 (by decide)) <|
  fE ie_iret (sim_iret dX3_behindOne_120 rfl (Or.inl ⟨rfl, rfl⟩))
theorem F_X3_behindOne {X : tp_X} {az : Array Value} (hG : tp_Good X az) (hSt : tp_Stat X) (pc : Nat) : tp_Fit X yX3_behindOne cX3_behindOne (some .int) 2 tp_nm tp_by tp_ml tp_rtt pc (mX3_behindOne pc) :=
  fI (fX3_behindOne_0 hG hSt) <| fI (fX3_behindOne_17 hG hSt) <| fI (fX3_behindOne_33 hG hSt) <| fI (fX3_behindOne_34 hG hSt) <| fI (fX3_behindOne_45 hG hSt) <| fI (fX3_behindOne_57 hG hSt) <| fI (fX3_behindOne_73 hG hSt) <| fI (fX3_behindOne_75 hG hSt) <| fI (fX3_behindOne_86 hG hSt) <| fI (fX3_behindOne_115 hG hSt) <| trivial
theorem fX3_settle_0 {X : tp_X} {az : Array Value} (hG : tp_Good X az) (hSt : tp_Stat X) : tp_Fit X yX3_settle cX3_settle none 2 tp_nm tp_by tp_ml tp_rtt 0 [o_ald (.aload_n 0) 0, o_getf (.getfield 160) 3 20, o_ifle 61 65, o_ald (.aload_n 0) 0, o_getf (.getfield 29) 3 19, o_ald (.aload_n 0) 0, o_getf (.getfield 160) 3 20, o_int (.iconst 1) 1, o_isub, o_lda .iaload [0, 20], o_int (.bipush 40) 40, o_icmpge 45 65, o_ald (.aload_n 0) 0, o_getf (.getfield 29) 3 19, o_ald (.aload_n 0) 0, o_getf (.getfield 160) 3 20, o_int (.iconst 1) 1, o_isub, o_lda .iaload [0, 20], o_ild (.iload_n 1) 1, o_icmplt 30 65, o_ald (.aload_n 0) 0, o_dup, o_getf (.getfield 160) 3 20, o_int (.iconst 1) 1, o_isub, o_putf (.putfield 160) 3 20 0, o_ald (.aload_n 0) 0, o_ald (.aload_n 0) 0, o_getf (.getfield 29) 3 19, o_ald (.aload_n 0) 0, o_getf (.getfield 160) 3 20, o_lda .iaload [0, 20], o_int (.iconst 0) 0, o_cv (.invokevirtual 170) 3 kX3_emit 2 0, o_goto (-62) 0] :=
  fG mo_ald (sim_ald_n dX3_settle_0 rfl) <|
  fG mo_getf (sim_getfG hG dX3_settle_1 hc_3 (by decide) rfl in_X3 (fun _ _ _ h => h) (Or.inl q1270)) <|
  fG mo_ifle (sim_ifle dX3_settle_4 rfl) <|
  fG mo_ald (sim_ald_n dX3_settle_7 rfl) <|
  fG mo_getf (sim_getfG hG dX3_settle_8 hc_3 (by decide) rfl in_X3 (fun _ _ _ h => h) (Or.inl q1269)) <|
  fG mo_ald (sim_ald_n dX3_settle_11 rfl) <|
  fG mo_getf (sim_getfG hG dX3_settle_12 hc_3 (by decide) rfl in_X3 (fun _ _ _ h => h) (Or.inl q1270)) <|
  fG mo_int (sim_iconst dX3_settle_15 (by decide)) <|
  fG mo_isub (sim_isub dX3_settle_16) <|
  fG mo_lda (sim_iald dX3_settle_17) <|
  fG mo_int (sim_bipush dX3_settle_18 (by decide)) <|
  fG mo_icmpge (sim_icmpge dX3_settle_20 rfl) <|
  fG mo_ald (sim_ald_n dX3_settle_23 rfl) <|
  fG mo_getf (sim_getfG hG dX3_settle_24 hc_3 (by decide) rfl in_X3 (fun _ _ _ h => h) (Or.inl q1269)) <|
  fG mo_ald (sim_ald_n dX3_settle_27 rfl) <|
  fG mo_getf (sim_getfG hG dX3_settle_28 hc_3 (by decide) rfl in_X3 (fun _ _ _ h => h) (Or.inl q1270)) <|
  fG mo_int (sim_iconst dX3_settle_31 (by decide)) <|
  fG mo_isub (sim_isub dX3_settle_32) <|
  fG mo_lda (sim_iald dX3_settle_33) <|
  fG mo_ild (sim_ild_n dX3_settle_34 rfl) <|
  fG mo_icmplt (sim_icmplt dX3_settle_35 rfl) <|
  fG mo_ald (sim_ald_n dX3_settle_38 rfl) <|
  fG mo_dup (sim_dup dX3_settle_39) <|
  fG mo_getf (sim_getfG hG dX3_settle_40 hc_3 (by decide) rfl in_X3 (fun _ _ _ h => h) (Or.inl q1270)) <|
  fG mo_int (sim_iconst dX3_settle_43 (by decide)) <|
  fG mo_isub (sim_isub dX3_settle_44) <|
  fG mo_putf (sim_putf hG dX3_settle_45 hc_3 (by decide) rfl (by decide) in_X3 tyX3_ok nmX3 (Or.inl ⟨rfl, rfl⟩) (fun _ _ _ h => h) rfl q1270) <|
  fG mo_ald (sim_ald_n dX3_settle_48 rfl) <|
  fG mo_ald (sim_ald_n dX3_settle_49 rfl) <|
  fG mo_getf (sim_getfG hG dX3_settle_50 hc_3 (by decide) rfl in_X3 (fun _ _ _ h => h) (Or.inl q1269)) <|
  fG mo_ald (sim_ald_n dX3_settle_53 rfl) <|
  fG mo_getf (sim_getfG hG dX3_settle_54 hc_3 (by decide) rfl in_X3 (fun _ _ _ h => h) (Or.inl q1270)) <|
  fG mo_lda (sim_iald dX3_settle_57) <|
  fG mo_int (sim_iconst dX3_settle_58 (by decide)) <|
  fC (ic_cv (Or.inl rfl)) (sim_cv hG dX3_settle_59 (hG.2.1 3 _ hc_3).2.1 M_X3_emit (by rw [nm_X3_emit]; rfl) (by rw [nm_X3_emit]; exact q1522) (by rw [nm_X3_emit]; exact q1524) (by rw [nm_X3_emit]; exact qs64)) <|
  fG mo_goto (sim_goto dX3_settle_62 rfl) <|
  trivial
theorem fX3_settle_65 {X : tp_X} {az : Array Value} (hG : tp_Good X az) (hSt : tp_Stat X) : tp_Fit X yX3_settle cX3_settle none 2 tp_nm tp_by tp_ml tp_rtt 65 [o_vret] :=
  fE ie_vret (sim_vret dX3_settle_65 rfl)
theorem F_X3_settle {X : tp_X} {az : Array Value} (hG : tp_Good X az) (hSt : tp_Stat X) (pc : Nat) : tp_Fit X yX3_settle cX3_settle none 2 tp_nm tp_by tp_ml tp_rtt pc (mX3_settle pc) :=
  fI (fX3_settle_0 hG hSt) <| fI (fX3_settle_65 hG hSt) <| trivial
theorem fX3_emit_0 {X : tp_X} {az : Array Value} (hG : tp_Good X az) (hSt : tp_Stat X) : tp_Fit X yX3_emit cX3_emit none 3 tp_nm tp_by tp_ml tp_rtt 0 [o_ald (.aload_n 0) 0, o_getf (.getfield 16) 3 5, o_ald (.aload_n 0) 0, o_getf (.getfield 154) 3 15, o_int (.bipush 60) 60, o_iadd, o_int (.iconst 2) 2, o_ald (.aload_n 0) 0, o_getf (.getfield 157) 3 17, o_imul, o_iadd, o_ild (.iload_n 1) 1, o_sta .iastore [0], o_ald (.aload_n 0) 0, o_getf (.getfield 16) 3 5, o_ald (.aload_n 0) 0, o_getf (.getfield 154) 3 15, o_int (.bipush 60) 60, o_iadd, o_int (.iconst 2) 2, o_ald (.aload_n 0) 0, o_getf (.getfield 157) 3 17, o_imul, o_iadd, o_int (.iconst 1) 1, o_iadd, o_ild (.iload_n 2) 2, o_sta .iastore [0], o_ald (.aload_n 0) 0, o_dup, o_getf (.getfield 157) 3 17, o_int (.iconst 1) 1, o_iadd, o_putf (.putfield 157) 3 17 0, o_vret] :=
  fG mo_ald (sim_ald_n dX3_emit_0 rfl) <|
  fG mo_getf (sim_getfG hG dX3_emit_1 hc_3 (by decide) rfl in_X3 (fun _ _ _ h => h) (Or.inl q1257)) <|
  fG mo_ald (sim_ald_n dX3_emit_4 rfl) <|
  fG mo_getf (sim_getfG hG dX3_emit_5 hc_3 (by decide) rfl in_X3 (fun _ _ _ h => h) (Or.inl q1267)) <|
  fG mo_int (sim_bipush dX3_emit_8 (by decide)) <|
  fG mo_iadd (sim_iadd dX3_emit_10) <|
  fG mo_int (sim_iconst dX3_emit_11 (by decide)) <|
  fG mo_ald (sim_ald_n dX3_emit_12 rfl) <|
  fG mo_getf (sim_getfG hG dX3_emit_13 hc_3 (by decide) rfl in_X3 (fun _ _ _ h => h) (Or.inl q1268)) <|
  fG mo_imul (sim_imul dX3_emit_16) <|
  fG mo_iadd (sim_iadd dX3_emit_17) <|
  fG mo_ild (sim_ild_n dX3_emit_18 rfl) <|
  fG mo_sta (sim_iast dX3_emit_19) <|
  fG mo_ald (sim_ald_n dX3_emit_20 rfl) <|
  fG mo_getf (sim_getfG hG dX3_emit_21 hc_3 (by decide) rfl in_X3 (fun _ _ _ h => h) (Or.inl q1257)) <|
  fG mo_ald (sim_ald_n dX3_emit_24 rfl) <|
  fG mo_getf (sim_getfG hG dX3_emit_25 hc_3 (by decide) rfl in_X3 (fun _ _ _ h => h) (Or.inl q1267)) <|
  fG mo_int (sim_bipush dX3_emit_28 (by decide)) <|
  fG mo_iadd (sim_iadd dX3_emit_30) <|
  fG mo_int (sim_iconst dX3_emit_31 (by decide)) <|
  fG mo_ald (sim_ald_n dX3_emit_32 rfl) <|
  fG mo_getf (sim_getfG hG dX3_emit_33 hc_3 (by decide) rfl in_X3 (fun _ _ _ h => h) (Or.inl q1268)) <|
  fG mo_imul (sim_imul dX3_emit_36) <|
  fG mo_iadd (sim_iadd dX3_emit_37) <|
  fG mo_int (sim_iconst dX3_emit_38 (by decide)) <|
  fG mo_iadd (sim_iadd dX3_emit_39) <|
  fG mo_ild (sim_ild_n dX3_emit_40 rfl) <|
  fG mo_sta (sim_iast dX3_emit_41) <|
  fG mo_ald (sim_ald_n dX3_emit_42 rfl) <|
  fG mo_dup (sim_dup dX3_emit_43) <|
  fG mo_getf (sim_getfG hG dX3_emit_44 hc_3 (by decide) rfl in_X3 (fun _ _ _ h => h) (Or.inl q1268)) <|
  fG mo_int (sim_iconst dX3_emit_47 (by decide)) <|
  fG mo_iadd (sim_iadd dX3_emit_48) <|
  fG mo_putf (sim_putf hG dX3_emit_49 hc_3 (by decide) rfl (by decide) in_X3 tyX3_ok nmX3 (Or.inl ⟨rfl, rfl⟩) (fun _ _ _ h => h) rfl q1268) <|
  fE ie_vret (sim_vret dX3_emit_52 rfl)
theorem F_X3_emit {X : tp_X} {az : Array Value} (hG : tp_Good X az) (hSt : tp_Stat X) (pc : Nat) : tp_Fit X yX3_emit cX3_emit none 3 tp_nm tp_by tp_ml tp_rtt pc (mX3_emit pc) :=
  fI (fX3_emit_0 hG hSt) <| trivial
theorem fX3_push_0 {X : tp_X} {az : Array Value} (hG : tp_Good X az) (hSt : tp_Stat X) : tp_Fit X yX3_push cX3_push none 2 tp_nm tp_by tp_ml tp_rtt 0 [o_ald (.aload_n 0) 0, o_getf (.getfield 29) 3 19, o_ald (.aload_n 0) 0, o_getf (.getfield 160) 3 20, o_ild (.iload_n 1) 1, o_sta .iastore [0], o_ald (.aload_n 0) 0, o_dup, o_getf (.getfield 160) 3 20, o_int (.iconst 1) 1, o_iadd, o_putf (.putfield 160) 3 20 0, o_vret] :=
  fG mo_ald (sim_ald_n dX3_push_0 rfl) <|
  fG mo_getf (sim_getfG hG dX3_push_1 hc_3 (by decide) rfl in_X3 (fun _ _ _ h => h) (Or.inl q1269)) <|
  fG mo_ald (sim_ald_n dX3_push_4 rfl) <|
  fG mo_getf (sim_getfG hG dX3_push_5 hc_3 (by decide) rfl in_X3 (fun _ _ _ h => h) (Or.inl q1270)) <|
  fG mo_ild (sim_ild_n dX3_push_8 rfl) <|
  fG mo_sta (sim_iast dX3_push_9) <|
  fG mo_ald (sim_ald_n dX3_push_10 rfl) <|
  fG mo_dup (sim_dup dX3_push_11) <|
  fG mo_getf (sim_getfG hG dX3_push_12 hc_3 (by decide) rfl in_X3 (fun _ _ _ h => h) (Or.inl q1270)) <|
  fG mo_int (sim_iconst dX3_push_15 (by decide)) <|
  fG mo_iadd (sim_iadd dX3_push_16) <|
  fG mo_putf (sim_putf hG dX3_push_17 hc_3 (by decide) rfl (by decide) in_X3 tyX3_ok nmX3 (Or.inl ⟨rfl, rfl⟩) (fun _ _ _ h => h) rfl q1270) <|
  fE ie_vret (sim_vret dX3_push_20 rfl)
theorem F_X3_push {X : tp_X} {az : Array Value} (hG : tp_Good X az) (hSt : tp_Stat X) (pc : Nat) : tp_Fit X yX3_push cX3_push none 2 tp_nm tp_by tp_ml tp_rtt pc (mX3_push pc) :=
  fI (fX3_push_0 hG hSt) <| trivial
theorem fX3_whole_0 {X : tp_X} {az : Array Value} (hG : tp_Good X az) (hSt : tp_Stat X) : tp_Fit X yX3_whole cX3_whole none 1 tp_nm tp_by tp_ml tp_rtt 0 [o_ald (.aload_n 0) 0, o_int (.iconst 1) 1, o_putf (.putfield 163) 3 22 1, o_fall 5] :=
  fG mo_ald (sim_ald_n dX3_whole_0 rfl) <|
  fG mo_int (sim_iconst dX3_whole_1 (by decide)) <|
  fG mo_putf (sim_putf hG dX3_whole_2 hc_3 (by decide) rfl (by decide) in_X3 tyX3_ok nmX3 (Or.inr (Or.inl ⟨rfl, rfl⟩)) (fun _ _ _ h => h) rfl q1272) <|
  fF
theorem fX3_whole_5 {X : tp_X} {az : Array Value} (hG : tp_Good X az) (hSt : tp_Stat X) : tp_Fit X yX3_whole cX3_whole none 1 tp_nm tp_by tp_ml tp_rtt 5 [o_ald (.aload_n 0) 0, o_getf (.getfield 160) 3 20, o_ifle 47 56, o_ald (.aload_n 0) 0, o_getf (.getfield 29) 3 19, o_ald (.aload_n 0) 0, o_getf (.getfield 160) 3 20, o_int (.iconst 1) 1, o_isub, o_lda .iaload [0, 20], o_int (.iconst 2) 2, o_icmpne 32 56, o_ald (.aload_n 0) 0, o_dup, o_getf (.getfield 160) 3 20, o_int (.iconst 1) 1, o_isub, o_putf (.putfield 160) 3 20 0, o_ald (.aload_n 0) 0, o_dup, o_getf (.getfield 167) 3 21, o_int (.iconst 1) 1, o_isub, o_putf (.putfield 167) 3 21 0, o_ald (.aload_n 0) 0, o_int (.iconst 2) 2, o_int (.iconst 0) 0, o_cv (.invokevirtual 170) 3 kX3_emit 2 0, o_goto (-48) 5] :=
  fG mo_ald (sim_ald_n dX3_whole_5 rfl) <|
  fG mo_getf (sim_getfG hG dX3_whole_6 hc_3 (by decide) rfl in_X3 (fun _ _ _ h => h) (Or.inl q1270)) <|
  fG mo_ifle (sim_ifle dX3_whole_9 rfl) <|
  fG mo_ald (sim_ald_n dX3_whole_12 rfl) <|
  fG mo_getf (sim_getfG hG dX3_whole_13 hc_3 (by decide) rfl in_X3 (fun _ _ _ h => h) (Or.inl q1269)) <|
  fG mo_ald (sim_ald_n dX3_whole_16 rfl) <|
  fG mo_getf (sim_getfG hG dX3_whole_17 hc_3 (by decide) rfl in_X3 (fun _ _ _ h => h) (Or.inl q1270)) <|
  fG mo_int (sim_iconst dX3_whole_20 (by decide)) <|
  fG mo_isub (sim_isub dX3_whole_21) <|
  fG mo_lda (sim_iald dX3_whole_22) <|
  fG mo_int (sim_iconst dX3_whole_23 (by decide)) <|
  fG mo_icmpne (sim_icmpne dX3_whole_24 rfl) <|
  fG mo_ald (sim_ald_n dX3_whole_27 rfl) <|
  fG mo_dup (sim_dup dX3_whole_28) <|
  fG mo_getf (sim_getfG hG dX3_whole_29 hc_3 (by decide) rfl in_X3 (fun _ _ _ h => h) (Or.inl q1270)) <|
  fG mo_int (sim_iconst dX3_whole_32 (by decide)) <|
  fG mo_isub (sim_isub dX3_whole_33) <|
  fG mo_putf (sim_putf hG dX3_whole_34 hc_3 (by decide) rfl (by decide) in_X3 tyX3_ok nmX3 (Or.inl ⟨rfl, rfl⟩) (fun _ _ _ h => h) rfl q1270) <|
  fG mo_ald (sim_ald_n dX3_whole_37 rfl) <|
  fG mo_dup (sim_dup dX3_whole_38) <|
  fG mo_getf (sim_getfG hG dX3_whole_39 hc_3 (by decide) rfl in_X3 (fun _ _ _ h => h) (Or.inl q1271)) <|
  fG mo_int (sim_iconst dX3_whole_42 (by decide)) <|
  fG mo_isub (sim_isub dX3_whole_43) <|
  fG mo_putf (sim_putf hG dX3_whole_44 hc_3 (by decide) rfl (by decide) in_X3 tyX3_ok nmX3 (Or.inl ⟨rfl, rfl⟩) (fun _ _ _ h => h) rfl q1271) <|
  fG mo_ald (sim_ald_n dX3_whole_47 rfl) <|
  fG mo_int (sim_iconst dX3_whole_48 (by decide)) <|
  fG mo_int (sim_iconst dX3_whole_49 (by decide)) <|
  fC (ic_cv (Or.inl rfl)) (sim_cv hG dX3_whole_50 (hG.2.1 3 _ hc_3).2.1 M_X3_emit (by rw [nm_X3_emit]; rfl) (by rw [nm_X3_emit]; exact q1522) (by rw [nm_X3_emit]; exact q1524) (by rw [nm_X3_emit]; exact qs64)) <|
  fG mo_goto (sim_goto dX3_whole_53 rfl) <|
  trivial
theorem fX3_whole_56 {X : tp_X} {az : Array Value} (hG : tp_Good X az) (hSt : tp_Stat X) : tp_Fit X yX3_whole cX3_whole none 1 tp_nm tp_by tp_ml tp_rtt 56 [o_vret] :=
  fE ie_vret (sim_vret dX3_whole_56 rfl)
theorem F_X3_whole {X : tp_X} {az : Array Value} (hG : tp_Good X az) (hSt : tp_Stat X) (pc : Nat) : tp_Fit X yX3_whole cX3_whole none 1 tp_nm tp_by tp_ml tp_rtt pc (mX3_whole pc) :=
  fI (fX3_whole_0 hG hSt) <| fI (fX3_whole_5 hG hSt) <| fI (fX3_whole_56 hG hSt) <| trivial
theorem fX3_beginOne_0 {X : tp_X} {az : Array Value} (hG : tp_Good X az) (hSt : tp_Stat X) : tp_Fit X yX3_beginOne cX3_beginOne (some .int) 2 tp_nm tp_by tp_ml tp_rtt 0 [o_ald (.aload_n 0) 0, o_getf (.getfield 129) 3 12, o_int (.iconst 1) 1, o_icmpne 34 39, o_ald (.aload_n 0) 0, o_getf (.getfield 135) 3 13, o_int (.sipush 999) 999, o_icmple 5 20, o_int (.iconst 2) 2, o_iret 0] :=
  fG mo_ald (sim_ald_n dX3_beginOne_0 rfl) <|
  fG mo_getf (sim_getfG hG dX3_beginOne_1 hc_3 (by decide) rfl in_X3 (fun _ _ _ h => h) (Or.inl q1264)) <|
  fG mo_int (sim_iconst dX3_beginOne_4 (by decide)) <|
  fG mo_icmpne (sim_icmpne dX3_beginOne_5 rfl) <|
  fG mo_ald (sim_ald_n dX3_beginOne_8 rfl) <|
  fG mo_getf (sim_getfG hG dX3_beginOne_9 hc_3 (by decide) rfl in_X3 (fun _ _ _ h => h) (Or.inl q1265)) <|
  fG mo_int (sim_sipush dX3_beginOne_12 (by decide)) <|
  fG mo_icmple (sim_icmple dX3_beginOne_15 rfl) <|
  fG mo_int (sim_iconst dX3_beginOne_18 (by decide)) <|
  fE ie_iret (sim_iret dX3_beginOne_19 rfl (Or.inl ⟨rfl, rfl⟩))
theorem fX3_beginOne_20 {X : tp_X} {az : Array Value} (hG : tp_Good X az) (hSt : tp_Stat X) : tp_Fit X yX3_beginOne cX3_beginOne (some .int) 2 tp_nm tp_by tp_ml tp_rtt 20 [o_ald (.aload_n 0) 0, o_int (.iconst 0) 0, o_ald (.aload_n 0) 0, o_getf (.getfield 135) 3 13, o_cv (.invokevirtual 170) 3 kX3_emit 2 0, o_ald (.aload_n 0) 0, o_cv (.invokevirtual 189) 3 kX3_nextToken 0 0, o_ald (.aload_n 0) 0, o_cv (.invokevirtual 192) 3 kX3_whole 0 0, o_int (.iconst 0) 0, o_iret 0] :=
  fG mo_ald (sim_ald_n dX3_beginOne_20 rfl) <|
  fG mo_int (sim_iconst dX3_beginOne_21 (by decide)) <|
  fG mo_ald (sim_ald_n dX3_beginOne_22 rfl) <|
  fG mo_getf (sim_getfG hG dX3_beginOne_23 hc_3 (by decide) rfl in_X3 (fun _ _ _ h => h) (Or.inl q1265)) <|
  fC (ic_cv (Or.inl rfl)) (sim_cv hG dX3_beginOne_26 (hG.2.1 3 _ hc_3).2.1 M_X3_emit (by rw [nm_X3_emit]; rfl) (by rw [nm_X3_emit]; exact q1522) (by rw [nm_X3_emit]; exact q1524) (by rw [nm_X3_emit]; exact qs64)) <|
  fG mo_ald (sim_ald_n dX3_beginOne_29 rfl) <|
  fC (ic_cv (Or.inl rfl)) (sim_cv hG dX3_beginOne_30 (hG.2.1 3 _ hc_3).2.1 M_X3_nextToken (by rw [nm_X3_nextToken]; rfl) (by rw [nm_X3_nextToken]; exact q1464) (by rw [nm_X3_nextToken]; exact q1466) (by rw [nm_X3_nextToken]; exact qs53)) <|
  fG mo_ald (sim_ald_n dX3_beginOne_33 rfl) <|
  fC (ic_cv (Or.inl rfl)) (sim_cv hG dX3_beginOne_34 (hG.2.1 3 _ hc_3).2.1 M_X3_whole (by rw [nm_X3_whole]; rfl) (by rw [nm_X3_whole]; exact q1530) (by rw [nm_X3_whole]; exact q1532) (by rw [nm_X3_whole]; exact qs66)) <|
  fG mo_int (sim_iconst dX3_beginOne_37 (by decide)) <|
  fE ie_iret (sim_iret dX3_beginOne_38 rfl (Or.inl ⟨rfl, rfl⟩))
theorem fX3_beginOne_39 {X : tp_X} {az : Array Value} (hG : tp_Good X az) (hSt : tp_Stat X) : tp_Fit X yX3_beginOne cX3_beginOne (some .int) 2 tp_nm tp_by tp_ml tp_rtt 39 [o_ald (.aload_n 0) 0, o_cv (.invokevirtual 195) 3 kX3_nameOf 0 0, o_iflt 35 78, o_ald (.aload_n 0) 0, o_ald (.aload_n 0) 0, o_cv (.invokevirtual 195) 3 kX3_nameOf 0 0, o_cv (.invokevirtual 199) 3 kX3_isBarred 1 0, o_ifeq 5 59, o_int (.iconst 5) 5, o_iret 0] :=
  fG mo_ald (sim_ald_n dX3_beginOne_39 rfl) <|
  fC (ic_cv (Or.inl rfl)) (sim_cv hG dX3_beginOne_40 (hG.2.1 3 _ hc_3).2.1 M_X3_nameOf (by rw [nm_X3_nameOf]; rfl) (by rw [nm_X3_nameOf]; exact q1538) (by rw [nm_X3_nameOf]; exact q1540) (by rw [nm_X3_nameOf]; exact qs68)) <|
  fG mo_iflt (sim_iflt dX3_beginOne_43 rfl) <|
  fG mo_ald (sim_ald_n dX3_beginOne_46 rfl) <|
  fG mo_ald (sim_ald_n dX3_beginOne_47 rfl) <|
  fC (ic_cv (Or.inl rfl)) (sim_cv hG dX3_beginOne_48 (hG.2.1 3 _ hc_3).2.1 M_X3_nameOf (by rw [nm_X3_nameOf]; rfl) (by rw [nm_X3_nameOf]; exact q1538) (by rw [nm_X3_nameOf]; exact q1540) (by rw [nm_X3_nameOf]; exact qs68)) <|
  fC (ic_cv (Or.inl rfl)) (sim_cv hG dX3_beginOne_51 (hG.2.1 3 _ hc_3).2.1 M_X3_isBarred (by rw [nm_X3_isBarred]; rfl) (by rw [nm_X3_isBarred]; exact q1550) (by rw [nm_X3_isBarred]; exact q1552) (by rw [nm_X3_isBarred]; exact qs69)) <|
  fG mo_ifeq (sim_ifeq dX3_beginOne_54 rfl) <|
  fG mo_int (sim_iconst dX3_beginOne_57 (by decide)) <|
  fE ie_iret (sim_iret dX3_beginOne_58 rfl (Or.inl ⟨rfl, rfl⟩))
theorem fX3_beginOne_59 {X : tp_X} {az : Array Value} (hG : tp_Good X az) (hSt : tp_Stat X) : tp_Fit X yX3_beginOne cX3_beginOne (some .int) 2 tp_nm tp_by tp_ml tp_rtt 59 [o_ald (.aload_n 0) 0, o_int (.iconst 1) 1, o_ald (.aload_n 0) 0, o_cv (.invokevirtual 195) 3 kX3_nameOf 0 0, o_cv (.invokevirtual 170) 3 kX3_emit 2 0, o_ald (.aload_n 0) 0, o_cv (.invokevirtual 189) 3 kX3_nextToken 0 0, o_ald (.aload_n 0) 0, o_cv (.invokevirtual 192) 3 kX3_whole 0 0, o_int (.iconst 0) 0, o_iret 0] :=
  fG mo_ald (sim_ald_n dX3_beginOne_59 rfl) <|
  fG mo_int (sim_iconst dX3_beginOne_60 (by decide)) <|
  fG mo_ald (sim_ald_n dX3_beginOne_61 rfl) <|
  fC (ic_cv (Or.inl rfl)) (sim_cv hG dX3_beginOne_62 (hG.2.1 3 _ hc_3).2.1 M_X3_nameOf (by rw [nm_X3_nameOf]; rfl) (by rw [nm_X3_nameOf]; exact q1538) (by rw [nm_X3_nameOf]; exact q1540) (by rw [nm_X3_nameOf]; exact qs68)) <|
  fC (ic_cv (Or.inl rfl)) (sim_cv hG dX3_beginOne_65 (hG.2.1 3 _ hc_3).2.1 M_X3_emit (by rw [nm_X3_emit]; rfl) (by rw [nm_X3_emit]; exact q1522) (by rw [nm_X3_emit]; exact q1524) (by rw [nm_X3_emit]; exact qs64)) <|
  fG mo_ald (sim_ald_n dX3_beginOne_68 rfl) <|
  fC (ic_cv (Or.inl rfl)) (sim_cv hG dX3_beginOne_69 (hG.2.1 3 _ hc_3).2.1 M_X3_nextToken (by rw [nm_X3_nextToken]; rfl) (by rw [nm_X3_nextToken]; exact q1464) (by rw [nm_X3_nextToken]; exact q1466) (by rw [nm_X3_nextToken]; exact qs53)) <|
  fG mo_ald (sim_ald_n dX3_beginOne_72 rfl) <|
  fC (ic_cv (Or.inl rfl)) (sim_cv hG dX3_beginOne_73 (hG.2.1 3 _ hc_3).2.1 M_X3_whole (by rw [nm_X3_whole]; rfl) (by rw [nm_X3_whole]; exact q1530) (by rw [nm_X3_whole]; exact q1532) (by rw [nm_X3_whole]; exact qs66)) <|
  fG mo_int (sim_iconst dX3_beginOne_76 (by decide)) <|
  fE ie_iret (sim_iret dX3_beginOne_77 rfl (Or.inl ⟨rfl, rfl⟩))
theorem fX3_beginOne_78 {X : tp_X} {az : Array Value} (hG : tp_Good X az) (hSt : tp_Stat X) : tp_Fit X yX3_beginOne cX3_beginOne (some .int) 2 tp_nm tp_by tp_ml tp_rtt 78 [o_ald (.aload_n 0) 0, o_getf (.getfield 129) 3 12, o_int (.bipush 40) 40, o_icmpne 8 92, o_int (.bipush 40) 40, o_goto 17 106] :=
  fG mo_ald (sim_ald_n dX3_beginOne_78 rfl) <|
  fG mo_getf (sim_getfG hG dX3_beginOne_79 hc_3 (by decide) rfl in_X3 (fun _ _ _ h => h) (Or.inl q1264)) <|
  fG mo_int (sim_bipush dX3_beginOne_82 (by decide)) <|
  fG mo_icmpne (sim_icmpne dX3_beginOne_84 rfl) <|
  fG mo_int (sim_bipush dX3_beginOne_87 (by decide)) <|
  fG mo_goto (sim_goto dX3_beginOne_89 rfl) <|
  trivial
theorem fX3_beginOne_92 {X : tp_X} {az : Array Value} (hG : tp_Good X az) (hSt : tp_Stat X) : tp_Fit X yX3_beginOne cX3_beginOne (some .int) 2 tp_nm tp_by tp_ml tp_rtt 92 [o_ald (.aload_n 0) 0, o_getf (.getfield 129) 3 12, o_int (.bipush 45) 45, o_icmpne 7 105, o_int (.iconst 2) 2, o_goto 4 106] :=
  fG mo_ald (sim_ald_n dX3_beginOne_92 rfl) <|
  fG mo_getf (sim_getfG hG dX3_beginOne_93 hc_3 (by decide) rfl in_X3 (fun _ _ _ h => h) (Or.inl q1264)) <|
  fG mo_int (sim_bipush dX3_beginOne_96 (by decide)) <|
  fG mo_icmpne (sim_icmpne dX3_beginOne_98 rfl) <|
  fG mo_int (sim_iconst dX3_beginOne_101 (by decide)) <|
  fG mo_goto (sim_goto dX3_beginOne_102 rfl) <|
  trivial
theorem fX3_beginOne_105 {X : tp_X} {az : Array Value} (hG : tp_Good X az) (hSt : tp_Stat X) : tp_Fit X yX3_beginOne cX3_beginOne (some .int) 2 tp_nm tp_by tp_ml tp_rtt 105 [o_int (.iconst 0) 0, o_fall 106] :=
  fG mo_int (sim_iconst dX3_beginOne_105 (by decide)) <|
  fF
theorem fX3_beginOne_106 {X : tp_X} {az : Array Value} (hG : tp_Good X az) (hSt : tp_Stat X) : tp_Fit X yX3_beginOne cX3_beginOne (some .int) 2 tp_nm tp_by tp_ml tp_rtt 106 [o_ist (.istore_n 1) 1, o_ild (.iload_n 1) 1, o_ifne 5 113, o_int (.iconst 1) 1, o_iret 0] :=
  fG mo_ist (sim_ist_n dX3_beginOne_106 rfl) <|
  fG mo_ild (sim_ild_n dX3_beginOne_107 rfl) <|
  fG mo_ifne (sim_ifne dX3_beginOne_108 rfl) <|
  fG mo_int (sim_iconst dX3_beginOne_111 (by decide)) <|
  fE ie_iret (sim_iret dX3_beginOne_112 rfl (Or.inl ⟨rfl, rfl⟩))
theorem fX3_beginOne_113 {X : tp_X} {az : Array Value} (hG : tp_Good X az) (hSt : tp_Stat X) : tp_Fit X yX3_beginOne cX3_beginOne (some .int) 2 tp_nm tp_by tp_ml tp_rtt 113 [o_ald (.aload_n 0) 0, o_getf (.getfield 167) 3 21, o_int (.bipush 8) 8, o_icmpne 5 124, o_int (.iconst 3) 3, o_iret 0] :=
  fG mo_ald (sim_ald_n dX3_beginOne_113 rfl) <|
  fG mo_getf (sim_getfG hG dX3_beginOne_114 hc_3 (by decide) rfl in_X3 (fun _ _ _ h => h) (Or.inl q1271)) <|
  fG mo_int (sim_bipush dX3_beginOne_117 (by decide)) <|
  fG mo_icmpne (sim_icmpne dX3_beginOne_119 rfl) <|
  fG mo_int (sim_iconst dX3_beginOne_122 (by decide)) <|
  fE ie_iret (sim_iret dX3_beginOne_123 rfl (Or.inl ⟨rfl, rfl⟩))
theorem fX3_beginOne_124 {X : tp_X} {az : Array Value} (hG : tp_Good X az) (hSt : tp_Stat X) : tp_Fit X yX3_beginOne cX3_beginOne (some .int) 2 tp_nm tp_by tp_ml tp_rtt 124 [o_ald (.aload_n 0) 0, o_dup, o_getf (.getfield 167) 3 21, o_int (.iconst 1) 1, o_iadd, o_putf (.putfield 167) 3 21 0, o_ald (.aload_n 0) 0, o_ild (.iload_n 1) 1, o_cv (.invokevirtual 202) 3 kX3_push 1 0, o_ald (.aload_n 0) 0, o_cv (.invokevirtual 189) 3 kX3_nextToken 0 0, o_int (.iconst 0) 0, o_iret 0] :=
  fG mo_ald (sim_ald_n dX3_beginOne_124 rfl) <|
  fG mo_dup (sim_dup dX3_beginOne_125) <|
  fG mo_getf (sim_getfG hG dX3_beginOne_126 hc_3 (by decide) rfl in_X3 (fun _ _ _ h => h) (Or.inl q1271)) <|
  fG mo_int (sim_iconst dX3_beginOne_129 (by decide)) <|
  fG mo_iadd (sim_iadd dX3_beginOne_130) <|
  fG mo_putf (sim_putf hG dX3_beginOne_131 hc_3 (by decide) rfl (by decide) in_X3 tyX3_ok nmX3 (Or.inl ⟨rfl, rfl⟩) (fun _ _ _ h => h) rfl q1271) <|
  fG mo_ald (sim_ald_n dX3_beginOne_134 rfl) <|
  fG mo_ild (sim_ild_n dX3_beginOne_135 rfl) <|
  fC (ic_cv (Or.inl rfl)) (sim_cv hG dX3_beginOne_136 (hG.2.1 3 _ hc_3).2.1 M_X3_push (by rw [nm_X3_push]; rfl) (by rw [nm_X3_push]; exact q1526) (by rw [nm_X3_push]; exact q1528) (by rw [nm_X3_push]; exact qs65)) <|
  fG mo_ald (sim_ald_n dX3_beginOne_139 rfl) <|
  fC (ic_cv (Or.inl rfl)) (sim_cv hG dX3_beginOne_140 (hG.2.1 3 _ hc_3).2.1 M_X3_nextToken (by rw [nm_X3_nextToken]; rfl) (by rw [nm_X3_nextToken]; exact q1464) (by rw [nm_X3_nextToken]; exact q1466) (by rw [nm_X3_nextToken]; exact qs53)) <|
  fG mo_int (sim_iconst dX3_beginOne_143 (by decide)) <|
  fE ie_iret (sim_iret dX3_beginOne_144 rfl (Or.inl ⟨rfl, rfl⟩))
theorem F_X3_beginOne {X : tp_X} {az : Array Value} (hG : tp_Good X az) (hSt : tp_Stat X) (pc : Nat) : tp_Fit X yX3_beginOne cX3_beginOne (some .int) 2 tp_nm tp_by tp_ml tp_rtt pc (mX3_beginOne pc) :=
  fI (fX3_beginOne_0 hG hSt) <| fI (fX3_beginOne_20 hG hSt) <| fI (fX3_beginOne_39 hG hSt) <| fI (fX3_beginOne_59 hG hSt) <| fI (fX3_beginOne_78 hG hSt) <| fI (fX3_beginOne_92 hG hSt) <| fI (fX3_beginOne_105 hG hSt) <| fI (fX3_beginOne_106 hG hSt) <| fI (fX3_beginOne_113 hG hSt) <| fI (fX3_beginOne_124 hG hSt) <| trivial
theorem fX3_nameOf_0 {X : tp_X} {az : Array Value} (hG : tp_Good X az) (hSt : tp_Stat X) : tp_Fit X yX3_nameOf cX3_nameOf (some .int) 1 tp_nm tp_by tp_ml tp_rtt 0 [o_ald (.aload_n 0) 0, o_getf (.getfield 129) 3 12, o_int (.iconst 2) 2, o_icmpeq 5 10, o_int (.iconst (-1)) (-1), o_iret 0] :=
  fG mo_ald (sim_ald_n dX3_nameOf_0 rfl) <|
  fG mo_getf (sim_getfG hG dX3_nameOf_1 hc_3 (by decide) rfl in_X3 (fun _ _ _ h => h) (Or.inl q1264)) <|
  fG mo_int (sim_iconst dX3_nameOf_4 (by decide)) <|
  fG mo_icmpeq (sim_icmpeq dX3_nameOf_5 rfl) <|
  fG mo_int (sim_iconst dX3_nameOf_8 (by decide)) <|
  fE ie_iret (sim_iret dX3_nameOf_9 rfl (Or.inl ⟨rfl, rfl⟩))
theorem fX3_nameOf_10 {X : tp_X} {az : Array Value} (hG : tp_Good X az) (hSt : tp_Stat X) : tp_Fit X yX3_nameOf cX3_nameOf (some .int) 1 tp_nm tp_by tp_ml tp_rtt 10 [o_ald (.aload_n 0) 0, o_getf (.getfield 142) 3 14, o_int (.bipush 116) 116, o_int (.bipush 104) 104, o_int (.bipush 105) 105, o_int (.bipush 99) 99, o_int (.bipush 107) 107, o_cs (.invokestatic 150) kX3_w5 5 0, o_lcmp, o_ifne 5 33, o_int (.iconst 0) 0, o_iret 0] :=
  fG mo_ald (sim_ald_n dX3_nameOf_10 rfl) <|
  fG mo_getf (sim_getfG hG dX3_nameOf_11 hc_3 (by decide) rfl in_X3 (fun _ _ _ h => h) (Or.inl q1266)) <|
  fG mo_int (sim_bipush dX3_nameOf_14 (by decide)) <|
  fG mo_int (sim_bipush dX3_nameOf_16 (by decide)) <|
  fG mo_int (sim_bipush dX3_nameOf_18 (by decide)) <|
  fG mo_int (sim_bipush dX3_nameOf_20 (by decide)) <|
  fG mo_int (sim_bipush dX3_nameOf_22 (by decide)) <|
  fC (ic_cs (Or.inl rfl)) (sim_cs hG dX3_nameOf_24 M_X3_w5 (by rw [nm_X3_w5]; rfl) (by rw [nm_X3_w5]; exact q1542) (by rw [nm_X3_w5]; exact q1543)) <|
  fG mo_lcmp (sim_lcmp dX3_nameOf_27) <|
  fG mo_ifne (sim_ifne dX3_nameOf_28 rfl) <|
  fG mo_int (sim_iconst dX3_nameOf_31 (by decide)) <|
  fE ie_iret (sim_iret dX3_nameOf_32 rfl (Or.inl ⟨rfl, rfl⟩))
theorem fX3_nameOf_33 {X : tp_X} {az : Array Value} (hG : tp_Good X az) (hSt : tp_Stat X) : tp_Fit X yX3_nameOf cX3_nameOf (some .int) 1 tp_nm tp_by tp_ml tp_rtt 33 [o_ald (.aload_n 0) 0, o_getf (.getfield 142) 3 14, o_int (.bipush 110) 110, o_int (.bipush 111) 111, o_int (.bipush 114) 114, o_int (.bipush 116) 116, o_int (.bipush 104) 104, o_cs (.invokestatic 150) kX3_w5 5 0, o_lcmp, o_ifne 5 56, o_int (.iconst 1) 1, o_iret 0] :=
  fG mo_ald (sim_ald_n dX3_nameOf_33 rfl) <|
  fG mo_getf (sim_getfG hG dX3_nameOf_34 hc_3 (by decide) rfl in_X3 (fun _ _ _ h => h) (Or.inl q1266)) <|
  fG mo_int (sim_bipush dX3_nameOf_37 (by decide)) <|
  fG mo_int (sim_bipush dX3_nameOf_39 (by decide)) <|
  fG mo_int (sim_bipush dX3_nameOf_41 (by decide)) <|
  fG mo_int (sim_bipush dX3_nameOf_43 (by decide)) <|
  fG mo_int (sim_bipush dX3_nameOf_45 (by decide)) <|
  fC (ic_cs (Or.inl rfl)) (sim_cs hG dX3_nameOf_47 M_X3_w5 (by rw [nm_X3_w5]; rfl) (by rw [nm_X3_w5]; exact q1542) (by rw [nm_X3_w5]; exact q1543)) <|
  fG mo_lcmp (sim_lcmp dX3_nameOf_50) <|
  fG mo_ifne (sim_ifne dX3_nameOf_51 rfl) <|
  fG mo_int (sim_iconst dX3_nameOf_54 (by decide)) <|
  fE ie_iret (sim_iret dX3_nameOf_55 rfl (Or.inl ⟨rfl, rfl⟩))
theorem fX3_nameOf_56 {X : tp_X} {az : Array Value} (hG : tp_Good X az) (hSt : tp_Stat X) : tp_Fit X yX3_nameOf cX3_nameOf (some .int) 1 tp_nm tp_by tp_ml tp_rtt 56 [o_ald (.aload_n 0) 0, o_getf (.getfield 142) 3 14, o_int (.bipush 101) 101, o_int (.bipush 97) 97, o_int (.bipush 115) 115, o_int (.bipush 116) 116, o_cs (.invokestatic 174) kX3_w4 4 0, o_lcmp, o_ifne 5 77, o_int (.iconst 2) 2, o_iret 0] :=
  fG mo_ald (sim_ald_n dX3_nameOf_56 rfl) <|
  fG mo_getf (sim_getfG hG dX3_nameOf_57 hc_3 (by decide) rfl in_X3 (fun _ _ _ h => h) (Or.inl q1266)) <|
  fG mo_int (sim_bipush dX3_nameOf_60 (by decide)) <|
  fG mo_int (sim_bipush dX3_nameOf_62 (by decide)) <|
  fG mo_int (sim_bipush dX3_nameOf_64 (by decide)) <|
  fG mo_int (sim_bipush dX3_nameOf_66 (by decide)) <|
  fC (ic_cs (Or.inl rfl)) (sim_cs hG dX3_nameOf_68 M_X3_w4 (by rw [nm_X3_w4]; rfl) (by rw [nm_X3_w4]; exact q1494) (by rw [nm_X3_w4]; exact q1495)) <|
  fG mo_lcmp (sim_lcmp dX3_nameOf_71) <|
  fG mo_ifne (sim_ifne dX3_nameOf_72 rfl) <|
  fG mo_int (sim_iconst dX3_nameOf_75 (by decide)) <|
  fE ie_iret (sim_iret dX3_nameOf_76 rfl (Or.inl ⟨rfl, rfl⟩))
theorem fX3_nameOf_77 {X : tp_X} {az : Array Value} (hG : tp_Good X az) (hSt : tp_Stat X) : tp_Fit X yX3_nameOf cX3_nameOf (some .int) 1 tp_nm tp_by tp_ml tp_rtt 77 [o_ald (.aload_n 0) 0, o_getf (.getfield 142) 3 14, o_int (.bipush 115) 115, o_int (.bipush 111) 111, o_int (.bipush 117) 117, o_int (.bipush 116) 116, o_int (.bipush 104) 104, o_cs (.invokestatic 150) kX3_w5 5 0, o_lcmp, o_ifne 5 100, o_int (.iconst 3) 3, o_iret 0] :=
  fG mo_ald (sim_ald_n dX3_nameOf_77 rfl) <|
  fG mo_getf (sim_getfG hG dX3_nameOf_78 hc_3 (by decide) rfl in_X3 (fun _ _ _ h => h) (Or.inl q1266)) <|
  fG mo_int (sim_bipush dX3_nameOf_81 (by decide)) <|
  fG mo_int (sim_bipush dX3_nameOf_83 (by decide)) <|
  fG mo_int (sim_bipush dX3_nameOf_85 (by decide)) <|
  fG mo_int (sim_bipush dX3_nameOf_87 (by decide)) <|
  fG mo_int (sim_bipush dX3_nameOf_89 (by decide)) <|
  fC (ic_cs (Or.inl rfl)) (sim_cs hG dX3_nameOf_91 M_X3_w5 (by rw [nm_X3_w5]; rfl) (by rw [nm_X3_w5]; exact q1542) (by rw [nm_X3_w5]; exact q1543)) <|
  fG mo_lcmp (sim_lcmp dX3_nameOf_94) <|
  fG mo_ifne (sim_ifne dX3_nameOf_95 rfl) <|
  fG mo_int (sim_iconst dX3_nameOf_98 (by decide)) <|
  fE ie_iret (sim_iret dX3_nameOf_99 rfl (Or.inl ⟨rfl, rfl⟩))
theorem fX3_nameOf_100 {X : tp_X} {az : Array Value} (hG : tp_Good X az) (hSt : tp_Stat X) : tp_Fit X yX3_nameOf cX3_nameOf (some .int) 1 tp_nm tp_by tp_ml tp_rtt 100 [o_ald (.aload_n 0) 0, o_getf (.getfield 142) 3 14, o_int (.bipush 119) 119, o_int (.bipush 101) 101, o_int (.bipush 115) 115, o_int (.bipush 116) 116, o_cs (.invokestatic 174) kX3_w4 4 0, o_lcmp, o_ifne 5 121, o_int (.iconst 4) 4, o_iret 0] :=
  fG mo_ald (sim_ald_n dX3_nameOf_100 rfl) <|
  fG mo_getf (sim_getfG hG dX3_nameOf_101 hc_3 (by decide) rfl in_X3 (fun _ _ _ h => h) (Or.inl q1266)) <|
  fG mo_int (sim_bipush dX3_nameOf_104 (by decide)) <|
  fG mo_int (sim_bipush dX3_nameOf_106 (by decide)) <|
  fG mo_int (sim_bipush dX3_nameOf_108 (by decide)) <|
  fG mo_int (sim_bipush dX3_nameOf_110 (by decide)) <|
  fC (ic_cs (Or.inl rfl)) (sim_cs hG dX3_nameOf_112 M_X3_w4 (by rw [nm_X3_w4]; rfl) (by rw [nm_X3_w4]; exact q1494) (by rw [nm_X3_w4]; exact q1495)) <|
  fG mo_lcmp (sim_lcmp dX3_nameOf_115) <|
  fG mo_ifne (sim_ifne dX3_nameOf_116 rfl) <|
  fG mo_int (sim_iconst dX3_nameOf_119 (by decide)) <|
  fE ie_iret (sim_iret dX3_nameOf_120 rfl (Or.inl ⟨rfl, rfl⟩))
theorem fX3_nameOf_121 {X : tp_X} {az : Array Value} (hG : tp_Good X az) (hSt : tp_Stat X) : tp_Fit X yX3_nameOf cX3_nameOf (some .int) 1 tp_nm tp_by tp_ml tp_rtt 121 [o_ald (.aload_n 0) 0, o_getf (.getfield 142) 3 14, o_lng (.ldc2_w 178) 120, o_lcmp, o_ifne 5 134, o_int (.iconst 5) 5, o_iret 0] :=
  fG mo_ald (sim_ald_n dX3_nameOf_121 rfl) <|
  fG mo_getf (sim_getfG hG dX3_nameOf_122 hc_3 (by decide) rfl in_X3 (fun _ _ _ h => h) (Or.inl q1266)) <|
  fG mo_lng (sim_ldc2 hG dX3_nameOf_125 q1545 rfl) <|
  fG mo_lcmp (sim_lcmp dX3_nameOf_128) <|
  fG mo_ifne (sim_ifne dX3_nameOf_129 rfl) <|
  fG mo_int (sim_iconst dX3_nameOf_132 (by decide)) <|
  fE ie_iret (sim_iret dX3_nameOf_133 rfl (Or.inl ⟨rfl, rfl⟩))
theorem fX3_nameOf_134 {X : tp_X} {az : Array Value} (hG : tp_Good X az) (hSt : tp_Stat X) : tp_Fit X yX3_nameOf cX3_nameOf (some .int) 1 tp_nm tp_by tp_ml tp_rtt 134 [o_ald (.aload_n 0) 0, o_getf (.getfield 142) 3 14, o_lng (.ldc2_w 180) 121, o_lcmp, o_ifne 6 148, o_int (.bipush 6) 6, o_iret 0] :=
  fG mo_ald (sim_ald_n dX3_nameOf_134 rfl) <|
  fG mo_getf (sim_getfG hG dX3_nameOf_135 hc_3 (by decide) rfl in_X3 (fun _ _ _ h => h) (Or.inl q1266)) <|
  fG mo_lng (sim_ldc2 hG dX3_nameOf_138 q1546 rfl) <|
  fG mo_lcmp (sim_lcmp dX3_nameOf_141) <|
  fG mo_ifne (sim_ifne dX3_nameOf_142 rfl) <|
  fG mo_int (sim_bipush dX3_nameOf_145 (by decide)) <|
  fE ie_iret (sim_iret dX3_nameOf_147 rfl (Or.inl ⟨rfl, rfl⟩))
theorem fX3_nameOf_148 {X : tp_X} {az : Array Value} (hG : tp_Good X az) (hSt : tp_Stat X) : tp_Fit X yX3_nameOf cX3_nameOf (some .int) 1 tp_nm tp_by tp_ml tp_rtt 148 [o_ald (.aload_n 0) 0, o_getf (.getfield 142) 3 14, o_int (.bipush 119) 119, o_int (.bipush 105) 105, o_int (.bipush 110) 110, o_int (.bipush 100) 100, o_cs (.invokestatic 174) kX3_w4 4 0, o_lcmp, o_ifne 6 170, o_int (.bipush 7) 7, o_iret 0] :=
  fG mo_ald (sim_ald_n dX3_nameOf_148 rfl) <|
  fG mo_getf (sim_getfG hG dX3_nameOf_149 hc_3 (by decide) rfl in_X3 (fun _ _ _ h => h) (Or.inl q1266)) <|
  fG mo_int (sim_bipush dX3_nameOf_152 (by decide)) <|
  fG mo_int (sim_bipush dX3_nameOf_154 (by decide)) <|
  fG mo_int (sim_bipush dX3_nameOf_156 (by decide)) <|
  fG mo_int (sim_bipush dX3_nameOf_158 (by decide)) <|
  fC (ic_cs (Or.inl rfl)) (sim_cs hG dX3_nameOf_160 M_X3_w4 (by rw [nm_X3_w4]; rfl) (by rw [nm_X3_w4]; exact q1494) (by rw [nm_X3_w4]; exact q1495)) <|
  fG mo_lcmp (sim_lcmp dX3_nameOf_163) <|
  fG mo_ifne (sim_ifne dX3_nameOf_164 rfl) <|
  fG mo_int (sim_bipush dX3_nameOf_167 (by decide)) <|
  fE ie_iret (sim_iret dX3_nameOf_169 rfl (Or.inl ⟨rfl, rfl⟩))
theorem fX3_nameOf_170 {X : tp_X} {az : Array Value} (hG : tp_Good X az) (hSt : tp_Stat X) : tp_Fit X yX3_nameOf cX3_nameOf (some .int) 1 tp_nm tp_by tp_ml tp_rtt 170 [o_ald (.aload_n 0) 0, o_getf (.getfield 142) 3 14, o_int (.bipush 119) 119, o_int (.bipush 97) 97, o_int (.bipush 116) 116, o_int (.bipush 99) 99, o_int (.bipush 104) 104, o_cs (.invokestatic 150) kX3_w5 5 0, o_lcmp, o_ifne 6 194, o_int (.bipush 8) 8, o_iret 0] :=
  fG mo_ald (sim_ald_n dX3_nameOf_170 rfl) <|
  fG mo_getf (sim_getfG hG dX3_nameOf_171 hc_3 (by decide) rfl in_X3 (fun _ _ _ h => h) (Or.inl q1266)) <|
  fG mo_int (sim_bipush dX3_nameOf_174 (by decide)) <|
  fG mo_int (sim_bipush dX3_nameOf_176 (by decide)) <|
  fG mo_int (sim_bipush dX3_nameOf_178 (by decide)) <|
  fG mo_int (sim_bipush dX3_nameOf_180 (by decide)) <|
  fG mo_int (sim_bipush dX3_nameOf_182 (by decide)) <|
  fC (ic_cs (Or.inl rfl)) (sim_cs hG dX3_nameOf_184 M_X3_w5 (by rw [nm_X3_w5]; rfl) (by rw [nm_X3_w5]; exact q1542) (by rw [nm_X3_w5]; exact q1543)) <|
  fG mo_lcmp (sim_lcmp dX3_nameOf_187) <|
  fG mo_ifne (sim_ifne dX3_nameOf_188 rfl) <|
  fG mo_int (sim_bipush dX3_nameOf_191 (by decide)) <|
  fE ie_iret (sim_iret dX3_nameOf_193 rfl (Or.inl ⟨rfl, rfl⟩))
theorem fX3_nameOf_194 {X : tp_X} {az : Array Value} (hG : tp_Good X az) (hSt : tp_Stat X) : tp_Fit X yX3_nameOf cX3_nameOf (some .int) 1 tp_nm tp_by tp_ml tp_rtt 194 [o_ald (.aload_n 0) 0, o_getf (.getfield 142) 3 14, o_int (.bipush 99) 99, o_int (.bipush 111) 111, o_int (.bipush 97) 97, o_int (.bipush 108) 108, o_cs (.invokestatic 174) kX3_w4 4 0, o_lcmp, o_ifne 8 218, o_int (.bipush 9) 9, o_goto 32 247] :=
  fG mo_ald (sim_ald_n dX3_nameOf_194 rfl) <|
  fG mo_getf (sim_getfG hG dX3_nameOf_195 hc_3 (by decide) rfl in_X3 (fun _ _ _ h => h) (Or.inl q1266)) <|
  fG mo_int (sim_bipush dX3_nameOf_198 (by decide)) <|
  fG mo_int (sim_bipush dX3_nameOf_200 (by decide)) <|
  fG mo_int (sim_bipush dX3_nameOf_202 (by decide)) <|
  fG mo_int (sim_bipush dX3_nameOf_204 (by decide)) <|
  fC (ic_cs (Or.inl rfl)) (sim_cs hG dX3_nameOf_206 M_X3_w4 (by rw [nm_X3_w4]; rfl) (by rw [nm_X3_w4]; exact q1494) (by rw [nm_X3_w4]; exact q1495)) <|
  fG mo_lcmp (sim_lcmp dX3_nameOf_209) <|
  fG mo_ifne (sim_ifne dX3_nameOf_210 rfl) <|
  fG mo_int (sim_bipush dX3_nameOf_213 (by decide)) <|
  fG mo_goto (sim_goto dX3_nameOf_215 rfl) <|
  trivial
theorem fX3_nameOf_218 {X : tp_X} {az : Array Value} (hG : tp_Good X az) (hSt : tp_Stat X) : tp_Fit X yX3_nameOf cX3_nameOf (some .int) 1 tp_nm tp_by tp_ml tp_rtt 218 [o_ald (.aload_n 0) 0, o_getf (.getfield 142) 3 14, o_int (.bipush 98) 98, o_int (.bipush 97) 97, o_int (.bipush 110) 110, o_int (.bipush 107) 107, o_int (.bipush 101) 101, o_int (.bipush 100) 100, o_cs (.invokestatic 182) kX3_w6 6 0, o_lcmp, o_ifne 8 246, o_int (.bipush 10) 10, o_goto 4 247] :=
  fG mo_ald (sim_ald_n dX3_nameOf_218 rfl) <|
  fG mo_getf (sim_getfG hG dX3_nameOf_219 hc_3 (by decide) rfl in_X3 (fun _ _ _ h => h) (Or.inl q1266)) <|
  fG mo_int (sim_bipush dX3_nameOf_222 (by decide)) <|
  fG mo_int (sim_bipush dX3_nameOf_224 (by decide)) <|
  fG mo_int (sim_bipush dX3_nameOf_226 (by decide)) <|
  fG mo_int (sim_bipush dX3_nameOf_228 (by decide)) <|
  fG mo_int (sim_bipush dX3_nameOf_230 (by decide)) <|
  fG mo_int (sim_bipush dX3_nameOf_232 (by decide)) <|
  fC (ic_cs (Or.inl rfl)) (sim_cs hG dX3_nameOf_234 M_X3_w6 (by rw [nm_X3_w6]; rfl) (by rw [nm_X3_w6]; exact q1547) (by rw [nm_X3_w6]; exact q1548)) <|
  fG mo_lcmp (sim_lcmp dX3_nameOf_237) <|
  fG mo_ifne (sim_ifne dX3_nameOf_238 rfl) <|
  fG mo_int (sim_bipush dX3_nameOf_241 (by decide)) <|
  fG mo_goto (sim_goto dX3_nameOf_243 rfl) <|
  trivial
theorem fX3_nameOf_246 {X : tp_X} {az : Array Value} (hG : tp_Good X az) (hSt : tp_Stat X) : tp_Fit X yX3_nameOf cX3_nameOf (some .int) 1 tp_nm tp_by tp_ml tp_rtt 246 [o_int (.iconst (-1)) (-1), o_fall 247] :=
  fG mo_int (sim_iconst dX3_nameOf_246 (by decide)) <|
  fF
theorem fX3_nameOf_247 {X : tp_X} {az : Array Value} (hG : tp_Good X az) (hSt : tp_Stat X) : tp_Fit X yX3_nameOf cX3_nameOf (some .int) 1 tp_nm tp_by tp_ml tp_rtt 247 [o_iret 0] :=
  fE ie_iret (sim_iret dX3_nameOf_247 rfl (Or.inl ⟨rfl, rfl⟩))
theorem F_X3_nameOf {X : tp_X} {az : Array Value} (hG : tp_Good X az) (hSt : tp_Stat X) (pc : Nat) : tp_Fit X yX3_nameOf cX3_nameOf (some .int) 1 tp_nm tp_by tp_ml tp_rtt pc (mX3_nameOf pc) :=
  fI (fX3_nameOf_0 hG hSt) <| fI (fX3_nameOf_10 hG hSt) <| fI (fX3_nameOf_33 hG hSt) <| fI (fX3_nameOf_56 hG hSt) <| fI (fX3_nameOf_77 hG hSt) <| fI (fX3_nameOf_100 hG hSt) <| fI (fX3_nameOf_121 hG hSt) <| fI (fX3_nameOf_134 hG hSt) <| fI (fX3_nameOf_148 hG hSt) <| fI (fX3_nameOf_170 hG hSt) <| fI (fX3_nameOf_194 hG hSt) <| fI (fX3_nameOf_218 hG hSt) <| fI (fX3_nameOf_246 hG hSt) <| fI (fX3_nameOf_247 hG hSt) <| trivial
theorem fX3_w5_0 {X : tp_X} {az : Array Value} (hG : tp_Good X az) (hSt : tp_Stat X) : tp_Fit X yX3_w5 cX3_w5 (some .long) 5 tp_nm tp_by tp_ml tp_rtt 0 [o_ild (.iload_n 0) 0, o_ild (.iload_n 1) 1, o_ild (.iload_n 2) 2, o_cs (.invokestatic 146) kX3_w3 3 0, o_int (.bipush 8) 8, o_lshl, o_ild (.iload_n 3) 3, o_i2l, o_lor, o_int (.bipush 8) 8, o_lshl, o_ild (.iload 4) 4, o_i2l, o_lor, o_lret] :=
  fG mo_ild (sim_ild_n dX3_w5_0 rfl) <|
  fG mo_ild (sim_ild_n dX3_w5_1 rfl) <|
  fG mo_ild (sim_ild_n dX3_w5_2 rfl) <|
  fC (ic_cs (Or.inl rfl)) (sim_cs hG dX3_w5_3 M_X3_w3 (by rw [nm_X3_w3]; rfl) (by rw [nm_X3_w3]; exact q1487) (by rw [nm_X3_w3]; exact q1488)) <|
  fG mo_int (sim_bipush dX3_w5_6 (by decide)) <|
  fG mo_lshl (sim_lshl dX3_w5_8) <|
  fG mo_ild (sim_ild_n dX3_w5_9 rfl) <|
  fG mo_i2l (sim_i2l dX3_w5_10) <|
  fG mo_lor (sim_lor dX3_w5_11) <|
  fG mo_int (sim_bipush dX3_w5_12 (by decide)) <|
  fG mo_lshl (sim_lshl dX3_w5_14) <|
  fG mo_ild (sim_ild dX3_w5_15) <|
  fG mo_i2l (sim_i2l dX3_w5_17) <|
  fG mo_lor (sim_lor dX3_w5_18) <|
  fE ie_lret (sim_lret dX3_w5_19 rfl)
theorem F_X3_w5 {X : tp_X} {az : Array Value} (hG : tp_Good X az) (hSt : tp_Stat X) (pc : Nat) : tp_Fit X yX3_w5 cX3_w5 (some .long) 5 tp_nm tp_by tp_ml tp_rtt pc (mX3_w5 pc) :=
  fI (fX3_w5_0 hG hSt) <| trivial
theorem fX3_w6_0 {X : tp_X} {az : Array Value} (hG : tp_Good X az) (hSt : tp_Stat X) : tp_Fit X yX3_w6 cX3_w6 (some .long) 6 tp_nm tp_by tp_ml tp_rtt 0 [o_ild (.iload_n 0) 0, o_ild (.iload_n 1) 1, o_ild (.iload_n 2) 2, o_ild (.iload_n 3) 3, o_ild (.iload 4) 4, o_cs (.invokestatic 150) kX3_w5 5 0, o_int (.bipush 8) 8, o_lshl, o_ild (.iload 5) 5, o_i2l, o_lor, o_lret] :=
  fG mo_ild (sim_ild_n dX3_w6_0 rfl) <|
  fG mo_ild (sim_ild_n dX3_w6_1 rfl) <|
  fG mo_ild (sim_ild_n dX3_w6_2 rfl) <|
  fG mo_ild (sim_ild_n dX3_w6_3 rfl) <|
  fG mo_ild (sim_ild dX3_w6_4) <|
  fC (ic_cs (Or.inl rfl)) (sim_cs hG dX3_w6_6 M_X3_w5 (by rw [nm_X3_w5]; rfl) (by rw [nm_X3_w5]; exact q1542) (by rw [nm_X3_w5]; exact q1543)) <|
  fG mo_int (sim_bipush dX3_w6_9 (by decide)) <|
  fG mo_lshl (sim_lshl dX3_w6_11) <|
  fG mo_ild (sim_ild dX3_w6_12) <|
  fG mo_i2l (sim_i2l dX3_w6_14) <|
  fG mo_lor (sim_lor dX3_w6_15) <|
  fE ie_lret (sim_lret dX3_w6_16 rfl)
theorem F_X3_w6 {X : tp_X} {az : Array Value} (hG : tp_Good X az) (hSt : tp_Stat X) (pc : Nat) : tp_Fit X yX3_w6 cX3_w6 (some .long) 6 tp_nm tp_by tp_ml tp_rtt pc (mX3_w6 pc) :=
  fI (fX3_w6_0 hG hSt) <| trivial
theorem fX3_isBarred_0 {X : tp_X} {az : Array Value} (hG : tp_Good X az) (hSt : tp_Stat X) : tp_Fit X yX3_isBarred cX3_isBarred (some .boolean) 2 tp_nm tp_by tp_ml tp_rtt 0 [o_ild (.iload_n 1) 1, o_int (.bipush 8) 8, o_icmple 15 18, o_ald (.aload_n 0) 0, o_getf (.getfield 186) 3 23, o_int (.iconst 4) 4, o_icmpeq 7 18, o_int (.iconst 1) 1, o_goto 4 19] :=
  fG mo_ild (sim_ild_n dX3_isBarred_0 rfl) <|
  fG mo_int (sim_bipush dX3_isBarred_1 (by decide)) <|
  fG mo_icmple (sim_icmple dX3_isBarred_3 rfl) <|
  fG mo_ald (sim_ald_n dX3_isBarred_6 rfl) <|
  fG mo_getf (sim_getfG hG dX3_isBarred_7 hc_3 (by decide) rfl in_X3 (fun _ _ _ h => h) (Or.inl q1273)) <|
  fG mo_int (sim_iconst dX3_isBarred_10 (by decide)) <|
  fG mo_icmpeq (sim_icmpeq dX3_isBarred_11 rfl) <|
  fG mo_int (sim_iconst dX3_isBarred_14 (by decide)) <|
  fG mo_goto (sim_goto dX3_isBarred_15 rfl) <|
  trivial
theorem fX3_isBarred_18 {X : tp_X} {az : Array Value} (hG : tp_Good X az) (hSt : tp_Stat X) : tp_Fit X yX3_isBarred cX3_isBarred (some .boolean) 2 tp_nm tp_by tp_ml tp_rtt 18 [o_int (.iconst 0) 0, o_fall 19] :=
  fG mo_int (sim_iconst dX3_isBarred_18 (by decide)) <|
  fF
theorem fX3_isBarred_19 {X : tp_X} {az : Array Value} (hG : tp_Good X az) (hSt : tp_Stat X) : tp_Fit X yX3_isBarred cX3_isBarred (some .boolean) 2 tp_nm tp_by tp_ml tp_rtt 19 [o_iret 1] :=
  fE ie_iret (sim_iret dX3_isBarred_19 rfl (Or.inr (Or.inl ⟨rfl, rfl⟩)))
theorem F_X3_isBarred {X : tp_X} {az : Array Value} (hG : tp_Good X az) (hSt : tp_Stat X) (pc : Nat) : tp_Fit X yX3_isBarred cX3_isBarred (some .boolean) 2 tp_nm tp_by tp_ml tp_rtt pc (mX3_isBarred pc) :=
  fI (fX3_isBarred_0 hG hSt) <| fI (fX3_isBarred_18 hG hSt) <| fI (fX3_isBarred_19 hG hSt) <| trivial
theorem fX3_either_0 {X : tp_X} {az : Array Value} (hG : tp_Good X az) (hSt : tp_Stat X) : tp_Fit X yX3_either cX3_either (some .int) 6 tp_nm tp_by tp_ml tp_rtt 0 [o_int (.iconst 0) 0, o_ist (.istore_n 1) 1, o_int (.iconst 0) 0, o_ist (.istore_n 2) 2, o_int (.iconst 1) 1, o_ist (.istore_n 3) 3, o_fall 6] :=
  fG mo_int (sim_iconst dX3_either_0 (by decide)) <|
  fG mo_ist (sim_ist_n dX3_either_1 rfl) <|
  fG mo_int (sim_iconst dX3_either_2 (by decide)) <|
  fG mo_ist (sim_ist_n dX3_either_3 rfl) <|
  fG mo_int (sim_iconst dX3_either_4 (by decide)) <|
  fG mo_ist (sim_ist_n dX3_either_5 rfl) <|
  fF
theorem fX3_either_6 {X : tp_X} {az : Array Value} (hG : tp_Good X az) (hSt : tp_Stat X) : tp_Fit X yX3_either cX3_either (some .int) 6 tp_nm tp_by tp_ml tp_rtt 6 [o_ild (.iload_n 3) 3, o_ifeq 112 119, o_ald (.aload_n 0) 0, o_cv (.invokevirtual 230) 3 kX3_asks 0 0, o_ist (.istore 4) 4, o_ild (.iload 4) 4, o_ifeq 6 24, o_ild (.iload 4) 4, o_iret 0] :=
  fG mo_ild (sim_ild_n dX3_either_6 rfl) <|
  fG mo_ifeq (sim_ifeq dX3_either_7 rfl) <|
  fG mo_ald (sim_ald_n dX3_either_10 rfl) <|
  fC (ic_cv (Or.inl rfl)) (sim_cv hG dX3_either_11 (hG.2.1 3 _ hc_3).2.1 M_X3_asks (by rw [nm_X3_asks]; rfl) (by rw [nm_X3_asks]; exact q1558) (by rw [nm_X3_asks]; exact q1560) (by rw [nm_X3_asks]; exact qs71)) <|
  fG mo_ist (sim_ist dX3_either_14) <|
  fG mo_ild (sim_ild dX3_either_16) <|
  fG mo_ifeq (sim_ifeq dX3_either_18 rfl) <|
  fG mo_ild (sim_ild dX3_either_21) <|
  fE ie_iret (sim_iret dX3_either_23 rfl (Or.inl ⟨rfl, rfl⟩))
theorem fX3_either_24 {X : tp_X} {az : Array Value} (hG : tp_Good X az) (hSt : tp_Stat X) : tp_Fit X yX3_either cX3_either (some .int) 6 tp_nm tp_by tp_ml tp_rtt 24 [o_ild (.iload_n 1) 1, o_ifeq 10 35, o_ald (.aload_n 0) 0, o_int (.bipush 21) 21, o_int (.iconst 0) 0, o_cv (.invokevirtual 170) 3 kX3_emit 2 0, o_fall 35] :=
  fG mo_ild (sim_ild_n dX3_either_24 rfl) <|
  fG mo_ifeq (sim_ifeq dX3_either_25 rfl) <|
  fG mo_ald (sim_ald_n dX3_either_28 rfl) <|
  fG mo_int (sim_bipush dX3_either_29 (by decide)) <|
  fG mo_int (sim_iconst dX3_either_31 (by decide)) <|
  fC (ic_cv (Or.inl rfl)) (sim_cv hG dX3_either_32 (hG.2.1 3 _ hc_3).2.1 M_X3_emit (by rw [nm_X3_emit]; rfl) (by rw [nm_X3_emit]; exact q1522) (by rw [nm_X3_emit]; exact q1524) (by rw [nm_X3_emit]; exact qs64)) <|
  fF
theorem fX3_either_35 {X : tp_X} {az : Array Value} (hG : tp_Good X az) (hSt : tp_Stat X) : tp_Fit X yX3_either cX3_either (some .int) 6 tp_nm tp_by tp_ml tp_rtt 35 [o_ald (.aload_n 0) 0, o_int (.bipush 97) 97, o_int (.bipush 110) 110, o_int (.bipush 100) 100, o_cs (.invokestatic 146) kX3_w3 3 0, o_cv (.invokevirtual 220) 3 kX3_isWord 1 0, o_ist (.istore_n 1) 1, o_ald (.aload_n 0) 0, o_getf (.getfield 129) 3 12, o_int (.iconst 2) 2, o_icmpne 18 72, o_ald (.aload_n 0) 0, o_getf (.getfield 142) 3 14, o_lng (.ldc2_w 233) 28530, o_lcmp, o_ifne 7 72, o_int (.iconst 1) 1, o_goto 4 73] :=
  fG mo_ald (sim_ald_n dX3_either_35 rfl) <|
  fG mo_int (sim_bipush dX3_either_36 (by decide)) <|
  fG mo_int (sim_bipush dX3_either_38 (by decide)) <|
  fG mo_int (sim_bipush dX3_either_40 (by decide)) <|
  fC (ic_cs (Or.inl rfl)) (sim_cs hG dX3_either_42 M_X3_w3 (by rw [nm_X3_w3]; rfl) (by rw [nm_X3_w3]; exact q1487) (by rw [nm_X3_w3]; exact q1488)) <|
  fC (ic_cv (Or.inl rfl)) (sim_cv hG dX3_either_45 (hG.2.1 3 _ hc_3).2.1 M_X3_isWord (by rw [nm_X3_isWord]; rfl) (by rw [nm_X3_isWord]; exact q1490) (by rw [nm_X3_isWord]; exact q1492) (by rw [nm_X3_isWord]; exact qs57)) <|
  fG mo_ist (sim_ist_n dX3_either_48 rfl) <|
  fG mo_ald (sim_ald_n dX3_either_49 rfl) <|
  fG mo_getf (sim_getfG hG dX3_either_50 hc_3 (by decide) rfl in_X3 (fun _ _ _ h => h) (Or.inl q1264)) <|
  fG mo_int (sim_iconst dX3_either_53 (by decide)) <|
  fG mo_icmpne (sim_icmpne dX3_either_54 rfl) <|
  fG mo_ald (sim_ald_n dX3_either_57 rfl) <|
  fG mo_getf (sim_getfG hG dX3_either_58 hc_3 (by decide) rfl in_X3 (fun _ _ _ h => h) (Or.inl q1266)) <|
  fG mo_lng (sim_ldc2 hG dX3_either_61 q1566 rfl) <|
  fG mo_lcmp (sim_lcmp dX3_either_64) <|
  fG mo_ifne (sim_ifne dX3_either_65 rfl) <|
  fG mo_int (sim_iconst dX3_either_68 (by decide)) <|
  fG mo_goto (sim_goto dX3_either_69 rfl) <|
  trivial
theorem fX3_either_72 {X : tp_X} {az : Array Value} (hG : tp_Good X az) (hSt : tp_Stat X) : tp_Fit X yX3_either cX3_either (some .int) 6 tp_nm tp_by tp_ml tp_rtt 72 [o_int (.iconst 0) 0, o_fall 73] :=
  fG mo_int (sim_iconst dX3_either_72 (by decide)) <|
  fF
theorem fX3_either_73 {X : tp_X} {az : Array Value} (hG : tp_Good X az) (hSt : tp_Stat X) : tp_Fit X yX3_either cX3_either (some .int) 6 tp_nm tp_by tp_ml tp_rtt 73 [o_ist (.istore 5) 5, o_ild (.iload_n 1) 1, o_ifne 17 93, o_ild (.iload_n 2) 2, o_ifeq 10 90, o_ald (.aload_n 0) 0, o_int (.bipush 22) 22, o_int (.iconst 0) 0, o_cv (.invokevirtual 170) 3 kX3_emit 2 0, o_fall 90] :=
  fG mo_ist (sim_ist dX3_either_73) <|
  fG mo_ild (sim_ild_n dX3_either_75 rfl) <|
  fG mo_ifne (sim_ifne dX3_either_76 rfl) <|
  fG mo_ild (sim_ild_n dX3_either_79 rfl) <|
  fG mo_ifeq (sim_ifeq dX3_either_80 rfl) <|
  fG mo_ald (sim_ald_n dX3_either_83 rfl) <|
  fG mo_int (sim_bipush dX3_either_84 (by decide)) <|
  fG mo_int (sim_iconst dX3_either_86 (by decide)) <|
  fC (ic_cv (Or.inl rfl)) (sim_cv hG dX3_either_87 (hG.2.1 3 _ hc_3).2.1 M_X3_emit (by rw [nm_X3_emit]; rfl) (by rw [nm_X3_emit]; exact q1522) (by rw [nm_X3_emit]; exact q1524) (by rw [nm_X3_emit]; exact qs64)) <|
  fF
theorem fX3_either_90 {X : tp_X} {az : Array Value} (hG : tp_Good X az) (hSt : tp_Stat X) : tp_Fit X yX3_either cX3_either (some .int) 6 tp_nm tp_by tp_ml tp_rtt 90 [o_ild (.iload 5) 5, o_ist (.istore_n 2) 2, o_fall 93] :=
  fG mo_ild (sim_ild dX3_either_90) <|
  fG mo_ist (sim_ist_n dX3_either_92 rfl) <|
  fF
theorem fX3_either_93 {X : tp_X} {az : Array Value} (hG : tp_Good X az) (hSt : tp_Stat X) : tp_Fit X yX3_either cX3_either (some .int) 6 tp_nm tp_by tp_ml tp_rtt 93 [o_ild (.iload_n 1) 1, o_ifne 8 102, o_ild (.iload 5) 5, o_ifeq 7 106, o_fall 102] :=
  fG mo_ild (sim_ild_n dX3_either_93 rfl) <|
  fG mo_ifne (sim_ifne dX3_either_94 rfl) <|
  fG mo_ild (sim_ild dX3_either_97) <|
  fG mo_ifeq (sim_ifeq dX3_either_99 rfl) <|
  fF
theorem fX3_either_102 {X : tp_X} {az : Array Value} (hG : tp_Good X az) (hSt : tp_Stat X) : tp_Fit X yX3_either cX3_either (some .int) 6 tp_nm tp_by tp_ml tp_rtt 102 [o_int (.iconst 1) 1, o_goto 4 107] :=
  fG mo_int (sim_iconst dX3_either_102 (by decide)) <|
  fG mo_goto (sim_goto dX3_either_103 rfl) <|
  trivial
theorem fX3_either_106 {X : tp_X} {az : Array Value} (hG : tp_Good X az) (hSt : tp_Stat X) : tp_Fit X yX3_either cX3_either (some .int) 6 tp_nm tp_by tp_ml tp_rtt 106 [o_int (.iconst 0) 0, o_fall 107] :=
  fG mo_int (sim_iconst dX3_either_106 (by decide)) <|
  fF
theorem fX3_either_107 {X : tp_X} {az : Array Value} (hG : tp_Good X az) (hSt : tp_Stat X) : tp_Fit X yX3_either cX3_either (some .int) 6 tp_nm tp_by tp_ml tp_rtt 107 [o_ist (.istore_n 3) 3, o_ild (.iload_n 3) 3, o_ifeq 7 116, o_ald (.aload_n 0) 0, o_cv (.invokevirtual 189) 3 kX3_nextToken 0 0, o_fall 116] :=
  fG mo_ist (sim_ist_n dX3_either_107 rfl) <|
  fG mo_ild (sim_ild_n dX3_either_108 rfl) <|
  fG mo_ifeq (sim_ifeq dX3_either_109 rfl) <|
  fG mo_ald (sim_ald_n dX3_either_112 rfl) <|
  fC (ic_cv (Or.inl rfl)) (sim_cv hG dX3_either_113 (hG.2.1 3 _ hc_3).2.1 M_X3_nextToken (by rw [nm_X3_nextToken]; rfl) (by rw [nm_X3_nextToken]; exact q1464) (by rw [nm_X3_nextToken]; exact q1466) (by rw [nm_X3_nextToken]; exact qs53)) <|
  fF
theorem fX3_either_116 {X : tp_X} {az : Array Value} (hG : tp_Good X az) (hSt : tp_Stat X) : tp_Fit X yX3_either cX3_either (some .int) 6 tp_nm tp_by tp_ml tp_rtt 116 [o_goto (-110) 6] :=
  fG mo_goto (sim_goto dX3_either_116 rfl) <|
  trivial
theorem fX3_either_119 {X : tp_X} {az : Array Value} (hG : tp_Good X az) (hSt : tp_Stat X) : tp_Fit X yX3_either cX3_either (some .int) 6 tp_nm tp_by tp_ml tp_rtt 119 [o_int (.iconst 0) 0, o_iret 0] :=
  fG mo_int (sim_iconst dX3_either_119 (by decide)) <|
  fE ie_iret (sim_iret dX3_either_120 rfl (Or.inl ⟨rfl, rfl⟩))
theorem F_X3_either {X : tp_X} {az : Array Value} (hG : tp_Good X az) (hSt : tp_Stat X) (pc : Nat) : tp_Fit X yX3_either cX3_either (some .int) 6 tp_nm tp_by tp_ml tp_rtt pc (mX3_either pc) :=
  fI (fX3_either_0 hG hSt) <| fI (fX3_either_6 hG hSt) <| fI (fX3_either_24 hG hSt) <| fI (fX3_either_35 hG hSt) <| fI (fX3_either_72 hG hSt) <| fI (fX3_either_73 hG hSt) <| fI (fX3_either_90 hG hSt) <| fI (fX3_either_93 hG hSt) <| fI (fX3_either_102 hG hSt) <| fI (fX3_either_106 hG hSt) <| fI (fX3_either_107 hG hSt) <| fI (fX3_either_116 hG hSt) <| fI (fX3_either_119 hG hSt) <| trivial
theorem fX3_asks_0 {X : tp_X} {az : Array Value} (hG : tp_Good X az) (hSt : tp_Stat X) : tp_Fit X yX3_asks cX3_asks (some .int) 5 tp_nm tp_by tp_ml tp_rtt 0 [o_int (.iconst 0) 0, o_ist (.istore_n 1) 1, o_fall 2] :=
  fG mo_int (sim_iconst dX3_asks_0 (by decide)) <|
  fG mo_ist (sim_ist_n dX3_asks_1 rfl) <|
  fF
theorem fX3_asks_2 {X : tp_X} {az : Array Value} (hG : tp_Good X az) (hSt : tp_Stat X) : tp_Fit X yX3_asks cX3_asks (some .int) 5 tp_nm tp_by tp_ml tp_rtt 2 [o_ald (.aload_n 0) 0, o_int (.bipush 110) 110, o_int (.bipush 111) 111, o_int (.bipush 116) 116, o_cs (.invokestatic 146) kX3_w3 3 0, o_cv (.invokevirtual 220) 3 kX3_isWord 1 0, o_ifeq 34 49, o_ald (.aload_n 0) 0, o_getf (.getfield 167) 3 21, o_int (.bipush 8) 8, o_icmpne 5 29, o_int (.iconst 3) 3, o_iret 0] :=
  fG mo_ald (sim_ald_n dX3_asks_2 rfl) <|
  fG mo_int (sim_bipush dX3_asks_3 (by decide)) <|
  fG mo_int (sim_bipush dX3_asks_5 (by decide)) <|
  fG mo_int (sim_bipush dX3_asks_7 (by decide)) <|
  fC (ic_cs (Or.inl rfl)) (sim_cs hG dX3_asks_9 M_X3_w3 (by rw [nm_X3_w3]; rfl) (by rw [nm_X3_w3]; exact q1487) (by rw [nm_X3_w3]; exact q1488)) <|
  fC (ic_cv (Or.inl rfl)) (sim_cv hG dX3_asks_12 (hG.2.1 3 _ hc_3).2.1 M_X3_isWord (by rw [nm_X3_isWord]; rfl) (by rw [nm_X3_isWord]; exact q1490) (by rw [nm_X3_isWord]; exact q1492) (by rw [nm_X3_isWord]; exact qs57)) <|
  fG mo_ifeq (sim_ifeq dX3_asks_15 rfl) <|
  fG mo_ald (sim_ald_n dX3_asks_18 rfl) <|
  fG mo_getf (sim_getfG hG dX3_asks_19 hc_3 (by decide) rfl in_X3 (fun _ _ _ h => h) (Or.inl q1271)) <|
  fG mo_int (sim_bipush dX3_asks_22 (by decide)) <|
  fG mo_icmpne (sim_icmpne dX3_asks_24 rfl) <|
  fG mo_int (sim_iconst dX3_asks_27 (by decide)) <|
  fE ie_iret (sim_iret dX3_asks_28 rfl (Or.inl ⟨rfl, rfl⟩))
theorem fX3_asks_29 {X : tp_X} {az : Array Value} (hG : tp_Good X az) (hSt : tp_Stat X) : tp_Fit X yX3_asks cX3_asks (some .int) 5 tp_nm tp_by tp_ml tp_rtt 29 [o_ald (.aload_n 0) 0, o_dup, o_getf (.getfield 167) 3 21, o_int (.iconst 1) 1, o_iadd, o_putf (.putfield 167) 3 21 0, o_inc 1 1, o_ald (.aload_n 0) 0, o_cv (.invokevirtual 189) 3 kX3_nextToken 0 0, o_goto (-44) 2] :=
  fG mo_ald (sim_ald_n dX3_asks_29 rfl) <|
  fG mo_dup (sim_dup dX3_asks_30) <|
  fG mo_getf (sim_getfG hG dX3_asks_31 hc_3 (by decide) rfl in_X3 (fun _ _ _ h => h) (Or.inl q1271)) <|
  fG mo_int (sim_iconst dX3_asks_34 (by decide)) <|
  fG mo_iadd (sim_iadd dX3_asks_35) <|
  fG mo_putf (sim_putf hG dX3_asks_36 hc_3 (by decide) rfl (by decide) in_X3 tyX3_ok nmX3 (Or.inl ⟨rfl, rfl⟩) (fun _ _ _ h => h) rfl q1271) <|
  fG mo_inc (sim_inc dX3_asks_39 (by decide)) <|
  fG mo_ald (sim_ald_n dX3_asks_42 rfl) <|
  fC (ic_cv (Or.inl rfl)) (sim_cv hG dX3_asks_43 (hG.2.1 3 _ hc_3).2.1 M_X3_nextToken (by rw [nm_X3_nextToken]; rfl) (by rw [nm_X3_nextToken]; exact q1464) (by rw [nm_X3_nextToken]; exact q1466) (by rw [nm_X3_nextToken]; exact qs53)) <|
  fG mo_goto (sim_goto dX3_asks_46 rfl) <|
  trivial
theorem fX3_asks_49 {X : tp_X} {az : Array Value} (hG : tp_Good X az) (hSt : tp_Stat X) : tp_Fit X yX3_asks cX3_asks (some .int) 5 tp_nm tp_by tp_ml tp_rtt 49 [o_ald (.aload_n 0) 0, o_cv (.invokevirtual 224) 3 kX3_summed 0 0, o_ist (.istore_n 2) 2, o_ild (.iload_n 2) 2, o_ifeq 5 60, o_ild (.iload_n 2) 2, o_iret 0] :=
  fG mo_ald (sim_ald_n dX3_asks_49 rfl) <|
  fC (ic_cv (Or.inl rfl)) (sim_cv hG dX3_asks_50 (hG.2.1 3 _ hc_3).2.1 M_X3_summed (by rw [nm_X3_summed]; rfl) (by rw [nm_X3_summed]; exact q1502) (by rw [nm_X3_summed]; exact q1504) (by rw [nm_X3_summed]; exact qs59)) <|
  fG mo_ist (sim_ist_n dX3_asks_53 rfl) <|
  fG mo_ild (sim_ild_n dX3_asks_54 rfl) <|
  fG mo_ifeq (sim_ifeq dX3_asks_55 rfl) <|
  fG mo_ild (sim_ild_n dX3_asks_58 rfl) <|
  fE ie_iret (sim_iret dX3_asks_59 rfl (Or.inl ⟨rfl, rfl⟩))
theorem fX3_asks_60 {X : tp_X} {az : Array Value} (hG : tp_Good X az) (hSt : tp_Stat X) : tp_Fit X yX3_asks cX3_asks (some .int) 5 tp_nm tp_by tp_ml tp_rtt 60 [o_ald (.aload_n 0) 0, o_cv (.invokevirtual 227) 3 kX3_compareOf 0 0, o_ist (.istore_n 3) 3, o_ild (.iload_n 3) 3, o_ifge 5 71, o_int (.iconst 1) 1, o_iret 0] :=
  fG mo_ald (sim_ald_n dX3_asks_60 rfl) <|
  fC (ic_cv (Or.inl rfl)) (sim_cv hG dX3_asks_61 (hG.2.1 3 _ hc_3).2.1 M_X3_compareOf (by rw [nm_X3_compareOf]; rfl) (by rw [nm_X3_compareOf]; exact q1562) (by rw [nm_X3_compareOf]; exact q1564) (by rw [nm_X3_compareOf]; exact qs72)) <|
  fG mo_ist (sim_ist_n dX3_asks_64 rfl) <|
  fG mo_ild (sim_ild_n dX3_asks_65 rfl) <|
  fG mo_ifge (sim_ifge dX3_asks_66 rfl) <|
  fG mo_int (sim_iconst dX3_asks_69 (by decide)) <|
  fE ie_iret (sim_iret dX3_asks_70 rfl (Or.inl ⟨rfl, rfl⟩))
theorem fX3_asks_71 {X : tp_X} {az : Array Value} (hG : tp_Good X az) (hSt : tp_Stat X) : tp_Fit X yX3_asks cX3_asks (some .int) 5 tp_nm tp_by tp_ml tp_rtt 71 [o_ald (.aload_n 0) 0, o_cv (.invokevirtual 189) 3 kX3_nextToken 0 0, o_ald (.aload_n 0) 0, o_cv (.invokevirtual 224) 3 kX3_summed 0 0, o_ist (.istore_n 2) 2, o_ild (.iload_n 2) 2, o_ifeq 5 86, o_ild (.iload_n 2) 2, o_iret 0] :=
  fG mo_ald (sim_ald_n dX3_asks_71 rfl) <|
  fC (ic_cv (Or.inl rfl)) (sim_cv hG dX3_asks_72 (hG.2.1 3 _ hc_3).2.1 M_X3_nextToken (by rw [nm_X3_nextToken]; rfl) (by rw [nm_X3_nextToken]; exact q1464) (by rw [nm_X3_nextToken]; exact q1466) (by rw [nm_X3_nextToken]; exact qs53)) <|
  fG mo_ald (sim_ald_n dX3_asks_75 rfl) <|
  fC (ic_cv (Or.inl rfl)) (sim_cv hG dX3_asks_76 (hG.2.1 3 _ hc_3).2.1 M_X3_summed (by rw [nm_X3_summed]; rfl) (by rw [nm_X3_summed]; exact q1502) (by rw [nm_X3_summed]; exact q1504) (by rw [nm_X3_summed]; exact qs59)) <|
  fG mo_ist (sim_ist_n dX3_asks_79 rfl) <|
  fG mo_ild (sim_ild_n dX3_asks_80 rfl) <|
  fG mo_ifeq (sim_ifeq dX3_asks_81 rfl) <|
  fG mo_ild (sim_ild_n dX3_asks_84 rfl) <|
  fE ie_iret (sim_iret dX3_asks_85 rfl (Or.inl ⟨rfl, rfl⟩))
theorem fX3_asks_86 {X : tp_X} {az : Array Value} (hG : tp_Good X az) (hSt : tp_Stat X) : tp_Fit X yX3_asks cX3_asks (some .int) 5 tp_nm tp_by tp_ml tp_rtt 86 [o_ald (.aload_n 0) 0, o_ild (.iload_n 3) 3, o_int (.iconst 0) 0, o_cv (.invokevirtual 170) 3 kX3_emit 2 0, o_ald (.aload_n 0) 0, o_dup, o_getf (.getfield 167) 3 21, o_ild (.iload_n 1) 1, o_isub, o_putf (.putfield 167) 3 21 0, o_int (.iconst 0) 0, o_ist (.istore 4) 4, o_fall 105] :=
  fG mo_ald (sim_ald_n dX3_asks_86 rfl) <|
  fG mo_ild (sim_ild_n dX3_asks_87 rfl) <|
  fG mo_int (sim_iconst dX3_asks_88 (by decide)) <|
  fC (ic_cv (Or.inl rfl)) (sim_cv hG dX3_asks_89 (hG.2.1 3 _ hc_3).2.1 M_X3_emit (by rw [nm_X3_emit]; rfl) (by rw [nm_X3_emit]; exact q1522) (by rw [nm_X3_emit]; exact q1524) (by rw [nm_X3_emit]; exact qs64)) <|
  fG mo_ald (sim_ald_n dX3_asks_92 rfl) <|
  fG mo_dup (sim_dup dX3_asks_93) <|
  fG mo_getf (sim_getfG hG dX3_asks_94 hc_3 (by decide) rfl in_X3 (fun _ _ _ h => h) (Or.inl q1271)) <|
  fG mo_ild (sim_ild_n dX3_asks_97 rfl) <|
  fG mo_isub (sim_isub dX3_asks_98) <|
  fG mo_putf (sim_putf hG dX3_asks_99 hc_3 (by decide) rfl (by decide) in_X3 tyX3_ok nmX3 (Or.inl ⟨rfl, rfl⟩) (fun _ _ _ h => h) rfl q1271) <|
  fG mo_int (sim_iconst dX3_asks_102 (by decide)) <|
  fG mo_ist (sim_ist dX3_asks_103) <|
  fF
theorem fX3_asks_105 {X : tp_X} {az : Array Value} (hG : tp_Good X az) (hSt : tp_Stat X) : tp_Fit X yX3_asks cX3_asks (some .int) 5 tp_nm tp_by tp_ml tp_rtt 105 [o_ild (.iload 4) 4, o_ild (.iload_n 1) 1, o_icmpge 16 124, o_ald (.aload_n 0) 0, o_int (.bipush 20) 20, o_int (.iconst 0) 0, o_cv (.invokevirtual 170) 3 kX3_emit 2 0, o_inc 4 1, o_goto (-16) 105] :=
  fG mo_ild (sim_ild dX3_asks_105) <|
  fG mo_ild (sim_ild_n dX3_asks_107 rfl) <|
  fG mo_icmpge (sim_icmpge dX3_asks_108 rfl) <|
  fG mo_ald (sim_ald_n dX3_asks_111 rfl) <|
  fG mo_int (sim_bipush dX3_asks_112 (by decide)) <|
  fG mo_int (sim_iconst dX3_asks_114 (by decide)) <|
  fC (ic_cv (Or.inl rfl)) (sim_cv hG dX3_asks_115 (hG.2.1 3 _ hc_3).2.1 M_X3_emit (by rw [nm_X3_emit]; rfl) (by rw [nm_X3_emit]; exact q1522) (by rw [nm_X3_emit]; exact q1524) (by rw [nm_X3_emit]; exact qs64)) <|
  fG mo_inc (sim_inc dX3_asks_118 (by decide)) <|
  fG mo_goto (sim_goto dX3_asks_121 rfl) <|
  trivial
theorem fX3_asks_124 {X : tp_X} {az : Array Value} (hG : tp_Good X az) (hSt : tp_Stat X) : tp_Fit X yX3_asks cX3_asks (some .int) 5 tp_nm tp_by tp_ml tp_rtt 124 [o_int (.iconst 0) 0, o_iret 0] :=
  fG mo_int (sim_iconst dX3_asks_124 (by decide)) <|
  fE ie_iret (sim_iret dX3_asks_125 rfl (Or.inl ⟨rfl, rfl⟩))
theorem F_X3_asks {X : tp_X} {az : Array Value} (hG : tp_Good X az) (hSt : tp_Stat X) (pc : Nat) : tp_Fit X yX3_asks cX3_asks (some .int) 5 tp_nm tp_by tp_ml tp_rtt pc (mX3_asks pc) :=
  fI (fX3_asks_0 hG hSt) <| fI (fX3_asks_2 hG hSt) <| fI (fX3_asks_29 hG hSt) <| fI (fX3_asks_49 hG hSt) <| fI (fX3_asks_60 hG hSt) <| fI (fX3_asks_71 hG hSt) <| fI (fX3_asks_86 hG hSt) <| fI (fX3_asks_105 hG hSt) <| fI (fX3_asks_124 hG hSt) <| trivial
theorem fX3_compareOf_0 {X : tp_X} {az : Array Value} (hG : tp_Good X az) (hSt : tp_Stat X) : tp_Fit X yX3_compareOf cX3_compareOf (some .int) 1 tp_nm tp_by tp_ml tp_rtt 0 [o_ald (.aload_n 0) 0, o_getf (.getfield 129) 3 12, o_int (.bipush 60) 60, o_icmpne 8 14, o_int (.bipush 10) 10, o_goto 72 83] :=
  fG mo_ald (sim_ald_n dX3_compareOf_0 rfl) <|
  fG mo_getf (sim_getfG hG dX3_compareOf_1 hc_3 (by decide) rfl in_X3 (fun _ _ _ h => h) (Or.inl q1264)) <|
  fG mo_int (sim_bipush dX3_compareOf_4 (by decide)) <|
  fG mo_icmpne (sim_icmpne dX3_compareOf_6 rfl) <|
  fG mo_int (sim_bipush dX3_compareOf_9 (by decide)) <|
  fG mo_goto (sim_goto dX3_compareOf_11 rfl) <|
  trivial
theorem fX3_compareOf_14 {X : tp_X} {az : Array Value} (hG : tp_Good X az) (hSt : tp_Stat X) : tp_Fit X yX3_compareOf cX3_compareOf (some .int) 1 tp_nm tp_by tp_ml tp_rtt 14 [o_ald (.aload_n 0) 0, o_getf (.getfield 129) 3 12, o_int (.iconst 4) 4, o_icmpne 8 27, o_int (.bipush 11) 11, o_goto 59 83] :=
  fG mo_ald (sim_ald_n dX3_compareOf_14 rfl) <|
  fG mo_getf (sim_getfG hG dX3_compareOf_15 hc_3 (by decide) rfl in_X3 (fun _ _ _ h => h) (Or.inl q1264)) <|
  fG mo_int (sim_iconst dX3_compareOf_18 (by decide)) <|
  fG mo_icmpne (sim_icmpne dX3_compareOf_19 rfl) <|
  fG mo_int (sim_bipush dX3_compareOf_22 (by decide)) <|
  fG mo_goto (sim_goto dX3_compareOf_24 rfl) <|
  trivial
theorem fX3_compareOf_27 {X : tp_X} {az : Array Value} (hG : tp_Good X az) (hSt : tp_Stat X) : tp_Fit X yX3_compareOf cX3_compareOf (some .int) 1 tp_nm tp_by tp_ml tp_rtt 27 [o_ald (.aload_n 0) 0, o_getf (.getfield 129) 3 12, o_int (.bipush 62) 62, o_icmpne 8 41, o_int (.bipush 12) 12, o_goto 45 83] :=
  fG mo_ald (sim_ald_n dX3_compareOf_27 rfl) <|
  fG mo_getf (sim_getfG hG dX3_compareOf_28 hc_3 (by decide) rfl in_X3 (fun _ _ _ h => h) (Or.inl q1264)) <|
  fG mo_int (sim_bipush dX3_compareOf_31 (by decide)) <|
  fG mo_icmpne (sim_icmpne dX3_compareOf_33 rfl) <|
  fG mo_int (sim_bipush dX3_compareOf_36 (by decide)) <|
  fG mo_goto (sim_goto dX3_compareOf_38 rfl) <|
  trivial
theorem fX3_compareOf_41 {X : tp_X} {az : Array Value} (hG : tp_Good X az) (hSt : tp_Stat X) : tp_Fit X yX3_compareOf cX3_compareOf (some .int) 1 tp_nm tp_by tp_ml tp_rtt 41 [o_ald (.aload_n 0) 0, o_getf (.getfield 129) 3 12, o_int (.iconst 5) 5, o_icmpne 8 54, o_int (.bipush 13) 13, o_goto 32 83] :=
  fG mo_ald (sim_ald_n dX3_compareOf_41 rfl) <|
  fG mo_getf (sim_getfG hG dX3_compareOf_42 hc_3 (by decide) rfl in_X3 (fun _ _ _ h => h) (Or.inl q1264)) <|
  fG mo_int (sim_iconst dX3_compareOf_45 (by decide)) <|
  fG mo_icmpne (sim_icmpne dX3_compareOf_46 rfl) <|
  fG mo_int (sim_bipush dX3_compareOf_49 (by decide)) <|
  fG mo_goto (sim_goto dX3_compareOf_51 rfl) <|
  trivial
theorem fX3_compareOf_54 {X : tp_X} {az : Array Value} (hG : tp_Good X az) (hSt : tp_Stat X) : tp_Fit X yX3_compareOf cX3_compareOf (some .int) 1 tp_nm tp_by tp_ml tp_rtt 54 [o_ald (.aload_n 0) 0, o_getf (.getfield 129) 3 12, o_int (.bipush 61) 61, o_icmpne 8 68, o_int (.bipush 14) 14, o_goto 18 83] :=
  fG mo_ald (sim_ald_n dX3_compareOf_54 rfl) <|
  fG mo_getf (sim_getfG hG dX3_compareOf_55 hc_3 (by decide) rfl in_X3 (fun _ _ _ h => h) (Or.inl q1264)) <|
  fG mo_int (sim_bipush dX3_compareOf_58 (by decide)) <|
  fG mo_icmpne (sim_icmpne dX3_compareOf_60 rfl) <|
  fG mo_int (sim_bipush dX3_compareOf_63 (by decide)) <|
  fG mo_goto (sim_goto dX3_compareOf_65 rfl) <|
  trivial
theorem fX3_compareOf_68 {X : tp_X} {az : Array Value} (hG : tp_Good X az) (hSt : tp_Stat X) : tp_Fit X yX3_compareOf cX3_compareOf (some .int) 1 tp_nm tp_by tp_ml tp_rtt 68 [o_ald (.aload_n 0) 0, o_getf (.getfield 129) 3 12, o_int (.bipush 35) 35, o_icmpne 8 82, o_int (.bipush 15) 15, o_goto 4 83] :=
  fG mo_ald (sim_ald_n dX3_compareOf_68 rfl) <|
  fG mo_getf (sim_getfG hG dX3_compareOf_69 hc_3 (by decide) rfl in_X3 (fun _ _ _ h => h) (Or.inl q1264)) <|
  fG mo_int (sim_bipush dX3_compareOf_72 (by decide)) <|
  fG mo_icmpne (sim_icmpne dX3_compareOf_74 rfl) <|
  fG mo_int (sim_bipush dX3_compareOf_77 (by decide)) <|
  fG mo_goto (sim_goto dX3_compareOf_79 rfl) <|
  trivial
theorem fX3_compareOf_82 {X : tp_X} {az : Array Value} (hG : tp_Good X az) (hSt : tp_Stat X) : tp_Fit X yX3_compareOf cX3_compareOf (some .int) 1 tp_nm tp_by tp_ml tp_rtt 82 [o_int (.iconst (-1)) (-1), o_fall 83] :=
  fG mo_int (sim_iconst dX3_compareOf_82 (by decide)) <|
  fF
theorem fX3_compareOf_83 {X : tp_X} {az : Array Value} (hG : tp_Good X az) (hSt : tp_Stat X) : tp_Fit X yX3_compareOf cX3_compareOf (some .int) 1 tp_nm tp_by tp_ml tp_rtt 83 [o_iret 0] :=
  fE ie_iret (sim_iret dX3_compareOf_83 rfl (Or.inl ⟨rfl, rfl⟩))
theorem F_X3_compareOf {X : tp_X} {az : Array Value} (hG : tp_Good X az) (hSt : tp_Stat X) (pc : Nat) : tp_Fit X yX3_compareOf cX3_compareOf (some .int) 1 tp_nm tp_by tp_ml tp_rtt pc (mX3_compareOf pc) :=
  fI (fX3_compareOf_0 hG hSt) <| fI (fX3_compareOf_14 hG hSt) <| fI (fX3_compareOf_27 hG hSt) <| fI (fX3_compareOf_41 hG hSt) <| fI (fX3_compareOf_54 hG hSt) <| fI (fX3_compareOf_68 hG hSt) <| fI (fX3_compareOf_82 hG hSt) <| fI (fX3_compareOf_83 hG hSt) <| trivial
