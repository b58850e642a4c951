/-! FITS 9 -/
set_option maxRecDepth 100000
theorem fX3_told_0 {X : tp_X} {az : Array Value} (hG : tp_Good X az) (hSt : tp_Stat X) : tp_Fit X yX3_told cX3_told (some .int) 2 tp_nm tp_by tp_ml tp_rtt 0 [o_ild (.iload_n 1) 1, o_int (.iconst (-1)) (-1), o_ald (.aload_n 0) 0, o_getf (.getfield 7) 3 3, o_int (.iconst 5) 5, o_lda .iaload [0, 20], o_int (.iconst 1) 1, o_isub, o_cs (.invokestatic 90) kX3_isIn 3 0, o_ifne 5 18, o_int (.iconst (-1)) (-1), o_iret 0] :=
  fG mo_ild (sim_ild_n dX3_told_0 rfl) <|
  fG mo_int (sim_iconst dX3_told_1 (by decide)) <|
  fG mo_ald (sim_ald_n dX3_told_2 rfl) <|
  fG mo_getf (sim_getfG hG dX3_told_3 hc_3 (by decide) rfl in_X3 (fun _ _ _ h => h) (Or.inl q1255)) <|
  fG mo_int (sim_iconst dX3_told_6 (by decide)) <|
  fG mo_lda (sim_iald dX3_told_7) <|
  fG mo_int (sim_iconst dX3_told_8 (by decide)) <|
  fG mo_isub (sim_isub dX3_told_9) <|
  fC (ic_cs (Or.inl rfl)) (sim_cs hG dX3_told_10 M_X3_isIn (by rw [nm_X3_isIn]; rfl) (by rw [nm_X3_isIn]; exact q1400) (by rw [nm_X3_isIn]; exact q1401)) <|
  fG mo_ifne (sim_ifne dX3_told_13 rfl) <|
  fG mo_int (sim_iconst dX3_told_16 (by decide)) <|
  fE ie_iret (sim_iret dX3_told_17 rfl (Or.inl ⟨rfl, rfl⟩))
theorem fX3_told_18 {X : tp_X} {az : Array Value} (hG : tp_Good X az) (hSt : tp_Stat X) : tp_Fit X yX3_told cX3_told (some .int) 2 tp_nm tp_by tp_ml tp_rtt 18 [o_ald (.aload_n 0) 0, o_cv (.invokevirtual 379) 3 kX3_follow 0 0, o_ild (.iload_n 1) 1, o_ifge 10 33, o_ald (.aload_n 0) 0, o_getf (.getfield 376) 3 32, o_goto 23 53] :=
  fG mo_ald (sim_ald_n dX3_told_18 rfl) <|
  fC (ic_cv (Or.inl rfl)) (sim_cv hG dX3_told_19 (hG.2.1 3 _ hc_3).2.1 M_X3_follow (by rw [nm_X3_follow]; rfl) (by rw [nm_X3_follow]; exact q1752) (by rw [nm_X3_follow]; exact q1754) (by rw [nm_X3_follow]; exact qs103)) <|
  fG mo_ild (sim_ild_n dX3_told_22 rfl) <|
  fG mo_ifge (sim_ifge dX3_told_23 rfl) <|
  fG mo_ald (sim_ald_n dX3_told_26 rfl) <|
  fG mo_getf (sim_getfG hG dX3_told_27 hc_3 (by decide) rfl in_X3 (fun _ _ _ h => h) (Or.inl q1282)) <|
  fG mo_goto (sim_goto dX3_told_30 rfl) <|
  trivial
theorem fX3_told_33 {X : tp_X} {az : Array Value} (hG : tp_Good X az) (hSt : tp_Stat X) : tp_Fit X yX3_told cX3_told (some .int) 2 tp_nm tp_by tp_ml tp_rtt 33 [o_ild (.iload_n 1) 1, o_ald (.aload_n 0) 0, o_getf (.getfield 376) 3 32, o_icmpge 14 52, o_ald (.aload_n 0) 0, o_getf (.getfield 56) 3 33, o_ild (.iload_n 1) 1, o_int (.iconst 1) 1, o_iadd, o_lda .iaload [0, 20], o_goto 4 53] :=
  fG mo_ild (sim_ild_n dX3_told_33 rfl) <|
  fG mo_ald (sim_ald_n dX3_told_34 rfl) <|
  fG mo_getf (sim_getfG hG dX3_told_35 hc_3 (by decide) rfl in_X3 (fun _ _ _ h => h) (Or.inl q1282)) <|
  fG mo_icmpge (sim_icmpge dX3_told_38 rfl) <|
  fG mo_ald (sim_ald_n dX3_told_41 rfl) <|
  fG mo_getf (sim_getfG hG dX3_told_42 hc_3 (by decide) rfl in_X3 (fun _ _ _ h => h) (Or.inl q1283)) <|
  fG mo_ild (sim_ild_n dX3_told_45 rfl) <|
  fG mo_int (sim_iconst dX3_told_46 (by decide)) <|
  fG mo_iadd (sim_iadd dX3_told_47) <|
  fG mo_lda (sim_iald dX3_told_48) <|
  fG mo_goto (sim_goto dX3_told_49 rfl) <|
  trivial
theorem fX3_told_52 {X : tp_X} {az : Array Value} (hG : tp_Good X az) (hSt : tp_Stat X) : tp_Fit X yX3_told cX3_told (some .int) 2 tp_nm tp_by tp_ml tp_rtt 52 [o_int (.iconst (-1)) (-1), o_fall 53] :=
  fG mo_int (sim_iconst dX3_told_52 (by decide)) <|
  fF
theorem fX3_told_53 {X : tp_X} {az : Array Value} (hG : tp_Good X az) (hSt : tp_Stat X) : tp_Fit X yX3_told cX3_told (some .int) 2 tp_nm tp_by tp_ml tp_rtt 53 [o_iret 0] :=
  fE ie_iret (sim_iret dX3_told_53 rfl (Or.inl ⟨rfl, rfl⟩))
theorem F_X3_told {X : tp_X} {az : Array Value} (hG : tp_Good X az) (hSt : tp_Stat X) (pc : Nat) : tp_Fit X yX3_told cX3_told (some .int) 2 tp_nm tp_by tp_ml tp_rtt pc (mX3_told pc) :=
  fI (fX3_told_0 hG hSt) <| fI (fX3_told_18 hG hSt) <| fI (fX3_told_33 hG hSt) <| fI (fX3_told_52 hG hSt) <| fI (fX3_told_53 hG hSt) <| trivial
theorem fX3_follow_0 {X : tp_X} {az : Array Value} (hG : tp_Good X az) (hSt : tp_Stat X) : tp_Fit X yX3_follow cX3_follow none 6 tp_nm tp_by tp_ml tp_rtt 0 [o_ald (.aload_n 0) 0, o_cv (.invokevirtual 358) 3 kX3_look 0 0, o_ald (.aload_n 0) 0, o_int (.iconst 0) 0, o_putf (.putfield 376) 3 32 0, o_ald (.aload_n 0) 0, o_getf (.getfield 56) 3 33, o_int (.iconst 0) 0, o_ald (.aload_n 0) 0, o_cv (.invokevirtual 367) 3 kX3_shipCell 0 0, o_sta .iastore [0], o_ald (.aload_n 0) 0, o_getf (.getfield 59) 3 34, o_int (.iconst 0) 0, o_ald (.aload_n 0) 0, o_cv (.invokevirtual 370) 3 kX3_shipCoal 0 0, o_sta .iastore [0], o_ald (.aload_n 0) 0, o_getf (.getfield 62) 3 35, o_int (.iconst 0) 0, o_ald (.aload_n 0) 0, o_cv (.invokevirtual 373) 3 kX3_shipBanked 0 0, o_sta .iastore [0], o_ald (.aload_n 0) 0, o_int (.iconst 0) 0, o_cv (.invokevirtual 313) 3 kX3_isFree 1 0, o_ist (.istore_n 1) 1, o_fall 45] :=
  fG mo_ald (sim_ald_n dX3_follow_0 rfl) <|
  fC (ic_cv (Or.inl rfl)) (sim_cv hG dX3_follow_1 (hG.2.1 3 _ hc_3).2.1 M_X3_look (by rw [nm_X3_look]; rfl) (by rw [nm_X3_look]; exact q1701) (by rw [nm_X3_look]; exact q1703) (by rw [nm_X3_look]; exact qs94)) <|
  fG mo_ald (sim_ald_n dX3_follow_4 rfl) <|
  fG mo_int (sim_iconst dX3_follow_5 (by decide)) <|
  fG mo_putf (sim_putf hG dX3_follow_6 hc_3 (by decide) rfl (by decide) in_X3 tyX3_ok nmX3 (Or.inl ⟨rfl, rfl⟩) (fun _ _ _ h => h) rfl q1282) <|
  fG mo_ald (sim_ald_n dX3_follow_9 rfl) <|
  fG mo_getf (sim_getfG hG dX3_follow_10 hc_3 (by decide) rfl in_X3 (fun _ _ _ h => h) (Or.inl q1283)) <|
  fG mo_int (sim_iconst dX3_follow_13 (by decide)) <|
  fG mo_ald (sim_ald_n dX3_follow_14 rfl) <|
  fC (ic_cv (Or.inl rfl)) (sim_cv hG dX3_follow_15 (hG.2.1 3 _ hc_3).2.1 M_X3_shipCell (by rw [nm_X3_shipCell]; rfl) (by rw [nm_X3_shipCell]; exact q1728) (by rw [nm_X3_shipCell]; exact q1730) (by rw [nm_X3_shipCell]; exact qs100)) <|
  fG mo_sta (sim_iast dX3_follow_18) <|
  fG mo_ald (sim_ald_n dX3_follow_19 rfl) <|
  fG mo_getf (sim_getfG hG dX3_follow_20 hc_3 (by decide) rfl in_X3 (fun _ _ _ h => h) (Or.inl q1284)) <|
  fG mo_int (sim_iconst dX3_follow_23 (by decide)) <|
  fG mo_ald (sim_ald_n dX3_follow_24 rfl) <|
  fC (ic_cv (Or.inl rfl)) (sim_cv hG dX3_follow_25 (hG.2.1 3 _ hc_3).2.1 M_X3_shipCoal (by rw [nm_X3_shipCoal]; rfl) (by rw [nm_X3_shipCoal]; exact q1732) (by rw [nm_X3_shipCoal]; exact q1734) (by rw [nm_X3_shipCoal]; exact qs101)) <|
  fG mo_sta (sim_iast dX3_follow_28) <|
  fG mo_ald (sim_ald_n dX3_follow_29 rfl) <|
  fG mo_getf (sim_getfG hG dX3_follow_30 hc_3 (by decide) rfl in_X3 (fun _ _ _ h => h) (Or.inl q1285)) <|
  fG mo_int (sim_iconst dX3_follow_33 (by decide)) <|
  fG mo_ald (sim_ald_n dX3_follow_34 rfl) <|
  fC (ic_cv (Or.inl rfl)) (sim_cv hG dX3_follow_35 (hG.2.1 3 _ hc_3).2.1 M_X3_shipBanked (by rw [nm_X3_shipBanked]; rfl) (by rw [nm_X3_shipBanked]; exact q1736) (by rw [nm_X3_shipBanked]; exact q1738) (by rw [nm_X3_shipBanked]; exact qs102)) <|
  fG mo_sta (sim_iast dX3_follow_38) <|
  fG mo_ald (sim_ald_n dX3_follow_39 rfl) <|
  fG mo_int (sim_iconst dX3_follow_40 (by decide)) <|
  fC (ic_cv (Or.inl rfl)) (sim_cv hG dX3_follow_41 (hG.2.1 3 _ hc_3).2.1 M_X3_isFree (by rw [nm_X3_isFree]; rfl) (by rw [nm_X3_isFree]; exact q1582) (by rw [nm_X3_isFree]; exact q1584) (by rw [nm_X3_isFree]; exact qs73)) <|
  fG mo_ist (sim_ist_n dX3_follow_44 rfl) <|
  fF
theorem fX3_follow_45 {X : tp_X} {az : Array Value} (hG : tp_Good X az) (hSt : tp_Stat X) : tp_Fit X yX3_follow cX3_follow none 6 tp_nm tp_by tp_ml tp_rtt 45 [o_ild (.iload_n 1) 1, o_ifeq 194 240, o_ald (.aload_n 0) 0, o_getf (.getfield 376) 3 32, o_ald (.aload_n 0) 0, o_getf (.getfield 7) 3 3, o_int (.iconst 5) 5, o_lda .iaload [0, 20], o_icmpge 181 240, o_ald (.aload_n 0) 0, o_getf (.getfield 376) 3 32, o_ist (.istore_n 2) 2, o_ald (.aload_n 0) 0, o_getf (.getfield 7) 3 3, o_int (.sipush 195) 195, o_ild (.iload_n 2) 2, o_iadd, o_lda .iaload [0, 20], o_ist (.istore_n 3) 3, o_ald (.aload_n 0) 0, o_ild (.iload_n 2) 2, o_ald (.aload_n 0) 0, o_getf (.getfield 56) 3 33, o_ild (.iload_n 2) 2, o_lda .iaload [0, 20], o_ald (.aload_n 0) 0, o_getf (.getfield 59) 3 34, o_ild (.iload_n 2) 2, o_lda .iaload [0, 20], o_ald (.aload_n 0) 0, o_getf (.getfield 62) 3 35, o_ild (.iload_n 2) 2, o_lda .iaload [0, 20], o_ild (.iload_n 3) 3, o_cv (.invokevirtual 345) 3 kX3_costAhead 5 0, o_ist (.istore 4) 4, o_ild (.iload 4) 4, o_ifge 7 113, o_int (.iconst (-1)) (-1), o_goto 15 125] :=
  fG mo_ild (sim_ild_n dX3_follow_45 rfl) <|
  fG mo_ifeq (sim_ifeq dX3_follow_46 rfl) <|
  fG mo_ald (sim_ald_n dX3_follow_49 rfl) <|
  fG mo_getf (sim_getfG hG dX3_follow_50 hc_3 (by decide) rfl in_X3 (fun _ _ _ h => h) (Or.inl q1282)) <|
  fG mo_ald (sim_ald_n dX3_follow_53 rfl) <|
  fG mo_getf (sim_getfG hG dX3_follow_54 hc_3 (by decide) rfl in_X3 (fun _ _ _ h => h) (Or.inl q1255)) <|
  fG mo_int (sim_iconst dX3_follow_57 (by decide)) <|
  fG mo_lda (sim_iald dX3_follow_58) <|
  fG mo_icmpge (sim_icmpge dX3_follow_59 rfl) <|
  fG mo_ald (sim_ald_n dX3_follow_62 rfl) <|
  fG mo_getf (sim_getfG hG dX3_follow_63 hc_3 (by decide) rfl in_X3 (fun _ _ _ h => h) (Or.inl q1282)) <|
  fG mo_ist (sim_ist_n dX3_follow_66 rfl) <|
  fG mo_ald (sim_ald_n dX3_follow_67 rfl) <|
  fG mo_getf (sim_getfG hG dX3_follow_68 hc_3 (by decide) rfl in_X3 (fun _ _ _ h => h) (Or.inl q1255)) <|
  fG mo_int (sim_sipush dX3_follow_71 (by decide)) <|
  fG mo_ild (sim_ild_n dX3_follow_74 rfl) <|
  fG mo_iadd (sim_iadd dX3_follow_75) <|
  fG mo_lda (sim_iald dX3_follow_76) <|
  fG mo_ist (sim_ist_n dX3_follow_77 rfl) <|
  fG mo_ald (sim_ald_n dX3_follow_78 rfl) <|
  fG mo_ild (sim_ild_n dX3_follow_79 rfl) <|
  fG mo_ald (sim_ald_n dX3_follow_80 rfl) <|
  fG mo_getf (sim_getfG hG dX3_follow_81 hc_3 (by decide) rfl in_X3 (fun _ _ _ h => h) (Or.inl q1283)) <|
  fG mo_ild (sim_ild_n dX3_follow_84 rfl) <|
  fG mo_lda (sim_iald dX3_follow_85) <|
  fG mo_ald (sim_ald_n dX3_follow_86 rfl) <|
  fG mo_getf (sim_getfG hG dX3_follow_87 hc_3 (by decide) rfl in_X3 (fun _ _ _ h => h) (Or.inl q1284)) <|
  fG mo_ild (sim_ild_n dX3_follow_90 rfl) <|
  fG mo_lda (sim_iald dX3_follow_91) <|
  fG mo_ald (sim_ald_n dX3_follow_92 rfl) <|
  fG mo_getf (sim_getfG hG dX3_follow_93 hc_3 (by decide) rfl in_X3 (fun _ _ _ h => h) (Or.inl q1285)) <|
  fG mo_ild (sim_ild_n dX3_follow_96 rfl) <|
  fG mo_lda (sim_iald dX3_follow_97) <|
  fG mo_ild (sim_ild_n dX3_follow_98 rfl) <|
  fC (ic_cv (Or.inl rfl)) (sim_cv hG dX3_follow_99 (hG.2.1 3 _ hc_3).2.1 M_X3_costAhead (by rw [nm_X3_costAhead]; rfl) (by rw [nm_X3_costAhead]; exact q1720) (by rw [nm_X3_costAhead]; exact q1722) (by rw [nm_X3_costAhead]; exact qs98)) <|
  fG mo_ist (sim_ist dX3_follow_102) <|
  fG mo_ild (sim_ild dX3_follow_104) <|
  fG mo_ifge (sim_ifge dX3_follow_106 rfl) <|
  fG mo_int (sim_iconst dX3_follow_109 (by decide)) <|
  fG mo_goto (sim_goto dX3_follow_110 rfl) <|
  trivial
theorem fX3_follow_113 {X : tp_X} {az : Array Value} (hG : tp_Good X az) (hSt : tp_Stat X) : tp_Fit X yX3_follow cX3_follow none 6 tp_nm tp_by tp_ml tp_rtt 113 [o_ald (.aload_n 0) 0, o_ild (.iload_n 2) 2, o_ald (.aload_n 0) 0, o_getf (.getfield 56) 3 33, o_ild (.iload_n 2) 2, o_lda .iaload [0, 20], o_ild (.iload_n 3) 3, o_cv (.invokevirtual 349) 3 kX3_cellAhead 3 0, o_fall 125] :=
  fG mo_ald (sim_ald_n dX3_follow_113 rfl) <|
  fG mo_ild (sim_ild_n dX3_follow_114 rfl) <|
  fG mo_ald (sim_ald_n dX3_follow_115 rfl) <|
  fG mo_getf (sim_getfG hG dX3_follow_116 hc_3 (by decide) rfl in_X3 (fun _ _ _ h => h) (Or.inl q1283)) <|
  fG mo_ild (sim_ild_n dX3_follow_119 rfl) <|
  fG mo_lda (sim_iald dX3_follow_120) <|
  fG mo_ild (sim_ild_n dX3_follow_121 rfl) <|
  fC (ic_cv (Or.inl rfl)) (sim_cv hG dX3_follow_122 (hG.2.1 3 _ hc_3).2.1 M_X3_cellAhead (by rw [nm_X3_cellAhead]; rfl) (by rw [nm_X3_cellAhead]; exact q1724) (by rw [nm_X3_cellAhead]; exact q1726) (by rw [nm_X3_cellAhead]; exact qs99)) <|
  fF
theorem fX3_follow_125 {X : tp_X} {az : Array Value} (hG : tp_Good X az) (hSt : tp_Stat X) : tp_Fit X yX3_follow cX3_follow none 6 tp_nm tp_by tp_ml tp_rtt 125 [o_ist (.istore 5) 5, o_ild (.iload 5) 5, o_iflt 41 170, o_ild (.iload_n 3) 3, o_int (.iconst 4) 4, o_icmpge 17 151, o_ald (.aload_n 0) 0, o_getf (.getfield 7) 3 3, o_int (.bipush 70) 70, o_ild (.iload 5) 5, o_iadd, o_lda .iaload [0, 20], o_int (.iconst 1) 1, o_icmpeq 22 170, o_fall 151] :=
  fG mo_ist (sim_ist dX3_follow_125) <|
  fG mo_ild (sim_ild dX3_follow_127) <|
  fG mo_iflt (sim_iflt dX3_follow_129 rfl) <|
  fG mo_ild (sim_ild_n dX3_follow_132 rfl) <|
  fG mo_int (sim_iconst dX3_follow_133 (by decide)) <|
  fG mo_icmpge (sim_icmpge dX3_follow_134 rfl) <|
  fG mo_ald (sim_ald_n dX3_follow_137 rfl) <|
  fG mo_getf (sim_getfG hG dX3_follow_138 hc_3 (by decide) rfl in_X3 (fun _ _ _ h => h) (Or.inl q1255)) <|
  fG mo_int (sim_bipush dX3_follow_141 (by decide)) <|
  fG mo_ild (sim_ild dX3_follow_143) <|
  fG mo_iadd (sim_iadd dX3_follow_145) <|
  fG mo_lda (sim_iald dX3_follow_146) <|
  fG mo_int (sim_iconst dX3_follow_147 (by decide)) <|
  fG mo_icmpeq (sim_icmpeq dX3_follow_148 rfl) <|
  fF
theorem fX3_follow_151 {X : tp_X} {az : Array Value} (hG : tp_Good X az) (hSt : tp_Stat X) : tp_Fit X yX3_follow cX3_follow none 6 tp_nm tp_by tp_ml tp_rtt 151 [o_ald (.aload_n 0) 0, o_getf (.getfield 49) 3 30, o_int (.bipush 36) 36, o_ild (.iload_n 2) 2, o_imul, o_ild (.iload 5) 5, o_iadd, o_lda .baload [1, 2, 22], o_ifne 7 170, o_int (.iconst 1) 1, o_goto 4 171] :=
  fG mo_ald (sim_ald_n dX3_follow_151 rfl) <|
  fG mo_getf (sim_getfG hG dX3_follow_152 hc_3 (by decide) rfl in_X3 (fun _ _ _ h => h) (Or.inl q1280)) <|
  fG mo_int (sim_bipush dX3_follow_155 (by decide)) <|
  fG mo_ild (sim_ild_n dX3_follow_157 rfl) <|
  fG mo_imul (sim_imul dX3_follow_158) <|
  fG mo_ild (sim_ild dX3_follow_159) <|
  fG mo_iadd (sim_iadd dX3_follow_161) <|
  fG mo_lda (sim_bald dX3_follow_162) <|
  fG mo_ifne (sim_ifne dX3_follow_163 rfl) <|
  fG mo_int (sim_iconst dX3_follow_166 (by decide)) <|
  fG mo_goto (sim_goto dX3_follow_167 rfl) <|
  trivial
theorem fX3_follow_170 {X : tp_X} {az : Array Value} (hG : tp_Good X az) (hSt : tp_Stat X) : tp_Fit X yX3_follow cX3_follow none 6 tp_nm tp_by tp_ml tp_rtt 170 [o_int (.iconst 0) 0, o_fall 171] :=
  fG mo_int (sim_iconst dX3_follow_170 (by decide)) <|
  fF
theorem fX3_follow_171 {X : tp_X} {az : Array Value} (hG : tp_Good X az) (hSt : tp_Stat X) : tp_Fit X yX3_follow cX3_follow none 6 tp_nm tp_by tp_ml tp_rtt 171 [o_ist (.istore_n 1) 1, o_ild (.iload_n 1) 1, o_ifne 6 179, o_goto (-131) 45] :=
  fG mo_ist (sim_ist_n dX3_follow_171 rfl) <|
  fG mo_ild (sim_ild_n dX3_follow_172 rfl) <|
  fG mo_ifne (sim_ifne dX3_follow_173 rfl) <|
  fG mo_goto (sim_goto dX3_follow_176 rfl) <|
  trivial
theorem fX3_follow_179 {X : tp_X} {az : Array Value} (hG : tp_Good X az) (hSt : tp_Stat X) : tp_Fit X yX3_follow cX3_follow none 6 tp_nm tp_by tp_ml tp_rtt 179 [o_ald (.aload_n 0) 0, o_dup, o_getf (.getfield 376) 3 32, o_int (.iconst 1) 1, o_iadd, o_putf (.putfield 376) 3 32 0, o_ald (.aload_n 0) 0, o_getf (.getfield 56) 3 33, o_ald (.aload_n 0) 0, o_getf (.getfield 376) 3 32, o_ild (.iload 5) 5, o_sta .iastore [0], o_ald (.aload_n 0) 0, o_getf (.getfield 59) 3 34, o_ald (.aload_n 0) 0, o_getf (.getfield 376) 3 32, o_ald (.aload_n 0) 0, o_getf (.getfield 59) 3 34, o_ild (.iload_n 2) 2, o_lda .iaload [0, 20], o_ild (.iload 4) 4, o_isub, o_sta .iastore [0], o_ald (.aload_n 0) 0, o_getf (.getfield 62) 3 35, o_ald (.aload_n 0) 0, o_getf (.getfield 376) 3 32, o_ild (.iload_n 3) 3, o_ald (.aload_n 0) 0, o_getf (.getfield 62) 3 35, o_ild (.iload_n 2) 2, o_lda .iaload [0, 20], o_cs (.invokestatic 322) kX3_firesBehind 2 0, o_sta .iastore [0], o_goto (-192) 45] :=
  fG mo_ald (sim_ald_n dX3_follow_179 rfl) <|
  fG mo_dup (sim_dup dX3_follow_180) <|
  fG mo_getf (sim_getfG hG dX3_follow_181 hc_3 (by decide) rfl in_X3 (fun _ _ _ h => h) (Or.inl q1282)) <|
  fG mo_int (sim_iconst dX3_follow_184 (by decide)) <|
  fG mo_iadd (sim_iadd dX3_follow_185) <|
  fG mo_putf (sim_putf hG dX3_follow_186 hc_3 (by decide) rfl (by decide) in_X3 tyX3_ok nmX3 (Or.inl ⟨rfl, rfl⟩) (fun _ _ _ h => h) rfl q1282) <|
  fG mo_ald (sim_ald_n dX3_follow_189 rfl) <|
  fG mo_getf (sim_getfG hG dX3_follow_190 hc_3 (by decide) rfl in_X3 (fun _ _ _ h => h) (Or.inl q1283)) <|
  fG mo_ald (sim_ald_n dX3_follow_193 rfl) <|
  fG mo_getf (sim_getfG hG dX3_follow_194 hc_3 (by decide) rfl in_X3 (fun _ _ _ h => h) (Or.inl q1282)) <|
  fG mo_ild (sim_ild dX3_follow_197) <|
  fG mo_sta (sim_iast dX3_follow_199) <|
  fG mo_ald (sim_ald_n dX3_follow_200 rfl) <|
  fG mo_getf (sim_getfG hG dX3_follow_201 hc_3 (by decide) rfl in_X3 (fun _ _ _ h => h) (Or.inl q1284)) <|
  fG mo_ald (sim_ald_n dX3_follow_204 rfl) <|
  fG mo_getf (sim_getfG hG dX3_follow_205 hc_3 (by decide) rfl in_X3 (fun _ _ _ h => h) (Or.inl q1282)) <|
  fG mo_ald (sim_ald_n dX3_follow_208 rfl) <|
  fG mo_getf (sim_getfG hG dX3_follow_209 hc_3 (by decide) rfl in_X3 (fun _ _ _ h => h) (Or.inl q1284)) <|
  fG mo_ild (sim_ild_n dX3_follow_212 rfl) <|
  fG mo_lda (sim_iald dX3_follow_213) <|
  fG mo_ild (sim_ild dX3_follow_214) <|
  fG mo_isub (sim_isub dX3_follow_216) <|
  fG mo_sta (sim_iast dX3_follow_217) <|
  fG mo_ald (sim_ald_n dX3_follow_218 rfl) <|
  fG mo_getf (sim_getfG hG dX3_follow_219 hc_3 (by decide) rfl in_X3 (fun _ _ _ h => h) (Or.inl q1285)) <|
  fG mo_ald (sim_ald_n dX3_follow_222 rfl) <|
  fG mo_getf (sim_getfG hG dX3_follow_223 hc_3 (by decide) rfl in_X3 (fun _ _ _ h => h) (Or.inl q1282)) <|
  fG mo_ild (sim_ild_n dX3_follow_226 rfl) <|
  fG mo_ald (sim_ald_n dX3_follow_227 rfl) <|
  fG mo_getf (sim_getfG hG dX3_follow_228 hc_3 (by decide) rfl in_X3 (fun _ _ _ h => h) (Or.inl q1285)) <|
  fG mo_ild (sim_ild_n dX3_follow_231 rfl) <|
  fG mo_lda (sim_iald dX3_follow_232) <|
  fC (ic_cs (Or.inl rfl)) (sim_cs hG dX3_follow_233 M_X3_firesBehind (by rw [nm_X3_firesBehind]; rfl) (by rw [nm_X3_firesBehind]; exact q1658) (by rw [nm_X3_firesBehind]; exact q1659)) <|
  fG mo_sta (sim_iast dX3_follow_236) <|
  fG mo_goto (sim_goto dX3_follow_237 rfl) <|
  trivial
theorem fX3_follow_240 {X : tp_X} {az : Array Value} (hG : tp_Good X az) (hSt : tp_Stat X) : tp_Fit X yX3_follow cX3_follow none 6 tp_nm tp_by tp_ml tp_rtt 240 [o_vret] :=
  fE ie_vret (sim_vret dX3_follow_240 rfl)
theorem F_X3_follow {X : tp_X} {az : Array Value} (hG : tp_Good X az) (hSt : tp_Stat X) (pc : Nat) : tp_Fit X yX3_follow cX3_follow none 6 tp_nm tp_by tp_ml tp_rtt pc (mX3_follow pc) :=
  fI (fX3_follow_0 hG hSt) <| fI (fX3_follow_45 hG hSt) <| fI (fX3_follow_113 hG hSt) <| fI (fX3_follow_125 hG hSt) <| fI (fX3_follow_151 hG hSt) <| fI (fX3_follow_170 hG hSt) <| fI (fX3_follow_171 hG hSt) <| fI (fX3_follow_179 hG hSt) <| fI (fX3_follow_240 hG hSt) <| trivial
theorem fX3_home_0 {X : tp_X} {az : Array Value} (hG : tp_Good X az) (hSt : tp_Stat X) : tp_Fit X yX3_home cX3_home (some .boolean) 2 tp_nm tp_by tp_ml tp_rtt 0 [o_ald (.aload_n 0) 0, o_ild (.iload_n 1) 1, o_cv (.invokevirtual 98) 3 kX3_isCell 1 0, o_ifne 5 10, o_int (.iconst 0) 0, o_iret 1] :=
  fG mo_ald (sim_ald_n dX3_home_0 rfl) <|
  fG mo_ild (sim_ild_n dX3_home_1 rfl) <|
  fC (ic_cv (Or.inl rfl)) (sim_cv hG dX3_home_2 (hG.2.1 3 _ hc_3).2.1 M_X3_isCell (by rw [nm_X3_isCell]; rfl) (by rw [nm_X3_isCell]; exact q1396) (by rw [nm_X3_isCell]; exact q1398) (by rw [nm_X3_isCell]; exact qs50)) <|
  fG mo_ifne (sim_ifne dX3_home_5 rfl) <|
  fG mo_int (sim_iconst dX3_home_8 (by decide)) <|
  fE ie_iret (sim_iret dX3_home_9 rfl (Or.inr (Or.inl ⟨rfl, rfl⟩)))
theorem fX3_home_10 {X : tp_X} {az : Array Value} (hG : tp_Good X az) (hSt : tp_Stat X) : tp_Fit X yX3_home cX3_home (some .boolean) 2 tp_nm tp_by tp_ml tp_rtt 10 [o_ald (.aload_n 0) 0, o_getf (.getfield 7) 3 3, o_int (.bipush 6) 6, o_ild (.iload_n 1) 1, o_sta .iastore [0], o_int (.iconst 1) 1, o_iret 1] :=
  fG mo_ald (sim_ald_n dX3_home_10 rfl) <|
  fG mo_getf (sim_getfG hG dX3_home_11 hc_3 (by decide) rfl in_X3 (fun _ _ _ h => h) (Or.inl q1255)) <|
  fG mo_int (sim_bipush dX3_home_14 (by decide)) <|
  fG mo_ild (sim_ild_n dX3_home_16 rfl) <|
  fG mo_sta (sim_iast dX3_home_17) <|
  fG mo_int (sim_iconst dX3_home_18 (by decide)) <|
  fE ie_iret (sim_iret dX3_home_19 rfl (Or.inr (Or.inl ⟨rfl, rfl⟩)))
theorem F_X3_home {X : tp_X} {az : Array Value} (hG : tp_Good X az) (hSt : tp_Stat X) (pc : Nat) : tp_Fit X yX3_home cX3_home (some .boolean) 2 tp_nm tp_by tp_ml tp_rtt pc (mX3_home pc) :=
  fI (fX3_home_0 hG hSt) <| fI (fX3_home_10 hG hSt) <| trivial
theorem fX3_last_0 {X : tp_X} {az : Array Value} (hG : tp_Good X az) (hSt : tp_Stat X) : tp_Fit X yX3_last cX3_last (some .int) 5 tp_nm tp_by tp_ml tp_rtt 0 [o_ald (.aload_n 0) 0, o_int (.iconst 0) 0, o_cv (.invokevirtual 313) 3 kX3_isFree 1 0, o_ifne 5 10, o_int (.iconst (-1)) (-1), o_iret 0] :=
  fG mo_ald (sim_ald_n dX3_last_0 rfl) <|
  fG mo_int (sim_iconst dX3_last_1 (by decide)) <|
  fC (ic_cv (Or.inl rfl)) (sim_cv hG dX3_last_2 (hG.2.1 3 _ hc_3).2.1 M_X3_isFree (by rw [nm_X3_isFree]; rfl) (by rw [nm_X3_isFree]; exact q1582) (by rw [nm_X3_isFree]; exact q1584) (by rw [nm_X3_isFree]; exact qs73)) <|
  fG mo_ifne (sim_ifne dX3_last_5 rfl) <|
  fG mo_int (sim_iconst dX3_last_8 (by decide)) <|
  fE ie_iret (sim_iret dX3_last_9 rfl (Or.inl ⟨rfl, rfl⟩))
theorem fX3_last_10 {X : tp_X} {az : Array Value} (hG : tp_Good X az) (hSt : tp_Stat X) : tp_Fit X yX3_last cX3_last (some .int) 5 tp_nm tp_by tp_ml tp_rtt 10 [o_ald (.aload_n 0) 0, o_cv (.invokevirtual 379) 3 kX3_follow 0 0, o_ald (.aload_n 0) 0, o_getf (.getfield 7) 3 3, o_int (.iconst 4) 4, o_lda .iaload [0, 20], o_ist (.istore_n 1) 1, o_fall 21] :=
  fG mo_ald (sim_ald_n dX3_last_10 rfl) <|
  fC (ic_cv (Or.inl rfl)) (sim_cv hG dX3_last_11 (hG.2.1 3 _ hc_3).2.1 M_X3_follow (by rw [nm_X3_follow]; rfl) (by rw [nm_X3_follow]; exact q1752) (by rw [nm_X3_follow]; exact q1754) (by rw [nm_X3_follow]; exact qs103)) <|
  fG mo_ald (sim_ald_n dX3_last_14 rfl) <|
  fG mo_getf (sim_getfG hG dX3_last_15 hc_3 (by decide) rfl in_X3 (fun _ _ _ h => h) (Or.inl q1255)) <|
  fG mo_int (sim_iconst dX3_last_18 (by decide)) <|
  fG mo_lda (sim_iald dX3_last_19) <|
  fG mo_ist (sim_ist_n dX3_last_20 rfl) <|
  fF
theorem fX3_last_21 {X : tp_X} {az : Array Value} (hG : tp_Good X az) (hSt : tp_Stat X) : tp_Fit X yX3_last cX3_last (some .int) 5 tp_nm tp_by tp_ml tp_rtt 21 [o_ild (.iload_n 1) 1, o_iflt 76 98, o_int (.iconst 0) 0, o_ist (.istore_n 2) 2, o_fall 27] :=
  fG mo_ild (sim_ild_n dX3_last_21 rfl) <|
  fG mo_iflt (sim_iflt dX3_last_22 rfl) <|
  fG mo_int (sim_iconst dX3_last_25 (by decide)) <|
  fG mo_ist (sim_ist_n dX3_last_26 rfl) <|
  fF
theorem fX3_last_27 {X : tp_X} {az : Array Value} (hG : tp_Good X az) (hSt : tp_Stat X) : tp_Fit X yX3_last cX3_last (some .int) 5 tp_nm tp_by tp_ml tp_rtt 27 [o_ild (.iload_n 2) 2, o_ald (.aload_n 0) 0, o_getf (.getfield 83) 3 2, o_icmpge 60 92, o_int (.iconst 0) 0, o_ist (.istore_n 3) 3, o_fall 37] :=
  fG mo_ild (sim_ild_n dX3_last_27 rfl) <|
  fG mo_ald (sim_ald_n dX3_last_28 rfl) <|
  fG mo_getf (sim_getfG hG dX3_last_29 hc_3 (by decide) rfl in_X3 (fun _ _ _ h => h) (Or.inl q1254)) <|
  fG mo_icmpge (sim_icmpge dX3_last_32 rfl) <|
  fG mo_int (sim_iconst dX3_last_35 (by decide)) <|
  fG mo_ist (sim_ist_n dX3_last_36 rfl) <|
  fF
theorem fX3_last_37 {X : tp_X} {az : Array Value} (hG : tp_Good X az) (hSt : tp_Stat X) : tp_Fit X yX3_last cX3_last (some .int) 5 tp_nm tp_by tp_ml tp_rtt 37 [o_ild (.iload_n 3) 3, o_int (.bipush 100) 100, o_icmpge 46 86, o_int (.iconst 0) 0, o_ist (.istore 4) 4, o_fall 46] :=
  fG mo_ild (sim_ild_n dX3_last_37 rfl) <|
  fG mo_int (sim_bipush dX3_last_38 (by decide)) <|
  fG mo_icmpge (sim_icmpge dX3_last_40 rfl) <|
  fG mo_int (sim_iconst dX3_last_43 (by decide)) <|
  fG mo_ist (sim_ist dX3_last_44) <|
  fF
theorem fX3_last_46 {X : tp_X} {az : Array Value} (hG : tp_Good X az) (hSt : tp_Stat X) : tp_Fit X yX3_last cX3_last (some .int) 5 tp_nm tp_by tp_ml tp_rtt 46 [o_ild (.iload 4) 4, o_int (.iconst 2) 2, o_icmpge 31 80, o_ald (.aload_n 0) 0, o_getf (.getfield 65) 3 36, o_ild (.iload_n 1) 1, o_ild (.iload_n 2) 2, o_ild (.iload_n 3) 3, o_ild (.iload 4) 4, o_cs (.invokestatic 352) kX3_stateAt 4 0, o_ald (.aload_n 0) 0, o_ild (.iload_n 1) 1, o_ild (.iload_n 2) 2, o_ild (.iload_n 3) 3, o_ild (.iload 4) 4, o_cv (.invokevirtual 382) 3 kX3_canHome 4 0, o_sta .bastore [1, 2], o_inc 4 1, o_goto (-31) 46] :=
  fG mo_ild (sim_ild dX3_last_46) <|
  fG mo_int (sim_iconst dX3_last_48 (by decide)) <|
  fG mo_icmpge (sim_icmpge dX3_last_49 rfl) <|
  fG mo_ald (sim_ald_n dX3_last_52 rfl) <|
  fG mo_getf (sim_getfG hG dX3_last_53 hc_3 (by decide) rfl in_X3 (fun _ _ _ h => h) (Or.inl q1286)) <|
  fG mo_ild (sim_ild_n dX3_last_56 rfl) <|
  fG mo_ild (sim_ild_n dX3_last_57 rfl) <|
  fG mo_ild (sim_ild_n dX3_last_58 rfl) <|
  fG mo_ild (sim_ild dX3_last_59) <|
  fC (ic_cs (Or.inl rfl)) (sim_cs hG dX3_last_61 M_X3_stateAt (by rw [nm_X3_stateAt]; rfl) (by rw [nm_X3_stateAt]; exact q1709) (by rw [nm_X3_stateAt]; exact q1710)) <|
  fG mo_ald (sim_ald_n dX3_last_64 rfl) <|
  fG mo_ild (sim_ild_n dX3_last_65 rfl) <|
  fG mo_ild (sim_ild_n dX3_last_66 rfl) <|
  fG mo_ild (sim_ild_n dX3_last_67 rfl) <|
  fG mo_ild (sim_ild dX3_last_68) <|
  fC (ic_cv (Or.inl rfl)) (sim_cv hG dX3_last_70 (hG.2.1 3 _ hc_3).2.1 M_X3_canHome (by rw [nm_X3_canHome]; rfl) (by rw [nm_X3_canHome]; exact q1764) (by rw [nm_X3_canHome]; exact q1766) (by rw [nm_X3_canHome]; exact qs104)) <|
  fG mo_sta (sim_bast dX3_last_73) <|
  fG mo_inc (sim_inc dX3_last_74 (by decide)) <|
  fG mo_goto (sim_goto dX3_last_77 rfl) <|
  trivial
theorem fX3_last_80 {X : tp_X} {az : Array Value} (hG : tp_Good X az) (hSt : tp_Stat X) : tp_Fit X yX3_last cX3_last (some .int) 5 tp_nm tp_by tp_ml tp_rtt 80 [o_inc 3 1, o_goto (-46) 37] :=
  fG mo_inc (sim_inc dX3_last_80 (by decide)) <|
  fG mo_goto (sim_goto dX3_last_83 rfl) <|
  trivial
theorem fX3_last_86 {X : tp_X} {az : Array Value} (hG : tp_Good X az) (hSt : tp_Stat X) : tp_Fit X yX3_last cX3_last (some .int) 5 tp_nm tp_by tp_ml tp_rtt 86 [o_inc 2 1, o_goto (-62) 27] :=
  fG mo_inc (sim_inc dX3_last_86 (by decide)) <|
  fG mo_goto (sim_goto dX3_last_89 rfl) <|
  trivial
theorem fX3_last_92 {X : tp_X} {az : Array Value} (hG : tp_Good X az) (hSt : tp_Stat X) : tp_Fit X yX3_last cX3_last (some .int) 5 tp_nm tp_by tp_ml tp_rtt 92 [o_inc 1 (-1), o_goto (-74) 21] :=
  fG mo_inc (sim_inc dX3_last_92 (by decide)) <|
  fG mo_goto (sim_goto dX3_last_95 rfl) <|
  trivial
theorem fX3_last_98 {X : tp_X} {az : Array Value} (hG : tp_Good X az) (hSt : tp_Stat X) : tp_Fit X yX3_last cX3_last (some .int) 5 tp_nm tp_by tp_ml tp_rtt 98 [o_ald (.aload_n 0) 0, o_getf (.getfield 376) 3 32, o_ist (.istore_n 1) 1, o_fall 103] :=
  fG mo_ald (sim_ald_n dX3_last_98 rfl) <|
  fG mo_getf (sim_getfG hG dX3_last_99 hc_3 (by decide) rfl in_X3 (fun _ _ _ h => h) (Or.inl q1282)) <|
  fG mo_ist (sim_ist_n dX3_last_102 rfl) <|
  fF
theorem fX3_last_103 {X : tp_X} {az : Array Value} (hG : tp_Good X az) (hSt : tp_Stat X) : tp_Fit X yX3_last cX3_last (some .int) 5 tp_nm tp_by tp_ml tp_rtt 103 [o_ild (.iload_n 1) 1, o_iflt 41 145, o_ald (.aload_n 0) 0, o_getf (.getfield 65) 3 36, o_ild (.iload_n 1) 1, o_ald (.aload_n 0) 0, o_getf (.getfield 56) 3 33, o_ild (.iload_n 1) 1, o_lda .iaload [0, 20], o_ald (.aload_n 0) 0, o_getf (.getfield 59) 3 34, o_ild (.iload_n 1) 1, o_lda .iaload [0, 20], o_ald (.aload_n 0) 0, o_getf (.getfield 62) 3 35, o_ild (.iload_n 1) 1, o_lda .iaload [0, 20], o_cs (.invokestatic 352) kX3_stateAt 4 0, o_lda .baload [1, 2, 22], o_ifeq 5 139, o_ild (.iload_n 1) 1, o_iret 0] :=
  fG mo_ild (sim_ild_n dX3_last_103 rfl) <|
  fG mo_iflt (sim_iflt dX3_last_104 rfl) <|
  fG mo_ald (sim_ald_n dX3_last_107 rfl) <|
  fG mo_getf (sim_getfG hG dX3_last_108 hc_3 (by decide) rfl in_X3 (fun _ _ _ h => h) (Or.inl q1286)) <|
  fG mo_ild (sim_ild_n dX3_last_111 rfl) <|
  fG mo_ald (sim_ald_n dX3_last_112 rfl) <|
  fG mo_getf (sim_getfG hG dX3_last_113 hc_3 (by decide) rfl in_X3 (fun _ _ _ h => h) (Or.inl q1283)) <|
  fG mo_ild (sim_ild_n dX3_last_116 rfl) <|
  fG mo_lda (sim_iald dX3_last_117) <|
  fG mo_ald (sim_ald_n dX3_last_118 rfl) <|
  fG mo_getf (sim_getfG hG dX3_last_119 hc_3 (by decide) rfl in_X3 (fun _ _ _ h => h) (Or.inl q1284)) <|
  fG mo_ild (sim_ild_n dX3_last_122 rfl) <|
  fG mo_lda (sim_iald dX3_last_123) <|
  fG mo_ald (sim_ald_n dX3_last_124 rfl) <|
  fG mo_getf (sim_getfG hG dX3_last_125 hc_3 (by decide) rfl in_X3 (fun _ _ _ h => h) (Or.inl q1285)) <|
  fG mo_ild (sim_ild_n dX3_last_128 rfl) <|
  fG mo_lda (sim_iald dX3_last_129) <|
  fC (ic_cs (Or.inl rfl)) (sim_cs hG dX3_last_130 M_X3_stateAt (by rw [nm_X3_stateAt]; rfl) (by rw [nm_X3_stateAt]; exact q1709) (by rw [nm_X3_stateAt]; exact q1710)) <|
  fG mo_lda (sim_bald dX3_last_133) <|
  fG mo_ifeq (sim_ifeq dX3_last_134 rfl) <|
  fG mo_ild (sim_ild_n dX3_last_137 rfl) <|
  fE ie_iret (sim_iret dX3_last_138 rfl (Or.inl ⟨rfl, rfl⟩))
theorem fX3_last_139 {X : tp_X} {az : Array Value} (hG : tp_Good X az) (hSt : tp_Stat X) : tp_Fit X yX3_last cX3_last (some .int) 5 tp_nm tp_by tp_ml tp_rtt 139 [o_inc 1 (-1), o_goto (-39) 103] :=
  fG mo_inc (sim_inc dX3_last_139 (by decide)) <|
  fG mo_goto (sim_goto dX3_last_142 rfl) <|
  trivial
theorem fX3_last_145 {X : tp_X} {az : Array Value} (hG : tp_Good X az) (hSt : tp_Stat X) : tp_Fit X yX3_last cX3_last (some .int) 5 tp_nm tp_by tp_ml tp_rtt 145 [o_int (.iconst (-1)) (-1), o_iret 0] :=
  fG mo_int (sim_iconst dX3_last_145 (by decide)) <|
  fE ie_iret (sim_iret dX3_last_146 rfl (Or.inl ⟨rfl, rfl⟩))
theorem F_X3_last {X : tp_X} {az : Array Value} (hG : tp_Good X az) (hSt : tp_Stat X) (pc : Nat) : tp_Fit X yX3_last cX3_last (some .int) 5 tp_nm tp_by tp_ml tp_rtt pc (mX3_last pc) :=
  fI (fX3_last_0 hG hSt) <| fI (fX3_last_10 hG hSt) <| fI (fX3_last_21 hG hSt) <| fI (fX3_last_27 hG hSt) <| fI (fX3_last_37 hG hSt) <| fI (fX3_last_46 hG hSt) <| fI (fX3_last_80 hG hSt) <| fI (fX3_last_86 hG hSt) <| fI (fX3_last_92 hG hSt) <| fI (fX3_last_98 hG hSt) <| fI (fX3_last_103 hG hSt) <| fI (fX3_last_139 hG hSt) <| fI (fX3_last_145 hG hSt) <| trivial
theorem fX3_canHome_0 {X : tp_X} {az : Array Value} (hG : tp_Good X az) (hSt : tp_Stat X) : tp_Fit X yX3_canHome cX3_canHome (some .boolean) 8 tp_nm tp_by tp_ml tp_rtt 0 [o_ild (.iload_n 2) 2, o_ald (.aload_n 0) 0, o_getf (.getfield 7) 3 3, o_int (.bipush 6) 6, o_lda .iaload [0, 20], o_icmpne 5 13, o_int (.iconst 1) 1, o_iret 1] :=
  fG mo_ild (sim_ild_n dX3_canHome_0 rfl) <|
  fG mo_ald (sim_ald_n dX3_canHome_1 rfl) <|
  fG mo_getf (sim_getfG hG dX3_canHome_2 hc_3 (by decide) rfl in_X3 (fun _ _ _ h => h) (Or.inl q1255)) <|
  fG mo_int (sim_bipush dX3_canHome_5 (by decide)) <|
  fG mo_lda (sim_iald dX3_canHome_7) <|
  fG mo_icmpne (sim_icmpne dX3_canHome_8 rfl) <|
  fG mo_int (sim_iconst dX3_canHome_11 (by decide)) <|
  fE ie_iret (sim_iret dX3_canHome_12 rfl (Or.inr (Or.inl ⟨rfl, rfl⟩)))
theorem fX3_canHome_13 {X : tp_X} {az : Array Value} (hG : tp_Good X az) (hSt : tp_Stat X) : tp_Fit X yX3_canHome cX3_canHome (some .boolean) 8 tp_nm tp_by tp_ml tp_rtt 13 [o_int (.iconst 0) 0, o_ist (.istore 5) 5, o_fall 16] :=
  fG mo_int (sim_iconst dX3_canHome_13 (by decide)) <|
  fG mo_ist (sim_ist dX3_canHome_14) <|
  fF
theorem fX3_canHome_16 {X : tp_X} {az : Array Value} (hG : tp_Good X az) (hSt : tp_Stat X) : tp_Fit X yX3_canHome cX3_canHome (some .boolean) 8 tp_nm tp_by tp_ml tp_rtt 16 [o_ild (.iload 5) 5, o_int (.bipush 8) 8, o_icmpge 117 137, o_ild (.iload_n 1) 1, o_ald (.aload_n 0) 0, o_getf (.getfield 7) 3 3, o_int (.iconst 4) 4, o_lda .iaload [0, 20], o_icmpge 107 137, o_ald (.aload_n 0) 0, o_ild (.iload_n 1) 1, o_ild (.iload_n 2) 2, o_ild (.iload_n 3) 3, o_ild (.iload 4) 4, o_ild (.iload 5) 5, o_cv (.invokevirtual 345) 3 kX3_costAhead 5 0, o_ist (.istore 6) 6, o_ild (.iload 6) 6, o_ifge 6 54, o_goto 80 131] :=
  fG mo_ild (sim_ild dX3_canHome_16) <|
  fG mo_int (sim_bipush dX3_canHome_18 (by decide)) <|
  fG mo_icmpge (sim_icmpge dX3_canHome_20 rfl) <|
  fG mo_ild (sim_ild_n dX3_canHome_23 rfl) <|
  fG mo_ald (sim_ald_n dX3_canHome_24 rfl) <|
  fG mo_getf (sim_getfG hG dX3_canHome_25 hc_3 (by decide) rfl in_X3 (fun _ _ _ h => h) (Or.inl q1255)) <|
  fG mo_int (sim_iconst dX3_canHome_28 (by decide)) <|
  fG mo_lda (sim_iald dX3_canHome_29) <|
  fG mo_icmpge (sim_icmpge dX3_canHome_30 rfl) <|
  fG mo_ald (sim_ald_n dX3_canHome_33 rfl) <|
  fG mo_ild (sim_ild_n dX3_canHome_34 rfl) <|
  fG mo_ild (sim_ild_n dX3_canHome_35 rfl) <|
  fG mo_ild (sim_ild_n dX3_canHome_36 rfl) <|
  fG mo_ild (sim_ild dX3_canHome_37) <|
  fG mo_ild (sim_ild dX3_canHome_39) <|
  fC (ic_cv (Or.inl rfl)) (sim_cv hG dX3_canHome_41 (hG.2.1 3 _ hc_3).2.1 M_X3_costAhead (by rw [nm_X3_costAhead]; rfl) (by rw [nm_X3_costAhead]; exact q1720) (by rw [nm_X3_costAhead]; exact q1722) (by rw [nm_X3_costAhead]; exact qs98)) <|
  fG mo_ist (sim_ist dX3_canHome_44) <|
  fG mo_ild (sim_ild dX3_canHome_46) <|
  fG mo_ifge (sim_ifge dX3_canHome_48 rfl) <|
  fG mo_goto (sim_goto dX3_canHome_51 rfl) <|
  trivial
theorem fX3_canHome_54 {X : tp_X} {az : Array Value} (hG : tp_Good X az) (hSt : tp_Stat X) : tp_Fit X yX3_canHome cX3_canHome (some .boolean) 8 tp_nm tp_by tp_ml tp_rtt 54 [o_ald (.aload_n 0) 0, o_ild (.iload_n 1) 1, o_ild (.iload_n 2) 2, o_ild (.iload 5) 5, o_cv (.invokevirtual 349) 3 kX3_cellAhead 3 0, o_ist (.istore 7) 7, o_ild (.iload 5) 5, o_int (.iconst 4) 4, o_icmpge 17 84, o_ald (.aload_n 0) 0, o_getf (.getfield 7) 3 3, o_int (.bipush 70) 70, o_ild (.iload 7) 7, o_iadd, o_lda .iaload [0, 20], o_int (.iconst 1) 1, o_icmpeq 50 131, o_fall 84] :=
  fG mo_ald (sim_ald_n dX3_canHome_54 rfl) <|
  fG mo_ild (sim_ild_n dX3_canHome_55 rfl) <|
  fG mo_ild (sim_ild_n dX3_canHome_56 rfl) <|
  fG mo_ild (sim_ild dX3_canHome_57) <|
  fC (ic_cv (Or.inl rfl)) (sim_cv hG dX3_canHome_59 (hG.2.1 3 _ hc_3).2.1 M_X3_cellAhead (by rw [nm_X3_cellAhead]; rfl) (by rw [nm_X3_cellAhead]; exact q1724) (by rw [nm_X3_cellAhead]; exact q1726) (by rw [nm_X3_cellAhead]; exact qs99)) <|
  fG mo_ist (sim_ist dX3_canHome_62) <|
  fG mo_ild (sim_ild dX3_canHome_64) <|
  fG mo_int (sim_iconst dX3_canHome_66 (by decide)) <|
  fG mo_icmpge (sim_icmpge dX3_canHome_67 rfl) <|
  fG mo_ald (sim_ald_n dX3_canHome_70 rfl) <|
  fG mo_getf (sim_getfG hG dX3_canHome_71 hc_3 (by decide) rfl in_X3 (fun _ _ _ h => h) (Or.inl q1255)) <|
  fG mo_int (sim_bipush dX3_canHome_74 (by decide)) <|
  fG mo_ild (sim_ild dX3_canHome_76) <|
  fG mo_iadd (sim_iadd dX3_canHome_78) <|
  fG mo_lda (sim_iald dX3_canHome_79) <|
  fG mo_int (sim_iconst dX3_canHome_80 (by decide)) <|
  fG mo_icmpeq (sim_icmpeq dX3_canHome_81 rfl) <|
  fF
theorem fX3_canHome_84 {X : tp_X} {az : Array Value} (hG : tp_Good X az) (hSt : tp_Stat X) : tp_Fit X yX3_canHome cX3_canHome (some .boolean) 8 tp_nm tp_by tp_ml tp_rtt 84 [o_ald (.aload_n 0) 0, o_getf (.getfield 49) 3 30, o_int (.bipush 36) 36, o_ild (.iload_n 1) 1, o_imul, o_ild (.iload 7) 7, o_iadd, o_lda .baload [1, 2, 22], o_ifeq 6 102, o_goto 32 131] :=
  fG mo_ald (sim_ald_n dX3_canHome_84 rfl) <|
  fG mo_getf (sim_getfG hG dX3_canHome_85 hc_3 (by decide) rfl in_X3 (fun _ _ _ h => h) (Or.inl q1280)) <|
  fG mo_int (sim_bipush dX3_canHome_88 (by decide)) <|
  fG mo_ild (sim_ild_n dX3_canHome_90 rfl) <|
  fG mo_imul (sim_imul dX3_canHome_91) <|
  fG mo_ild (sim_ild dX3_canHome_92) <|
  fG mo_iadd (sim_iadd dX3_canHome_94) <|
  fG mo_lda (sim_bald dX3_canHome_95) <|
  fG mo_ifeq (sim_ifeq dX3_canHome_96 rfl) <|
  fG mo_goto (sim_goto dX3_canHome_99 rfl) <|
  trivial
theorem fX3_canHome_102 {X : tp_X} {az : Array Value} (hG : tp_Good X az) (hSt : tp_Stat X) : tp_Fit X yX3_canHome cX3_canHome (some .boolean) 8 tp_nm tp_by tp_ml tp_rtt 102 [o_ald (.aload_n 0) 0, o_getf (.getfield 65) 3 36, o_ild (.iload_n 1) 1, o_int (.iconst 1) 1, o_iadd, o_ild (.iload 7) 7, o_ild (.iload_n 3) 3, o_ild (.iload 6) 6, o_isub, o_ild (.iload 5) 5, o_ild (.iload 4) 4, o_cs (.invokestatic 322) kX3_firesBehind 2 0, o_cs (.invokestatic 352) kX3_stateAt 4 0, o_lda .baload [1, 2, 22], o_ifeq 5 131, o_int (.iconst 1) 1, o_iret 1] :=
  fG mo_ald (sim_ald_n dX3_canHome_102 rfl) <|
  fG mo_getf (sim_getfG hG dX3_canHome_103 hc_3 (by decide) rfl in_X3 (fun _ _ _ h => h) (Or.inl q1286)) <|
  fG mo_ild (sim_ild_n dX3_canHome_106 rfl) <|
  fG mo_int (sim_iconst dX3_canHome_107 (by decide)) <|
  fG mo_iadd (sim_iadd dX3_canHome_108) <|
  fG mo_ild (sim_ild dX3_canHome_109) <|
  fG mo_ild (sim_ild_n dX3_canHome_111 rfl) <|
  fG mo_ild (sim_ild dX3_canHome_112) <|
  fG mo_isub (sim_isub dX3_canHome_114) <|
  fG mo_ild (sim_ild dX3_canHome_115) <|
  fG mo_ild (sim_ild dX3_canHome_117) <|
  fC (ic_cs (Or.inl rfl)) (sim_cs hG dX3_canHome_119 M_X3_firesBehind (by rw [nm_X3_firesBehind]; rfl) (by rw [nm_X3_firesBehind]; exact q1658) (by rw [nm_X3_firesBehind]; exact q1659)) <|
  fC (ic_cs (Or.inl rfl)) (sim_cs hG dX3_canHome_122 M_X3_stateAt (by rw [nm_X3_stateAt]; rfl) (by rw [nm_X3_stateAt]; exact q1709) (by rw [nm_X3_stateAt]; exact q1710)) <|
  fG mo_lda (sim_bald dX3_canHome_125) <|
  fG mo_ifeq (sim_ifeq dX3_canHome_126 rfl) <|
  fG mo_int (sim_iconst dX3_canHome_129 (by decide)) <|
  fE ie_iret (sim_iret dX3_canHome_130 rfl (Or.inr (Or.inl ⟨rfl, rfl⟩)))
theorem fX3_canHome_131 {X : tp_X} {az : Array Value} (hG : tp_Good X az) (hSt : tp_Stat X) : tp_Fit X yX3_canHome cX3_canHome (some .boolean) 8 tp_nm tp_by tp_ml tp_rtt 131 [o_inc 5 1, o_goto (-118) 16] :=
  fG mo_inc (sim_inc dX3_canHome_131 (by decide)) <|
  fG mo_goto (sim_goto dX3_canHome_134 rfl) <|
  trivial
theorem fX3_canHome_137 {X : tp_X} {az : Array Value} (hG : tp_Good X az) (hSt : tp_Stat X) : tp_Fit X yX3_canHome cX3_canHome (some .boolean) 8 tp_nm tp_by tp_ml tp_rtt 137 [o_int (.iconst 0) 0, o_iret 1] :=
  fG mo_int (sim_iconst dX3_canHome_137 (by decide)) <|
  fE ie_iret (sim_iret dX3_canHome_138 rfl (Or.inr (Or.inl ⟨rfl, rfl⟩)))
theorem F_X3_canHome {X : tp_X} {az : Array Value} (hG : tp_Good X az) (hSt : tp_Stat X) (pc : Nat) : tp_Fit X yX3_canHome cX3_canHome (some .boolean) 8 tp_nm tp_by tp_ml tp_rtt pc (mX3_canHome pc) :=
  fI (fX3_canHome_0 hG hSt) <| fI (fX3_canHome_13 hG hSt) <| fI (fX3_canHome_16 hG hSt) <| fI (fX3_canHome_54 hG hSt) <| fI (fX3_canHome_84 hG hSt) <| fI (fX3_canHome_102 hG hSt) <| fI (fX3_canHome_131 hG hSt) <| fI (fX3_canHome_137 hG hSt) <| trivial
theorem fX3_walk_0 {X : tp_X} {az : Array Value} (hG : tp_Good X az) (hSt : tp_Stat X) : tp_Fit X yX3_walk cX3_walk (some .int) 2 tp_nm tp_by tp_ml tp_rtt 0 [o_ald (.aload_n 0) 0, o_int (.iconst 0) 0, o_cv (.invokevirtual 313) 3 kX3_isFree 1 0, o_ifeq 17 22, o_ild (.iload_n 1) 1, o_int (.iconst 0) 0, o_ald (.aload_n 0) 0, o_getf (.getfield 7) 3 3, o_int (.iconst 5) 5, o_lda .iaload [0, 20], o_cs (.invokestatic 90) kX3_isIn 3 0, o_ifne 5 24, o_fall 22] :=
  fG mo_ald (sim_ald_n dX3_walk_0 rfl) <|
  fG mo_int (sim_iconst dX3_walk_1 (by decide)) <|
  fC (ic_cv (Or.inl rfl)) (sim_cv hG dX3_walk_2 (hG.2.1 3 _ hc_3).2.1 M_X3_isFree (by rw [nm_X3_isFree]; rfl) (by rw [nm_X3_isFree]; exact q1582) (by rw [nm_X3_isFree]; exact q1584) (by rw [nm_X3_isFree]; exact qs73)) <|
  fG mo_ifeq (sim_ifeq dX3_walk_5 rfl) <|
  fG mo_ild (sim_ild_n dX3_walk_8 rfl) <|
  fG mo_int (sim_iconst dX3_walk_9 (by decide)) <|
  fG mo_ald (sim_ald_n dX3_walk_10 rfl) <|
  fG mo_getf (sim_getfG hG dX3_walk_11 hc_3 (by decide) rfl in_X3 (fun _ _ _ h => h) (Or.inl q1255)) <|
  fG mo_int (sim_iconst dX3_walk_14 (by decide)) <|
  fG mo_lda (sim_iald dX3_walk_15) <|
  fC (ic_cs (Or.inl rfl)) (sim_cs hG dX3_walk_16 M_X3_isIn (by rw [nm_X3_isIn]; rfl) (by rw [nm_X3_isIn]; exact q1400) (by rw [nm_X3_isIn]; exact q1401)) <|
  fG mo_ifne (sim_ifne dX3_walk_19 rfl) <|
  fF
theorem fX3_walk_22 {X : tp_X} {az : Array Value} (hG : tp_Good X az) (hSt : tp_Stat X) : tp_Fit X yX3_walk cX3_walk (some .int) 2 tp_nm tp_by tp_ml tp_rtt 22 [o_int (.iconst (-1)) (-1), o_iret 0] :=
  fG mo_int (sim_iconst dX3_walk_22 (by decide)) <|
  fE ie_iret (sim_iret dX3_walk_23 rfl (Or.inl ⟨rfl, rfl⟩))
theorem fX3_walk_24 {X : tp_X} {az : Array Value} (hG : tp_Good X az) (hSt : tp_Stat X) : tp_Fit X yX3_walk cX3_walk (some .int) 2 tp_nm tp_by tp_ml tp_rtt 24 [o_ald (.aload_n 0) 0, o_cv (.invokevirtual 379) 3 kX3_follow 0 0, o_ild (.iload_n 1) 1, o_ald (.aload_n 0) 0, o_getf (.getfield 376) 3 32, o_icmpgt 17 50, o_ald (.aload_n 0) 0, o_ald (.aload_n 0) 0, o_getf (.getfield 56) 3 33, o_ild (.iload_n 1) 1, o_lda .iaload [0, 20], o_ild (.iload_n 1) 1, o_cv (.invokevirtual 391) 3 kX3_walkFrom 2 0, o_goto 4 51] :=
  fG mo_ald (sim_ald_n dX3_walk_24 rfl) <|
  fC (ic_cv (Or.inl rfl)) (sim_cv hG dX3_walk_25 (hG.2.1 3 _ hc_3).2.1 M_X3_follow (by rw [nm_X3_follow]; rfl) (by rw [nm_X3_follow]; exact q1752) (by rw [nm_X3_follow]; exact q1754) (by rw [nm_X3_follow]; exact qs103)) <|
  fG mo_ild (sim_ild_n dX3_walk_28 rfl) <|
  fG mo_ald (sim_ald_n dX3_walk_29 rfl) <|
  fG mo_getf (sim_getfG hG dX3_walk_30 hc_3 (by decide) rfl in_X3 (fun _ _ _ h => h) (Or.inl q1282)) <|
  fG mo_icmpgt (sim_icmpgt dX3_walk_33 rfl) <|
  fG mo_ald (sim_ald_n dX3_walk_36 rfl) <|
  fG mo_ald (sim_ald_n dX3_walk_37 rfl) <|
  fG mo_getf (sim_getfG hG dX3_walk_38 hc_3 (by decide) rfl in_X3 (fun _ _ _ h => h) (Or.inl q1283)) <|
  fG mo_ild (sim_ild_n dX3_walk_41 rfl) <|
  fG mo_lda (sim_iald dX3_walk_42) <|
  fG mo_ild (sim_ild_n dX3_walk_43 rfl) <|
  fC (ic_cv (Or.inl rfl)) (sim_cv hG dX3_walk_44 (hG.2.1 3 _ hc_3).2.1 M_X3_walkFrom (by rw [nm_X3_walkFrom]; rfl) (by rw [nm_X3_walkFrom]; exact q1772) (by rw [nm_X3_walkFrom]; exact q1774) (by rw [nm_X3_walkFrom]; exact qs105)) <|
  fG mo_goto (sim_goto dX3_walk_47 rfl) <|
  trivial
theorem fX3_walk_50 {X : tp_X} {az : Array Value} (hG : tp_Good X az) (hSt : tp_Stat X) : tp_Fit X yX3_walk cX3_walk (some .int) 2 tp_nm tp_by tp_ml tp_rtt 50 [o_int (.iconst (-1)) (-1), o_fall 51] :=
  fG mo_int (sim_iconst dX3_walk_50 (by decide)) <|
  fF
theorem fX3_walk_51 {X : tp_X} {az : Array Value} (hG : tp_Good X az) (hSt : tp_Stat X) : tp_Fit X yX3_walk cX3_walk (some .int) 2 tp_nm tp_by tp_ml tp_rtt 51 [o_iret 0] :=
  fE ie_iret (sim_iret dX3_walk_51 rfl (Or.inl ⟨rfl, rfl⟩))
theorem F_X3_walk {X : tp_X} {az : Array Value} (hG : tp_Good X az) (hSt : tp_Stat X) (pc : Nat) : tp_Fit X yX3_walk cX3_walk (some .int) 2 tp_nm tp_by tp_ml tp_rtt pc (mX3_walk pc) :=
  fI (fX3_walk_0 hG hSt) <| fI (fX3_walk_22 hG hSt) <| fI (fX3_walk_24 hG hSt) <| fI (fX3_walk_50 hG hSt) <| fI (fX3_walk_51 hG hSt) <| trivial
theorem fX3_walkFrom_0 {X : tp_X} {az : Array Value} (hG : tp_Good X az) (hSt : tp_Stat X) : tp_Fit X yX3_walkFrom cX3_walkFrom (some .int) 5 tp_nm tp_by tp_ml tp_rtt 0 [o_ald (.aload_n 0) 0, o_getf (.getfield 7) 3 3, o_int (.bipush 110) 110, o_ild (.iload_n 1) 1, o_iadd, o_lda .iaload [0, 20], o_int (.iconst 1) 1, o_icmpne 5 15, o_int (.iconst 0) 0, o_iret 0] :=
  fG mo_ald (sim_ald_n dX3_walkFrom_0 rfl) <|
  fG mo_getf (sim_getfG hG dX3_walkFrom_1 hc_3 (by decide) rfl in_X3 (fun _ _ _ h => h) (Or.inl q1255)) <|
  fG mo_int (sim_bipush dX3_walkFrom_4 (by decide)) <|
  fG mo_ild (sim_ild_n dX3_walkFrom_6 rfl) <|
  fG mo_iadd (sim_iadd dX3_walkFrom_7) <|
  fG mo_lda (sim_iald dX3_walkFrom_8) <|
  fG mo_int (sim_iconst dX3_walkFrom_9 (by decide)) <|
  fG mo_icmpne (sim_icmpne dX3_walkFrom_10 rfl) <|
  fG mo_int (sim_iconst dX3_walkFrom_13 (by decide)) <|
  fE ie_iret (sim_iret dX3_walkFrom_14 rfl (Or.inl ⟨rfl, rfl⟩))
theorem fX3_walkFrom_15 {X : tp_X} {az : Array Value} (hG : tp_Good X az) (hSt : tp_Stat X) : tp_Fit X yX3_walkFrom cX3_walkFrom (some .int) 5 tp_nm tp_by tp_ml tp_rtt 15 [o_int (.iconst 0) 0, o_ist (.istore_n 3) 3, o_fall 17] :=
  fG mo_int (sim_iconst dX3_walkFrom_15 (by decide)) <|
  fG mo_ist (sim_ist_n dX3_walkFrom_16 rfl) <|
  fF
theorem fX3_walkFrom_17 {X : tp_X} {az : Array Value} (hG : tp_Good X az) (hSt : tp_Stat X) : tp_Fit X yX3_walkFrom cX3_walkFrom (some .int) 5 tp_nm tp_by tp_ml tp_rtt 17 [o_ild (.iload_n 3) 3, o_ald (.aload_n 0) 0, o_getf (.getfield 83) 3 2, o_icmpge 25 47, o_ald (.aload_n 0) 0, o_getf (.getfield 68) 3 37, o_ild (.iload_n 3) 3, o_ild (.iload_n 3) 3, o_ild (.iload_n 1) 1, o_icmpne 7 39, o_int (.iconst 1) 1, o_goto 4 40] :=
  fG mo_ild (sim_ild_n dX3_walkFrom_17 rfl) <|
  fG mo_ald (sim_ald_n dX3_walkFrom_18 rfl) <|
  fG mo_getf (sim_getfG hG dX3_walkFrom_19 hc_3 (by decide) rfl in_X3 (fun _ _ _ h => h) (Or.inl q1254)) <|
  fG mo_icmpge (sim_icmpge dX3_walkFrom_22 rfl) <|
  fG mo_ald (sim_ald_n dX3_walkFrom_25 rfl) <|
  fG mo_getf (sim_getfG hG dX3_walkFrom_26 hc_3 (by decide) rfl in_X3 (fun _ _ _ h => h) (Or.inl q1287)) <|
  fG mo_ild (sim_ild_n dX3_walkFrom_29 rfl) <|
  fG mo_ild (sim_ild_n dX3_walkFrom_30 rfl) <|
  fG mo_ild (sim_ild_n dX3_walkFrom_31 rfl) <|
  fG mo_icmpne (sim_icmpne dX3_walkFrom_32 rfl) <|
  fG mo_int (sim_iconst dX3_walkFrom_35 (by decide)) <|
  fG mo_goto (sim_goto dX3_walkFrom_36 rfl) <|
  trivial
theorem fX3_walkFrom_39 {X : tp_X} {az : Array Value} (hG : tp_Good X az) (hSt : tp_Stat X) : tp_Fit X yX3_walkFrom cX3_walkFrom (some .int) 5 tp_nm tp_by tp_ml tp_rtt 39 [o_int (.iconst 0) 0, o_fall 40] :=
  fG mo_int (sim_iconst dX3_walkFrom_39 (by decide)) <|
  fF
theorem fX3_walkFrom_40 {X : tp_X} {az : Array Value} (hG : tp_Good X az) (hSt : tp_Stat X) : tp_Fit X yX3_walkFrom cX3_walkFrom (some .int) 5 tp_nm tp_by tp_ml tp_rtt 40 [o_sta .bastore [1, 2], o_inc 3 1, o_goto (-27) 17] :=
  fG mo_sta (sim_bast dX3_walkFrom_40) <|
  fG mo_inc (sim_inc dX3_walkFrom_41 (by decide)) <|
  fG mo_goto (sim_goto dX3_walkFrom_44 rfl) <|
  trivial
theorem fX3_walkFrom_47 {X : tp_X} {az : Array Value} (hG : tp_Good X az) (hSt : tp_Stat X) : tp_Fit X yX3_walkFrom cX3_walkFrom (some .int) 5 tp_nm tp_by tp_ml tp_rtt 47 [o_ild (.iload_n 2) 2, o_ist (.istore_n 3) 3, o_fall 49] :=
  fG mo_ild (sim_ild_n dX3_walkFrom_47 rfl) <|
  fG mo_ist (sim_ist_n dX3_walkFrom_48 rfl) <|
  fF
theorem fX3_walkFrom_49 {X : tp_X} {az : Array Value} (hG : tp_Good X az) (hSt : tp_Stat X) : tp_Fit X yX3_walkFrom cX3_walkFrom (some .int) 5 tp_nm tp_by tp_ml tp_rtt 49 [o_ild (.iload_n 3) 3, o_ald (.aload_n 0) 0, o_getf (.getfield 7) 3 3, o_int (.iconst 4) 4, o_lda .iaload [0, 20], o_icmpge 168 224, o_ald (.aload_n 0) 0, o_ild (.iload_n 3) 3, o_cv (.invokevirtual 388) 3 kX3_walkOn 1 0, o_int (.iconst 0) 0, o_ist (.istore 4) 4, o_fall 67] :=
  fG mo_ild (sim_ild_n dX3_walkFrom_49 rfl) <|
  fG mo_ald (sim_ald_n dX3_walkFrom_50 rfl) <|
  fG mo_getf (sim_getfG hG dX3_walkFrom_51 hc_3 (by decide) rfl in_X3 (fun _ _ _ h => h) (Or.inl q1255)) <|
  fG mo_int (sim_iconst dX3_walkFrom_54 (by decide)) <|
  fG mo_lda (sim_iald dX3_walkFrom_55) <|
  fG mo_icmpge (sim_icmpge dX3_walkFrom_56 rfl) <|
  fG mo_ald (sim_ald_n dX3_walkFrom_59 rfl) <|
  fG mo_ild (sim_ild_n dX3_walkFrom_60 rfl) <|
  fC (ic_cv (Or.inl rfl)) (sim_cv hG dX3_walkFrom_61 (hG.2.1 3 _ hc_3).2.1 M_X3_walkOn (by rw [nm_X3_walkOn]; rfl) (by rw [nm_X3_walkOn]; exact q1776) (by rw [nm_X3_walkOn]; exact q1778) (by rw [nm_X3_walkOn]; exact qs106)) <|
  fG mo_int (sim_iconst dX3_walkFrom_64 (by decide)) <|
  fG mo_ist (sim_ist dX3_walkFrom_65) <|
  fF
theorem fX3_walkFrom_67 {X : tp_X} {az : Array Value} (hG : tp_Good X az) (hSt : tp_Stat X) : tp_Fit X yX3_walkFrom cX3_walkFrom (some .int) 5 tp_nm tp_by tp_ml tp_rtt 67 [o_ild (.iload 4) 4, o_ald (.aload_n 0) 0, o_getf (.getfield 83) 3 2, o_icmpge 47 120, o_ald (.aload_n 0) 0, o_getf (.getfield 71) 3 38, o_ild (.iload 4) 4, o_lda .baload [1, 2, 22], o_ifeq 23 106, o_ald (.aload_n 0) 0, o_getf (.getfield 7) 3 3, o_int (.bipush 110) 110, o_ild (.iload 4) 4, o_iadd, o_lda .iaload [0, 20], o_int (.iconst 1) 1, o_icmpne 9 106, o_ild (.iload_n 3) 3, o_ild (.iload_n 2) 2, o_isub, o_int (.iconst 1) 1, o_iadd, o_iret 0] :=
  fG mo_ild (sim_ild dX3_walkFrom_67) <|
  fG mo_ald (sim_ald_n dX3_walkFrom_69 rfl) <|
  fG mo_getf (sim_getfG hG dX3_walkFrom_70 hc_3 (by decide) rfl in_X3 (fun _ _ _ h => h) (Or.inl q1254)) <|
  fG mo_icmpge (sim_icmpge dX3_walkFrom_73 rfl) <|
  fG mo_ald (sim_ald_n dX3_walkFrom_76 rfl) <|
  fG mo_getf (sim_getfG hG dX3_walkFrom_77 hc_3 (by decide) rfl in_X3 (fun _ _ _ h => h) (Or.inl q1288)) <|
  fG mo_ild (sim_ild dX3_walkFrom_80) <|
  fG mo_lda (sim_bald dX3_walkFrom_82) <|
  fG mo_ifeq (sim_ifeq dX3_walkFrom_83 rfl) <|
  fG mo_ald (sim_ald_n dX3_walkFrom_86 rfl) <|
  fG mo_getf (sim_getfG hG dX3_walkFrom_87 hc_3 (by decide) rfl in_X3 (fun _ _ _ h => h) (Or.inl q1255)) <|
  fG mo_int (sim_bipush dX3_walkFrom_90 (by decide)) <|
  fG mo_ild (sim_ild dX3_walkFrom_92) <|
  fG mo_iadd (sim_iadd dX3_walkFrom_94) <|
  fG mo_lda (sim_iald dX3_walkFrom_95) <|
  fG mo_int (sim_iconst dX3_walkFrom_96 (by decide)) <|
  fG mo_icmpne (sim_icmpne dX3_walkFrom_97 rfl) <|
  fG mo_ild (sim_ild_n dX3_walkFrom_100 rfl) <|
  fG mo_ild (sim_ild_n dX3_walkFrom_101 rfl) <|
  fG mo_isub (sim_isub dX3_walkFrom_102) <|
  fG mo_int (sim_iconst dX3_walkFrom_103 (by decide)) <|
  fG mo_iadd (sim_iadd dX3_walkFrom_104) <|
  fE ie_iret (sim_iret dX3_walkFrom_105 rfl (Or.inl ⟨rfl, rfl⟩))
theorem fX3_walkFrom_106 {X : tp_X} {az : Array Value} (hG : tp_Good X az) (hSt : tp_Stat X) : tp_Fit X yX3_walkFrom cX3_walkFrom (some .int) 5 tp_nm tp_by tp_ml tp_rtt 106 [o_ald (.aload_n 0) 0, o_getf (.getfield 68) 3 37, o_ild (.iload 4) 4, o_int (.iconst 0) 0, o_sta .bastore [1, 2], o_inc 4 1, o_goto (-50) 67] :=
  fG mo_ald (sim_ald_n dX3_walkFrom_106 rfl) <|
  fG mo_getf (sim_getfG hG dX3_walkFrom_107 hc_3 (by decide) rfl in_X3 (fun _ _ _ h => h) (Or.inl q1287)) <|
  fG mo_ild (sim_ild dX3_walkFrom_110) <|
  fG mo_int (sim_iconst dX3_walkFrom_112 (by decide)) <|
  fG mo_sta (sim_bast dX3_walkFrom_113) <|
  fG mo_inc (sim_inc dX3_walkFrom_114 (by decide)) <|
  fG mo_goto (sim_goto dX3_walkFrom_117 rfl) <|
  trivial
theorem fX3_walkFrom_120 {X : tp_X} {az : Array Value} (hG : tp_Good X az) (hSt : tp_Stat X) : tp_Fit X yX3_walkFrom cX3_walkFrom (some .int) 5 tp_nm tp_by tp_ml tp_rtt 120 [o_int (.iconst 0) 0, o_ist (.istore 4) 4, o_fall 123] :=
  fG mo_int (sim_iconst dX3_walkFrom_120 (by decide)) <|
  fG mo_ist (sim_ist dX3_walkFrom_121) <|
  fF
theorem fX3_walkFrom_123 {X : tp_X} {az : Array Value} (hG : tp_Good X az) (hSt : tp_Stat X) : tp_Fit X yX3_walkFrom cX3_walkFrom (some .int) 5 tp_nm tp_by tp_ml tp_rtt 123 [o_ild (.iload 4) 4, o_ald (.aload_n 0) 0, o_getf (.getfield 83) 3 2, o_icmpge 41 170, o_ald (.aload_n 0) 0, o_getf (.getfield 71) 3 38, o_ild (.iload 4) 4, o_lda .baload [1, 2, 22], o_ifeq 25 164, o_ald (.aload_n 0) 0, o_getf (.getfield 68) 3 37, o_ald (.aload_n 0) 0, o_ild (.iload 4) 4, o_ald (.aload_n 0) 0, o_getf (.getfield 7) 3 3, o_int (.sipush 180) 180, o_ild (.iload_n 3) 3, o_iadd, o_lda .iaload [0, 20], o_cv (.invokevirtual 325) 3 kX3_drifted 2 0, o_int (.iconst 1) 1, o_sta .bastore [1, 2], o_fall 164] :=
  fG mo_ild (sim_ild dX3_walkFrom_123) <|
  fG mo_ald (sim_ald_n dX3_walkFrom_125 rfl) <|
  fG mo_getf (sim_getfG hG dX3_walkFrom_126 hc_3 (by decide) rfl in_X3 (fun _ _ _ h => h) (Or.inl q1254)) <|
  fG mo_icmpge (sim_icmpge dX3_walkFrom_129 rfl) <|
  fG mo_ald (sim_ald_n dX3_walkFrom_132 rfl) <|
  fG mo_getf (sim_getfG hG dX3_walkFrom_133 hc_3 (by decide) rfl in_X3 (fun _ _ _ h => h) (Or.inl q1288)) <|
  fG mo_ild (sim_ild dX3_walkFrom_136) <|
  fG mo_lda (sim_bald dX3_walkFrom_138) <|
  fG mo_ifeq (sim_ifeq dX3_walkFrom_139 rfl) <|
  fG mo_ald (sim_ald_n dX3_walkFrom_142 rfl) <|
  fG mo_getf (sim_getfG hG dX3_walkFrom_143 hc_3 (by decide) rfl in_X3 (fun _ _ _ h => h) (Or.inl q1287)) <|
  fG mo_ald (sim_ald_n dX3_walkFrom_146 rfl) <|
  fG mo_ild (sim_ild dX3_walkFrom_147) <|
  fG mo_ald (sim_ald_n dX3_walkFrom_149 rfl) <|
  fG mo_getf (sim_getfG hG dX3_walkFrom_150 hc_3 (by decide) rfl in_X3 (fun _ _ _ h => h) (Or.inl q1255)) <|
  fG mo_int (sim_sipush dX3_walkFrom_153 (by decide)) <|
  fG mo_ild (sim_ild_n dX3_walkFrom_156 rfl) <|
  fG mo_iadd (sim_iadd dX3_walkFrom_157) <|
  fG mo_lda (sim_iald dX3_walkFrom_158) <|
  fC (ic_cv (Or.inl rfl)) (sim_cv hG dX3_walkFrom_159 (hG.2.1 3 _ hc_3).2.1 M_X3_drifted (by rw [nm_X3_drifted]; rfl) (by rw [nm_X3_drifted]; exact q1673) (by rw [nm_X3_drifted]; exact q1675) (by rw [nm_X3_drifted]; exact qs91)) <|
  fG mo_int (sim_iconst dX3_walkFrom_162 (by decide)) <|
  fG mo_sta (sim_bast dX3_walkFrom_163) <|
  fF
theorem fX3_walkFrom_164 {X : tp_X} {az : Array Value} (hG : tp_Good X az) (hSt : tp_Stat X) : tp_Fit X yX3_walkFrom cX3_walkFrom (some .int) 5 tp_nm tp_by tp_ml tp_rtt 164 [o_inc 4 1, o_goto (-44) 123] :=
  fG mo_inc (sim_inc dX3_walkFrom_164 (by decide)) <|
  fG mo_goto (sim_goto dX3_walkFrom_167 rfl) <|
  trivial
theorem fX3_walkFrom_170 {X : tp_X} {az : Array Value} (hG : tp_Good X az) (hSt : tp_Stat X) : tp_Fit X yX3_walkFrom cX3_walkFrom (some .int) 5 tp_nm tp_by tp_ml tp_rtt 170 [o_int (.iconst 0) 0, o_ist (.istore 4) 4, o_fall 173] :=
  fG mo_int (sim_iconst dX3_walkFrom_170 (by decide)) <|
  fG mo_ist (sim_ist dX3_walkFrom_171) <|
  fF
theorem fX3_walkFrom_173 {X : tp_X} {az : Array Value} (hG : tp_Good X az) (hSt : tp_Stat X) : tp_Fit X yX3_walkFrom cX3_walkFrom (some .int) 5 tp_nm tp_by tp_ml tp_rtt 173 [o_ild (.iload 4) 4, o_ald (.aload_n 0) 0, o_getf (.getfield 83) 3 2, o_icmpge 39 218, o_ald (.aload_n 0) 0, o_getf (.getfield 68) 3 37, o_ild (.iload 4) 4, o_lda .baload [1, 2, 22], o_ifeq 23 212, o_ald (.aload_n 0) 0, o_getf (.getfield 7) 3 3, o_int (.bipush 110) 110, o_ild (.iload 4) 4, o_iadd, o_lda .iaload [0, 20], o_int (.iconst 1) 1, o_icmpne 9 212, o_ild (.iload_n 3) 3, o_ild (.iload_n 2) 2, o_isub, o_int (.iconst 1) 1, o_iadd, o_iret 0] :=
  fG mo_ild (sim_ild dX3_walkFrom_173) <|
  fG mo_ald (sim_ald_n dX3_walkFrom_175 rfl) <|
  fG mo_getf (sim_getfG hG dX3_walkFrom_176 hc_3 (by decide) rfl in_X3 (fun _ _ _ h => h) (Or.inl q1254)) <|
  fG mo_icmpge (sim_icmpge dX3_walkFrom_179 rfl) <|
  fG mo_ald (sim_ald_n dX3_walkFrom_182 rfl) <|
  fG mo_getf (sim_getfG hG dX3_walkFrom_183 hc_3 (by decide) rfl in_X3 (fun _ _ _ h => h) (Or.inl q1287)) <|
  fG mo_ild (sim_ild dX3_walkFrom_186) <|
  fG mo_lda (sim_bald dX3_walkFrom_188) <|
  fG mo_ifeq (sim_ifeq dX3_walkFrom_189 rfl) <|
  fG mo_ald (sim_ald_n dX3_walkFrom_192 rfl) <|
  fG mo_getf (sim_getfG hG dX3_walkFrom_193 hc_3 (by decide) rfl in_X3 (fun _ _ _ h => h) (Or.inl q1255)) <|
  fG mo_int (sim_bipush dX3_walkFrom_196 (by decide)) <|
  fG mo_ild (sim_ild dX3_walkFrom_198) <|
  fG mo_iadd (sim_iadd dX3_walkFrom_200) <|
  fG mo_lda (sim_iald dX3_walkFrom_201) <|
  fG mo_int (sim_iconst dX3_walkFrom_202 (by decide)) <|
  fG mo_icmpne (sim_icmpne dX3_walkFrom_203 rfl) <|
  fG mo_ild (sim_ild_n dX3_walkFrom_206 rfl) <|
  fG mo_ild (sim_ild_n dX3_walkFrom_207 rfl) <|
  fG mo_isub (sim_isub dX3_walkFrom_208) <|
  fG mo_int (sim_iconst dX3_walkFrom_209 (by decide)) <|
  fG mo_iadd (sim_iadd dX3_walkFrom_210) <|
  fE ie_iret (sim_iret dX3_walkFrom_211 rfl (Or.inl ⟨rfl, rfl⟩))
theorem fX3_walkFrom_212 {X : tp_X} {az : Array Value} (hG : tp_Good X az) (hSt : tp_Stat X) : tp_Fit X yX3_walkFrom cX3_walkFrom (some .int) 5 tp_nm tp_by tp_ml tp_rtt 212 [o_inc 4 1, o_goto (-42) 173] :=
  fG mo_inc (sim_inc dX3_walkFrom_212 (by decide)) <|
  fG mo_goto (sim_goto dX3_walkFrom_215 rfl) <|
  trivial
theorem fX3_walkFrom_218 {X : tp_X} {az : Array Value} (hG : tp_Good X az) (hSt : tp_Stat X) : tp_Fit X yX3_walkFrom cX3_walkFrom (some .int) 5 tp_nm tp_by tp_ml tp_rtt 218 [o_inc 3 1, o_goto (-172) 49] :=
  fG mo_inc (sim_inc dX3_walkFrom_218 (by decide)) <|
  fG mo_goto (sim_goto dX3_walkFrom_221 rfl) <|
  trivial
theorem fX3_walkFrom_224 {X : tp_X} {az : Array Value} (hG : tp_Good X az) (hSt : tp_Stat X) : tp_Fit X yX3_walkFrom cX3_walkFrom (some .int) 5 tp_nm tp_by tp_ml tp_rtt 224 [o_int (.iconst (-1)) (-1), o_iret 0] :=
  fG mo_int (sim_iconst dX3_walkFrom_224 (by decide)) <|
  fE ie_iret (sim_iret dX3_walkFrom_225 rfl (Or.inl ⟨rfl, rfl⟩))
theorem F_X3_walkFrom {X : tp_X} {az : Array Value} (hG : tp_Good X az) (hSt : tp_Stat X) (pc : Nat) : tp_Fit X yX3_walkFrom cX3_walkFrom (some .int) 5 tp_nm tp_by tp_ml tp_rtt pc (mX3_walkFrom pc) :=
  fI (fX3_walkFrom_0 hG hSt) <| fI (fX3_walkFrom_15 hG hSt) <| fI (fX3_walkFrom_17 hG hSt) <| fI (fX3_walkFrom_39 hG hSt) <| fI (fX3_walkFrom_40 hG hSt) <| fI (fX3_walkFrom_47 hG hSt) <| fI (fX3_walkFrom_49 hG hSt) <| fI (fX3_walkFrom_67 hG hSt) <| fI (fX3_walkFrom_106 hG hSt) <| fI (fX3_walkFrom_120 hG hSt) <| fI (fX3_walkFrom_123 hG hSt) <| fI (fX3_walkFrom_164 hG hSt) <| fI (fX3_walkFrom_170 hG hSt) <| fI (fX3_walkFrom_173 hG hSt) <| fI (fX3_walkFrom_212 hG hSt) <| fI (fX3_walkFrom_218 hG hSt) <| fI (fX3_walkFrom_224 hG hSt) <| trivial
theorem fX3_walkOn_0 {X : tp_X} {az : Array Value} (hG : tp_Good X az) (hSt : tp_Stat X) : tp_Fit X yX3_walkOn cX3_walkOn none 5 tp_nm tp_by tp_ml tp_rtt 0 [o_int (.iconst 0) 0, o_ist (.istore_n 2) 2, o_fall 2] :=
  fG mo_int (sim_iconst dX3_walkOn_0 (by decide)) <|
  fG mo_ist (sim_ist_n dX3_walkOn_1 rfl) <|
  fF
theorem fX3_walkOn_2 {X : tp_X} {az : Array Value} (hG : tp_Good X az) (hSt : tp_Stat X) : tp_Fit X yX3_walkOn cX3_walkOn none 5 tp_nm tp_by tp_ml tp_rtt 2 [o_ild (.iload_n 2) 2, o_ald (.aload_n 0) 0, o_getf (.getfield 83) 3 2, o_icmpge 21 28, o_ald (.aload_n 0) 0, o_getf (.getfield 71) 3 38, o_ild (.iload_n 2) 2, o_ald (.aload_n 0) 0, o_getf (.getfield 68) 3 37, o_ild (.iload_n 2) 2, o_lda .baload [1, 2, 22], o_sta .bastore [1, 2], o_inc 2 1, o_goto (-23) 2] :=
  fG mo_ild (sim_ild_n dX3_walkOn_2 rfl) <|
  fG mo_ald (sim_ald_n dX3_walkOn_3 rfl) <|
  fG mo_getf (sim_getfG hG dX3_walkOn_4 hc_3 (by decide) rfl in_X3 (fun _ _ _ h => h) (Or.inl q1254)) <|
  fG mo_icmpge (sim_icmpge dX3_walkOn_7 rfl) <|
  fG mo_ald (sim_ald_n dX3_walkOn_10 rfl) <|
  fG mo_getf (sim_getfG hG dX3_walkOn_11 hc_3 (by decide) rfl in_X3 (fun _ _ _ h => h) (Or.inl q1288)) <|
  fG mo_ild (sim_ild_n dX3_walkOn_14 rfl) <|
  fG mo_ald (sim_ald_n dX3_walkOn_15 rfl) <|
  fG mo_getf (sim_getfG hG dX3_walkOn_16 hc_3 (by decide) rfl in_X3 (fun _ _ _ h => h) (Or.inl q1287)) <|
  fG mo_ild (sim_ild_n dX3_walkOn_19 rfl) <|
  fG mo_lda (sim_bald dX3_walkOn_20) <|
  fG mo_sta (sim_bast dX3_walkOn_21) <|
  fG mo_inc (sim_inc dX3_walkOn_22 (by decide)) <|
  fG mo_goto (sim_goto dX3_walkOn_25 rfl) <|
  trivial
theorem fX3_walkOn_28 {X : tp_X} {az : Array Value} (hG : tp_Good X az) (hSt : tp_Stat X) : tp_Fit X yX3_walkOn cX3_walkOn none 5 tp_nm tp_by tp_ml tp_rtt 28 [o_int (.iconst 0) 0, o_ist (.istore_n 2) 2, o_fall 30] :=
  fG mo_int (sim_iconst dX3_walkOn_28 (by decide)) <|
  fG mo_ist (sim_ist_n dX3_walkOn_29 rfl) <|
  fF
theorem fX3_walkOn_30 {X : tp_X} {az : Array Value} (hG : tp_Good X az) (hSt : tp_Stat X) : tp_Fit X yX3_walkOn cX3_walkOn none 5 tp_nm tp_by tp_ml tp_rtt 30 [o_ild (.iload_n 2) 2, o_ald (.aload_n 0) 0, o_getf (.getfield 83) 3 2, o_icmpge 102 137, o_ald (.aload_n 0) 0, o_getf (.getfield 68) 3 37, o_ild (.iload_n 2) 2, o_lda .baload [1, 2, 22], o_ifne 87 131, o_ald (.aload_n 0) 0, o_int (.bipush 36) 36, o_ild (.iload_n 1) 1, o_imul, o_ild (.iload_n 2) 2, o_ald (.aload_n 0) 0, o_ild (.iload_n 1) 1, o_cv (.invokevirtual 342) 3 kX3_windBefore 1 0, o_ald (.aload_n 0) 0, o_getf (.getfield 7) 3 3, o_int (.iconst 0) 0, o_lda .iaload [0, 20], o_ild (.iload_n 1) 1, o_iadd, o_cv (.invokevirtual 385) 3 kX3_walks 4 0, o_ifne 6 75, o_goto 59 131] :=
  fG mo_ild (sim_ild_n dX3_walkOn_30 rfl) <|
  fG mo_ald (sim_ald_n dX3_walkOn_31 rfl) <|
  fG mo_getf (sim_getfG hG dX3_walkOn_32 hc_3 (by decide) rfl in_X3 (fun _ _ _ h => h) (Or.inl q1254)) <|
  fG mo_icmpge (sim_icmpge dX3_walkOn_35 rfl) <|
  fG mo_ald (sim_ald_n dX3_walkOn_38 rfl) <|
  fG mo_getf (sim_getfG hG dX3_walkOn_39 hc_3 (by decide) rfl in_X3 (fun _ _ _ h => h) (Or.inl q1287)) <|
  fG mo_ild (sim_ild_n dX3_walkOn_42 rfl) <|
  fG mo_lda (sim_bald dX3_walkOn_43) <|
  fG mo_ifne (sim_ifne dX3_walkOn_44 rfl) <|
  fG mo_ald (sim_ald_n dX3_walkOn_47 rfl) <|
  fG mo_int (sim_bipush dX3_walkOn_48 (by decide)) <|
  fG mo_ild (sim_ild_n dX3_walkOn_50 rfl) <|
  fG mo_imul (sim_imul dX3_walkOn_51) <|
  fG mo_ild (sim_ild_n dX3_walkOn_52 rfl) <|
  fG mo_ald (sim_ald_n dX3_walkOn_53 rfl) <|
  fG mo_ild (sim_ild_n dX3_walkOn_54 rfl) <|
  fC (ic_cv (Or.inl rfl)) (sim_cv hG dX3_walkOn_55 (hG.2.1 3 _ hc_3).2.1 M_X3_windBefore (by rw [nm_X3_windBefore]; rfl) (by rw [nm_X3_windBefore]; exact q1705) (by rw [nm_X3_windBefore]; exact q1707) (by rw [nm_X3_windBefore]; exact qs95)) <|
  fG mo_ald (sim_ald_n dX3_walkOn_58 rfl) <|
  fG mo_getf (sim_getfG hG dX3_walkOn_59 hc_3 (by decide) rfl in_X3 (fun _ _ _ h => h) (Or.inl q1255)) <|
  fG mo_int (sim_iconst dX3_walkOn_62 (by decide)) <|
  fG mo_lda (sim_iald dX3_walkOn_63) <|
  fG mo_ild (sim_ild_n dX3_walkOn_64 rfl) <|
  fG mo_iadd (sim_iadd dX3_walkOn_65) <|
  fC (ic_cv (Or.inl rfl)) (sim_cv hG dX3_walkOn_66 (hG.2.1 3 _ hc_3).2.1 M_X3_walks (by rw [nm_X3_walks]; rfl) (by rw [nm_X3_walks]; exact q1780) (by rw [nm_X3_walks]; exact q1782) (by rw [nm_X3_walks]; exact qs107)) <|
  fG mo_ifne (sim_ifne dX3_walkOn_69 rfl) <|
  fG mo_goto (sim_goto dX3_walkOn_72 rfl) <|
  trivial
theorem fX3_walkOn_75 {X : tp_X} {az : Array Value} (hG : tp_Good X az) (hSt : tp_Stat X) : tp_Fit X yX3_walkOn cX3_walkOn none 5 tp_nm tp_by tp_ml tp_rtt 75 [o_int (.iconst 0) 0, o_ist (.istore_n 3) 3, o_fall 77] :=
  fG mo_int (sim_iconst dX3_walkOn_75 (by decide)) <|
  fG mo_ist (sim_ist_n dX3_walkOn_76 rfl) <|
  fF
theorem fX3_walkOn_77 {X : tp_X} {az : Array Value} (hG : tp_Good X az) (hSt : tp_Stat X) : tp_Fit X yX3_walkOn cX3_walkOn none 5 tp_nm tp_by tp_ml tp_rtt 77 [o_ild (.iload_n 3) 3, o_int (.iconst 4) 4, o_icmpge 52 131, o_ald (.aload_n 0) 0, o_ild (.iload_n 2) 2, o_ild (.iload_n 3) 3, o_cv (.invokevirtual 271) 3 kX3_pushed 2 0, o_ist (.istore 4) 4, o_ald (.aload_n 0) 0, o_getf (.getfield 71) 3 38, o_ild (.iload_n 2) 2, o_ald (.aload_n 0) 0, o_getf (.getfield 71) 3 38, o_ild (.iload_n 2) 2, o_lda .baload [1, 2, 22], o_ifne 18 119, o_ild (.iload 4) 4, o_iflt 17 123, o_ald (.aload_n 0) 0, o_getf (.getfield 68) 3 37, o_ild (.iload 4) 4, o_lda .baload [1, 2, 22], o_ifeq 7 123, o_fall 119] :=
  fG mo_ild (sim_ild_n dX3_walkOn_77 rfl) <|
  fG mo_int (sim_iconst dX3_walkOn_78 (by decide)) <|
  fG mo_icmpge (sim_icmpge dX3_walkOn_79 rfl) <|
  fG mo_ald (sim_ald_n dX3_walkOn_82 rfl) <|
  fG mo_ild (sim_ild_n dX3_walkOn_83 rfl) <|
  fG mo_ild (sim_ild_n dX3_walkOn_84 rfl) <|
  fC (ic_cv (Or.inl rfl)) (sim_cv hG dX3_walkOn_85 (hG.2.1 3 _ hc_3).2.1 M_X3_pushed (by rw [nm_X3_pushed]; rfl) (by rw [nm_X3_pushed]; exact q1598) (by rw [nm_X3_pushed]; exact q1600) (by rw [nm_X3_pushed]; exact qs77)) <|
  fG mo_ist (sim_ist dX3_walkOn_88) <|
  fG mo_ald (sim_ald_n dX3_walkOn_90 rfl) <|
  fG mo_getf (sim_getfG hG dX3_walkOn_91 hc_3 (by decide) rfl in_X3 (fun _ _ _ h => h) (Or.inl q1288)) <|
  fG mo_ild (sim_ild_n dX3_walkOn_94 rfl) <|
  fG mo_ald (sim_ald_n dX3_walkOn_95 rfl) <|
  fG mo_getf (sim_getfG hG dX3_walkOn_96 hc_3 (by decide) rfl in_X3 (fun _ _ _ h => h) (Or.inl q1288)) <|
  fG mo_ild (sim_ild_n dX3_walkOn_99 rfl) <|
  fG mo_lda (sim_bald dX3_walkOn_100) <|
  fG mo_ifne (sim_ifne dX3_walkOn_101 rfl) <|
  fG mo_ild (sim_ild dX3_walkOn_104) <|
  fG mo_iflt (sim_iflt dX3_walkOn_106 rfl) <|
  fG mo_ald (sim_ald_n dX3_walkOn_109 rfl) <|
  fG mo_getf (sim_getfG hG dX3_walkOn_110 hc_3 (by decide) rfl in_X3 (fun _ _ _ h => h) (Or.inl q1287)) <|
  fG mo_ild (sim_ild dX3_walkOn_113) <|
  fG mo_lda (sim_bald dX3_walkOn_115) <|
  fG mo_ifeq (sim_ifeq dX3_walkOn_116 rfl) <|
  fF
theorem fX3_walkOn_119 {X : tp_X} {az : Array Value} (hG : tp_Good X az) (hSt : tp_Stat X) : tp_Fit X yX3_walkOn cX3_walkOn none 5 tp_nm tp_by tp_ml tp_rtt 119 [o_int (.iconst 1) 1, o_goto 4 124] :=
  fG mo_int (sim_iconst dX3_walkOn_119 (by decide)) <|
  fG mo_goto (sim_goto dX3_walkOn_120 rfl) <|
  trivial
theorem fX3_walkOn_123 {X : tp_X} {az : Array Value} (hG : tp_Good X az) (hSt : tp_Stat X) : tp_Fit X yX3_walkOn cX3_walkOn none 5 tp_nm tp_by tp_ml tp_rtt 123 [o_int (.iconst 0) 0, o_fall 124] :=
  fG mo_int (sim_iconst dX3_walkOn_123 (by decide)) <|
  fF
theorem fX3_walkOn_124 {X : tp_X} {az : Array Value} (hG : tp_Good X az) (hSt : tp_Stat X) : tp_Fit X yX3_walkOn cX3_walkOn none 5 tp_nm tp_by tp_ml tp_rtt 124 [o_sta .bastore [1, 2], o_inc 3 1, o_goto (-51) 77] :=
  fG mo_sta (sim_bast dX3_walkOn_124) <|
  fG mo_inc (sim_inc dX3_walkOn_125 (by decide)) <|
  fG mo_goto (sim_goto dX3_walkOn_128 rfl) <|
  trivial
theorem fX3_walkOn_131 {X : tp_X} {az : Array Value} (hG : tp_Good X az) (hSt : tp_Stat X) : tp_Fit X yX3_walkOn cX3_walkOn none 5 tp_nm tp_by tp_ml tp_rtt 131 [o_inc 2 1, o_goto (-104) 30] :=
  fG mo_inc (sim_inc dX3_walkOn_131 (by decide)) <|
  fG mo_goto (sim_goto dX3_walkOn_134 rfl) <|
  trivial
theorem fX3_walkOn_137 {X : tp_X} {az : Array Value} (hG : tp_Good X az) (hSt : tp_Stat X) : tp_Fit X yX3_walkOn cX3_walkOn none 5 tp_nm tp_by tp_ml tp_rtt 137 [o_vret] :=
  fE ie_vret (sim_vret dX3_walkOn_137 rfl)
theorem F_X3_walkOn {X : tp_X} {az : Array Value} (hG : tp_Good X az) (hSt : tp_Stat X) (pc : Nat) : tp_Fit X yX3_walkOn cX3_walkOn none 5 tp_nm tp_by tp_ml tp_rtt pc (mX3_walkOn pc) :=
  fI (fX3_walkOn_0 hG hSt) <| fI (fX3_walkOn_2 hG hSt) <| fI (fX3_walkOn_28 hG hSt) <| fI (fX3_walkOn_30 hG hSt) <| fI (fX3_walkOn_75 hG hSt) <| fI (fX3_walkOn_77 hG hSt) <| fI (fX3_walkOn_119 hG hSt) <| fI (fX3_walkOn_123 hG hSt) <| fI (fX3_walkOn_124 hG hSt) <| fI (fX3_walkOn_131 hG hSt) <| fI (fX3_walkOn_137 hG hSt) <| trivial
theorem fX3_walks_0 {X : tp_X} {az : Array Value} (hG : tp_Good X az) (hSt : tp_Stat X) : tp_Fit X yX3_walks cX3_walks (some .boolean) 5 tp_nm tp_by tp_ml tp_rtt 0 [o_ald (.aload_n 0) 0, o_ild (.iload_n 1) 1, o_ild (.iload_n 2) 2, o_ild (.iload_n 3) 3, o_ild (.iload 4) 4, o_cv (.invokevirtual 288) 3 kX3_nameCell 4 0, o_ald (.aload_n 0) 0, o_int (.iconst 3) 3, o_ald (.aload_n 0) 0, o_getf (.getfield 43) 3 28, o_ild (.iload_n 1) 1, o_ild (.iload_n 2) 2, o_iadd, o_lda .iaload [0, 20], o_int (.bipush 10) 10, o_icmplt 7 28, o_int (.iconst 1) 1, o_goto 4 29] :=
  fG mo_ald (sim_ald_n dX3_walks_0 rfl) <|
  fG mo_ild (sim_ild_n dX3_walks_1 rfl) <|
  fG mo_ild (sim_ild_n dX3_walks_2 rfl) <|
  fG mo_ild (sim_ild_n dX3_walks_3 rfl) <|
  fG mo_ild (sim_ild dX3_walks_4) <|
  fC (ic_cv (Or.inl rfl)) (sim_cv hG dX3_walks_6 (hG.2.1 3 _ hc_3).2.1 M_X3_nameCell (by rw [nm_X3_nameCell]; rfl) (by rw [nm_X3_nameCell]; exact q1610) (by rw [nm_X3_nameCell]; exact q1612) (by rw [nm_X3_nameCell]; exact qs80)) <|
  fG mo_ald (sim_ald_n dX3_walks_9 rfl) <|
  fG mo_int (sim_iconst dX3_walks_10 (by decide)) <|
  fG mo_ald (sim_ald_n dX3_walks_11 rfl) <|
  fG mo_getf (sim_getfG hG dX3_walks_12 hc_3 (by decide) rfl in_X3 (fun _ _ _ h => h) (Or.inl q1278)) <|
  fG mo_ild (sim_ild_n dX3_walks_15 rfl) <|
  fG mo_ild (sim_ild_n dX3_walks_16 rfl) <|
  fG mo_iadd (sim_iadd dX3_walks_17) <|
  fG mo_lda (sim_iald dX3_walks_18) <|
  fG mo_int (sim_bipush dX3_walks_19 (by decide)) <|
  fG mo_icmplt (sim_icmplt dX3_walks_21 rfl) <|
  fG mo_int (sim_iconst dX3_walks_24 (by decide)) <|
  fG mo_goto (sim_goto dX3_walks_25 rfl) <|
  trivial
theorem fX3_walks_28 {X : tp_X} {az : Array Value} (hG : tp_Good X az) (hSt : tp_Stat X) : tp_Fit X yX3_walks cX3_walks (some .boolean) 5 tp_nm tp_by tp_ml tp_rtt 28 [o_int (.iconst 0) 0, o_fall 29] :=
  fG mo_int (sim_iconst dX3_walks_28 (by decide)) <|
  fF
theorem fX3_walks_29 {X : tp_X} {az : Array Value} (hG : tp_Good X az) (hSt : tp_Stat X) : tp_Fit X yX3_walks cX3_walks (some .boolean) 5 tp_nm tp_by tp_ml tp_rtt 29 [o_cv (.invokevirtual 292) 3 kX3_isAny 2 0, o_iret 1] :=
  fC (ic_cv (Or.inl rfl)) (sim_cv hG dX3_walks_29 (hG.2.1 3 _ hc_3).2.1 M_X3_isAny (by rw [nm_X3_isAny]; rfl) (by rw [nm_X3_isAny]; exact q1618) (by rw [nm_X3_isAny]; exact q1620) (by rw [nm_X3_isAny]; exact qs82)) <|
  fE ie_iret (sim_iret dX3_walks_32 rfl (Or.inr (Or.inl ⟨rfl, rfl⟩)))
theorem F_X3_walks {X : tp_X} {az : Array Value} (hG : tp_Good X az) (hSt : tp_Stat X) (pc : Nat) : tp_Fit X yX3_walks cX3_walks (some .boolean) 5 tp_nm tp_by tp_ml tp_rtt pc (mX3_walks pc) :=
  fI (fX3_walks_0 hG hSt) <| fI (fX3_walks_28 hG hSt) <| fI (fX3_walks_29 hG hSt) <| trivial
theorem fX3_leave_0 {X : tp_X} {az : Array Value} (hG : tp_Good X az) (hSt : tp_Stat X) : tp_Fit X yX3_leave cX3_leave (some .int) 2 tp_nm tp_by tp_ml tp_rtt 0 [o_ald (.aload_n 0) 0, o_int (.iconst 0) 0, o_cv (.invokevirtual 313) 3 kX3_isFree 1 0, o_ifne 5 10, o_int (.iconst (-1)) (-1), o_iret 0] :=
  fG mo_ald (sim_ald_n dX3_leave_0 rfl) <|
  fG mo_int (sim_iconst dX3_leave_1 (by decide)) <|
  fC (ic_cv (Or.inl rfl)) (sim_cv hG dX3_leave_2 (hG.2.1 3 _ hc_3).2.1 M_X3_isFree (by rw [nm_X3_isFree]; rfl) (by rw [nm_X3_isFree]; exact q1582) (by rw [nm_X3_isFree]; exact q1584) (by rw [nm_X3_isFree]; exact qs73)) <|
  fG mo_ifne (sim_ifne dX3_leave_5 rfl) <|
  fG mo_int (sim_iconst dX3_leave_8 (by decide)) <|
  fE ie_iret (sim_iret dX3_leave_9 rfl (Or.inl ⟨rfl, rfl⟩))
theorem fX3_leave_10 {X : tp_X} {az : Array Value} (hG : tp_Good X az) (hSt : tp_Stat X) : tp_Fit X yX3_leave cX3_leave (some .int) 2 tp_nm tp_by tp_ml tp_rtt 10 [o_ald (.aload_n 0) 0, o_cv (.invokevirtual 379) 3 kX3_follow 0 0, o_ald (.aload_n 0) 0, o_getf (.getfield 376) 3 32, o_ist (.istore_n 1) 1, o_fall 19] :=
  fG mo_ald (sim_ald_n dX3_leave_10 rfl) <|
  fC (ic_cv (Or.inl rfl)) (sim_cv hG dX3_leave_11 (hG.2.1 3 _ hc_3).2.1 M_X3_follow (by rw [nm_X3_follow]; rfl) (by rw [nm_X3_follow]; exact q1752) (by rw [nm_X3_follow]; exact q1754) (by rw [nm_X3_follow]; exact qs103)) <|
  fG mo_ald (sim_ald_n dX3_leave_14 rfl) <|
  fG mo_getf (sim_getfG hG dX3_leave_15 hc_3 (by decide) rfl in_X3 (fun _ _ _ h => h) (Or.inl q1282)) <|
  fG mo_ist (sim_ist_n dX3_leave_18 rfl) <|
  fF
theorem fX3_leave_19 {X : tp_X} {az : Array Value} (hG : tp_Good X az) (hSt : tp_Stat X) : tp_Fit X yX3_leave cX3_leave (some .int) 2 tp_nm tp_by tp_ml tp_rtt 19 [o_ild (.iload_n 1) 1, o_iflt 25 45, o_ald (.aload_n 0) 0, o_ald (.aload_n 0) 0, o_getf (.getfield 56) 3 33, o_ild (.iload_n 1) 1, o_lda .iaload [0, 20], o_ild (.iload_n 1) 1, o_cv (.invokevirtual 391) 3 kX3_walkFrom 2 0, o_iflt 5 39, o_ild (.iload_n 1) 1, o_iret 0] :=
  fG mo_ild (sim_ild_n dX3_leave_19 rfl) <|
  fG mo_iflt (sim_iflt dX3_leave_20 rfl) <|
  fG mo_ald (sim_ald_n dX3_leave_23 rfl) <|
  fG mo_ald (sim_ald_n dX3_leave_24 rfl) <|
  fG mo_getf (sim_getfG hG dX3_leave_25 hc_3 (by decide) rfl in_X3 (fun _ _ _ h => h) (Or.inl q1283)) <|
  fG mo_ild (sim_ild_n dX3_leave_28 rfl) <|
  fG mo_lda (sim_iald dX3_leave_29) <|
  fG mo_ild (sim_ild_n dX3_leave_30 rfl) <|
  fC (ic_cv (Or.inl rfl)) (sim_cv hG dX3_leave_31 (hG.2.1 3 _ hc_3).2.1 M_X3_walkFrom (by rw [nm_X3_walkFrom]; rfl) (by rw [nm_X3_walkFrom]; exact q1772) (by rw [nm_X3_walkFrom]; exact q1774) (by rw [nm_X3_walkFrom]; exact qs105)) <|
  fG mo_iflt (sim_iflt dX3_leave_34 rfl) <|
  fG mo_ild (sim_ild_n dX3_leave_37 rfl) <|
  fE ie_iret (sim_iret dX3_leave_38 rfl (Or.inl ⟨rfl, rfl⟩))
theorem fX3_leave_39 {X : tp_X} {az : Array Value} (hG : tp_Good X az) (hSt : tp_Stat X) : tp_Fit X yX3_leave cX3_leave (some .int) 2 tp_nm tp_by tp_ml tp_rtt 39 [o_inc 1 (-1), o_goto (-23) 19] :=
  fG mo_inc (sim_inc dX3_leave_39 (by decide)) <|
  fG mo_goto (sim_goto dX3_leave_42 rfl) <|
  trivial
theorem fX3_leave_45 {X : tp_X} {az : Array Value} (hG : tp_Good X az) (hSt : tp_Stat X) : tp_Fit X yX3_leave cX3_leave (some .int) 2 tp_nm tp_by tp_ml tp_rtt 45 [o_int (.iconst (-1)) (-1), o_iret 0] :=
  fG mo_int (sim_iconst dX3_leave_45 (by decide)) <|
  fE ie_iret (sim_iret dX3_leave_46 rfl (Or.inl ⟨rfl, rfl⟩))
theorem F_X3_leave {X : tp_X} {az : Array Value} (hG : tp_Good X az) (hSt : tp_Stat X) (pc : Nat) : tp_Fit X yX3_leave cX3_leave (some .int) 2 tp_nm tp_by tp_ml tp_rtt pc (mX3_leave pc) :=
  fI (fX3_leave_0 hG hSt) <| fI (fX3_leave_10 hG hSt) <| fI (fX3_leave_19 hG hSt) <| fI (fX3_leave_39 hG hSt) <| fI (fX3_leave_45 hG hSt) <| trivial
theorem fX3_winter_0 {X : tp_X} {az : Array Value} (hG : tp_Good X az) (hSt : tp_Stat X) : tp_Fit X yX3_winter cX3_winter (some .int) 4 tp_nm tp_by tp_ml tp_rtt 0 [o_ild (.iload_n 1) 1, o_int (.iconst 0) 0, o_int (.iconst 1) 1, o_cs (.invokestatic 90) kX3_isIn 3 0, o_ifne 21 27, o_ild (.iload_n 1) 1, o_int (.bipush 10) 10, o_int (.bipush 9) 9, o_ald (.aload_n 0) 0, o_getf (.getfield 83) 3 2, o_iadd, o_cs (.invokestatic 90) kX3_isIn 3 0, o_ifne 5 27, o_int (.iconst (-1)) (-1), o_iret 0] :=
  fG mo_ild (sim_ild_n dX3_winter_0 rfl) <|
  fG mo_int (sim_iconst dX3_winter_1 (by decide)) <|
  fG mo_int (sim_iconst dX3_winter_2 (by decide)) <|
  fC (ic_cs (Or.inl rfl)) (sim_cs hG dX3_winter_3 M_X3_isIn (by rw [nm_X3_isIn]; rfl) (by rw [nm_X3_isIn]; exact q1400) (by rw [nm_X3_isIn]; exact q1401)) <|
  fG mo_ifne (sim_ifne dX3_winter_6 rfl) <|
  fG mo_ild (sim_ild_n dX3_winter_9 rfl) <|
  fG mo_int (sim_bipush dX3_winter_10 (by decide)) <|
  fG mo_int (sim_bipush dX3_winter_12 (by decide)) <|
  fG mo_ald (sim_ald_n dX3_winter_14 rfl) <|
  fG mo_getf (sim_getfG hG dX3_winter_15 hc_3 (by decide) rfl in_X3 (fun _ _ _ h => h) (Or.inl q1254)) <|
  fG mo_iadd (sim_iadd dX3_winter_18) <|
  fC (ic_cs (Or.inl rfl)) (sim_cs hG dX3_winter_19 M_X3_isIn (by rw [nm_X3_isIn]; rfl) (by rw [nm_X3_isIn]; exact q1400) (by rw [nm_X3_isIn]; exact q1401)) <|
  fG mo_ifne (sim_ifne dX3_winter_22 rfl) <|
  fG mo_int (sim_iconst dX3_winter_25 (by decide)) <|
  fE ie_iret (sim_iret dX3_winter_26 rfl (Or.inl ⟨rfl, rfl⟩))
theorem fX3_winter_27 {X : tp_X} {az : Array Value} (hG : tp_Good X az) (hSt : tp_Stat X) : tp_Fit X yX3_winter cX3_winter (some .int) 4 tp_nm tp_by tp_ml tp_rtt 27 [o_ald (.aload_n 0) 0, o_cv (.invokevirtual 358) 3 kX3_look 0 0, o_ild (.iload_n 1) 1, o_int (.iconst 1) 1, o_icmple 12 45, o_ald (.aload_n 0) 0, o_ild (.iload_n 1) 1, o_int (.bipush 10) 10, o_isub, o_cv (.invokevirtual 394) 3 kX3_winterAt 1 0, o_iret 0] :=
  fG mo_ald (sim_ald_n dX3_winter_27 rfl) <|
  fC (ic_cv (Or.inl rfl)) (sim_cv hG dX3_winter_28 (hG.2.1 3 _ hc_3).2.1 M_X3_look (by rw [nm_X3_look]; rfl) (by rw [nm_X3_look]; exact q1701) (by rw [nm_X3_look]; exact q1703) (by rw [nm_X3_look]; exact qs94)) <|
  fG mo_ild (sim_ild_n dX3_winter_31 rfl) <|
  fG mo_int (sim_iconst dX3_winter_32 (by decide)) <|
  fG mo_icmple (sim_icmple dX3_winter_33 rfl) <|
  fG mo_ald (sim_ald_n dX3_winter_36 rfl) <|
  fG mo_ild (sim_ild_n dX3_winter_37 rfl) <|
  fG mo_int (sim_bipush dX3_winter_38 (by decide)) <|
  fG mo_isub (sim_isub dX3_winter_40) <|
  fC (ic_cv (Or.inl rfl)) (sim_cv hG dX3_winter_41 (hG.2.1 3 _ hc_3).2.1 M_X3_winterAt (by rw [nm_X3_winterAt]; rfl) (by rw [nm_X3_winterAt]; exact q1792) (by rw [nm_X3_winterAt]; exact q1794) (by rw [nm_X3_winterAt]; exact qs108)) <|
  fE ie_iret (sim_iret dX3_winter_44 rfl (Or.inl ⟨rfl, rfl⟩))
theorem fX3_winter_45 {X : tp_X} {az : Array Value} (hG : tp_Good X az) (hSt : tp_Stat X) : tp_Fit X yX3_winter cX3_winter (some .int) 4 tp_nm tp_by tp_ml tp_rtt 45 [o_int (.iconst 0) 0, o_ist (.istore_n 2) 2, o_int (.iconst 1) 1, o_ist (.istore_n 3) 3, o_fall 49] :=
  fG mo_int (sim_iconst dX3_winter_45 (by decide)) <|
  fG mo_ist (sim_ist_n dX3_winter_46 rfl) <|
  fG mo_int (sim_iconst dX3_winter_47 (by decide)) <|
  fG mo_ist (sim_ist_n dX3_winter_48 rfl) <|
  fF
theorem fX3_winter_49 {X : tp_X} {az : Array Value} (hG : tp_Good X az) (hSt : tp_Stat X) : tp_Fit X yX3_winter cX3_winter (some .int) 4 tp_nm tp_by tp_ml tp_rtt 49 [o_ild (.iload_n 3) 3, o_ald (.aload_n 0) 0, o_getf (.getfield 83) 3 2, o_icmpge 24 78, o_ald (.aload_n 0) 0, o_ild (.iload_n 3) 3, o_cv (.invokevirtual 394) 3 kX3_winterAt 1 0, o_ald (.aload_n 0) 0, o_ild (.iload_n 2) 2, o_cv (.invokevirtual 394) 3 kX3_winterAt 1 0, o_icmpge 5 72, o_ild (.iload_n 3) 3, o_ist (.istore_n 2) 2, o_fall 72] :=
  fG mo_ild (sim_ild_n dX3_winter_49 rfl) <|
  fG mo_ald (sim_ald_n dX3_winter_50 rfl) <|
  fG mo_getf (sim_getfG hG dX3_winter_51 hc_3 (by decide) rfl in_X3 (fun _ _ _ h => h) (Or.inl q1254)) <|
  fG mo_icmpge (sim_icmpge dX3_winter_54 rfl) <|
  fG mo_ald (sim_ald_n dX3_winter_57 rfl) <|
  fG mo_ild (sim_ild_n dX3_winter_58 rfl) <|
  fC (ic_cv (Or.inl rfl)) (sim_cv hG dX3_winter_59 (hG.2.1 3 _ hc_3).2.1 M_X3_winterAt (by rw [nm_X3_winterAt]; rfl) (by rw [nm_X3_winterAt]; exact q1792) (by rw [nm_X3_winterAt]; exact q1794) (by rw [nm_X3_winterAt]; exact qs108)) <|
  fG mo_ald (sim_ald_n dX3_winter_62 rfl) <|
  fG mo_ild (sim_ild_n dX3_winter_63 rfl) <|
  fC (ic_cv (Or.inl rfl)) (sim_cv hG dX3_winter_64 (hG.2.1 3 _ hc_3).2.1 M_X3_winterAt (by rw [nm_X3_winterAt]; rfl) (by rw [nm_X3_winterAt]; exact q1792) (by rw [nm_X3_winterAt]; exact q1794) (by rw [nm_X3_winterAt]; exact qs108)) <|
  fG mo_icmpge (sim_icmpge dX3_winter_67 rfl) <|
  fG mo_ild (sim_ild_n dX3_winter_70 rfl) <|
  fG mo_ist (sim_ist_n dX3_winter_71 rfl) <|
  fF
theorem fX3_winter_72 {X : tp_X} {az : Array Value} (hG : tp_Good X az) (hSt : tp_Stat X) : tp_Fit X yX3_winter cX3_winter (some .int) 4 tp_nm tp_by tp_ml tp_rtt 72 [o_inc 3 1, o_goto (-26) 49] :=
  fG mo_inc (sim_inc dX3_winter_72 (by decide)) <|
  fG mo_goto (sim_goto dX3_winter_75 rfl) <|
  trivial
theorem fX3_winter_78 {X : tp_X} {az : Array Value} (hG : tp_Good X az) (hSt : tp_Stat X) : tp_Fit X yX3_winter cX3_winter (some .int) 4 tp_nm tp_by tp_ml tp_rtt 78 [o_ild (.iload_n 1) 1, o_ifne 7 86, o_ild (.iload_n 2) 2, o_goto 8 91] :=
  fG mo_ild (sim_ild_n dX3_winter_78 rfl) <|
  fG mo_ifne (sim_ifne dX3_winter_79 rfl) <|
  fG mo_ild (sim_ild_n dX3_winter_82 rfl) <|
  fG mo_goto (sim_goto dX3_winter_83 rfl) <|
  trivial
theorem fX3_winter_86 {X : tp_X} {az : Array Value} (hG : tp_Good X az) (hSt : tp_Stat X) : tp_Fit X yX3_winter cX3_winter (some .int) 4 tp_nm tp_by tp_ml tp_rtt 86 [o_ald (.aload_n 0) 0, o_ild (.iload_n 2) 2, o_cv (.invokevirtual 394) 3 kX3_winterAt 1 0, o_fall 91] :=
  fG mo_ald (sim_ald_n dX3_winter_86 rfl) <|
  fG mo_ild (sim_ild_n dX3_winter_87 rfl) <|
  fC (ic_cv (Or.inl rfl)) (sim_cv hG dX3_winter_88 (hG.2.1 3 _ hc_3).2.1 M_X3_winterAt (by rw [nm_X3_winterAt]; rfl) (by rw [nm_X3_winterAt]; exact q1792) (by rw [nm_X3_winterAt]; exact q1794) (by rw [nm_X3_winterAt]; exact qs108)) <|
  fF
theorem fX3_winter_91 {X : tp_X} {az : Array Value} (hG : tp_Good X az) (hSt : tp_Stat X) : tp_Fit X yX3_winter cX3_winter (some .int) 4 tp_nm tp_by tp_ml tp_rtt 91 [o_iret 0] :=
  fE ie_iret (sim_iret dX3_winter_91 rfl (Or.inl ⟨rfl, rfl⟩))
theorem F_X3_winter {X : tp_X} {az : Array Value} (hG : tp_Good X az) (hSt : tp_Stat X) (pc : Nat) : tp_Fit X yX3_winter cX3_winter (some .int) 4 tp_nm tp_by tp_ml tp_rtt pc (mX3_winter pc) :=
  fI (fX3_winter_0 hG hSt) <| fI (fX3_winter_27 hG hSt) <| fI (fX3_winter_45 hG hSt) <| fI (fX3_winter_49 hG hSt) <| fI (fX3_winter_72 hG hSt) <| fI (fX3_winter_78 hG hSt) <| fI (fX3_winter_86 hG hSt) <| fI (fX3_winter_91 hG hSt) <| trivial
theorem fX3_winterAt_0 {X : tp_X} {az : Array Value} (hG : tp_Good X az) (hSt : tp_Stat X) : tp_Fit X yX3_winterAt cX3_winterAt (some .int) 5 tp_nm tp_by tp_ml tp_rtt 0 [o_ild (.iload_n 1) 1, o_ist (.istore_n 2) 2, o_int (.iconst 0) 0, o_ist (.istore_n 3) 3, o_int (.iconst 0) 0, o_ist (.istore 4) 4, o_fall 7] :=
  fG mo_ild (sim_ild_n dX3_winterAt_0 rfl) <|
  fG mo_ist (sim_ist_n dX3_winterAt_1 rfl) <|
  fG mo_int (sim_iconst dX3_winterAt_2 (by decide)) <|
  fG mo_ist (sim_ist_n dX3_winterAt_3 rfl) <|
  fG mo_int (sim_iconst dX3_winterAt_4 (by decide)) <|
  fG mo_ist (sim_ist dX3_winterAt_5) <|
  fF
theorem fX3_winterAt_7 {X : tp_X} {az : Array Value} (hG : tp_Good X az) (hSt : tp_Stat X) : tp_Fit X yX3_winterAt cX3_winterAt (some .int) 5 tp_nm tp_by tp_ml tp_rtt 7 [o_ild (.iload 4) 4, o_ald (.aload_n 0) 0, o_getf (.getfield 7) 3 3, o_int (.iconst 4) 4, o_lda .iaload [0, 20], o_icmpge 49 64, o_ald (.aload_n 0) 0, o_ild (.iload_n 2) 2, o_ald (.aload_n 0) 0, o_getf (.getfield 7) 3 3, o_int (.sipush 180) 180, o_ild (.iload 4) 4, o_iadd, o_lda .iaload [0, 20], o_cv (.invokevirtual 325) 3 kX3_drifted 2 0, o_ist (.istore_n 2) 2, o_ild (.iload_n 3) 3, o_ald (.aload_n 0) 0, o_getf (.getfield 49) 3 30, o_int (.bipush 36) 36, o_ild (.iload 4) 4, o_imul, o_ild (.iload_n 2) 2, o_iadd, o_lda .baload [1, 2, 22], o_ifeq 7 55, o_int (.iconst 1) 1, o_goto 4 56] :=
  fG mo_ild (sim_ild dX3_winterAt_7) <|
  fG mo_ald (sim_ald_n dX3_winterAt_9 rfl) <|
  fG mo_getf (sim_getfG hG dX3_winterAt_10 hc_3 (by decide) rfl in_X3 (fun _ _ _ h => h) (Or.inl q1255)) <|
  fG mo_int (sim_iconst dX3_winterAt_13 (by decide)) <|
  fG mo_lda (sim_iald dX3_winterAt_14) <|
  fG mo_icmpge (sim_icmpge dX3_winterAt_15 rfl) <|
  fG mo_ald (sim_ald_n dX3_winterAt_18 rfl) <|
  fG mo_ild (sim_ild_n dX3_winterAt_19 rfl) <|
  fG mo_ald (sim_ald_n dX3_winterAt_20 rfl) <|
  fG mo_getf (sim_getfG hG dX3_winterAt_21 hc_3 (by decide) rfl in_X3 (fun _ _ _ h => h) (Or.inl q1255)) <|
  fG mo_int (sim_sipush dX3_winterAt_24 (by decide)) <|
  fG mo_ild (sim_ild dX3_winterAt_27) <|
  fG mo_iadd (sim_iadd dX3_winterAt_29) <|
  fG mo_lda (sim_iald dX3_winterAt_30) <|
  fC (ic_cv (Or.inl rfl)) (sim_cv hG dX3_winterAt_31 (hG.2.1 3 _ hc_3).2.1 M_X3_drifted (by rw [nm_X3_drifted]; rfl) (by rw [nm_X3_drifted]; exact q1673) (by rw [nm_X3_drifted]; exact q1675) (by rw [nm_X3_drifted]; exact qs91)) <|
  fG mo_ist (sim_ist_n dX3_winterAt_34 rfl) <|
  fG mo_ild (sim_ild_n dX3_winterAt_35 rfl) <|
  fG mo_ald (sim_ald_n dX3_winterAt_36 rfl) <|
  fG mo_getf (sim_getfG hG dX3_winterAt_37 hc_3 (by decide) rfl in_X3 (fun _ _ _ h => h) (Or.inl q1280)) <|
  fG mo_int (sim_bipush dX3_winterAt_40 (by decide)) <|
  fG mo_ild (sim_ild dX3_winterAt_42) <|
  fG mo_imul (sim_imul dX3_winterAt_44) <|
  fG mo_ild (sim_ild_n dX3_winterAt_45 rfl) <|
  fG mo_iadd (sim_iadd dX3_winterAt_46) <|
  fG mo_lda (sim_bald dX3_winterAt_47) <|
  fG mo_ifeq (sim_ifeq dX3_winterAt_48 rfl) <|
  fG mo_int (sim_iconst dX3_winterAt_51 (by decide)) <|
  fG mo_goto (sim_goto dX3_winterAt_52 rfl) <|
  trivial
theorem fX3_winterAt_55 {X : tp_X} {az : Array Value} (hG : tp_Good X az) (hSt : tp_Stat X) : tp_Fit X yX3_winterAt cX3_winterAt (some .int) 5 tp_nm tp_by tp_ml tp_rtt 55 [o_int (.iconst 0) 0, o_fall 56] :=
  fG mo_int (sim_iconst dX3_winterAt_55 (by decide)) <|
  fF
theorem fX3_winterAt_56 {X : tp_X} {az : Array Value} (hG : tp_Good X az) (hSt : tp_Stat X) : tp_Fit X yX3_winterAt cX3_winterAt (some .int) 5 tp_nm tp_by tp_ml tp_rtt 56 [o_iadd, o_ist (.istore_n 3) 3, o_inc 4 1, o_goto (-54) 7] :=
  fG mo_iadd (sim_iadd dX3_winterAt_56) <|
  fG mo_ist (sim_ist_n dX3_winterAt_57 rfl) <|
  fG mo_inc (sim_inc dX3_winterAt_58 (by decide)) <|
  fG mo_goto (sim_goto dX3_winterAt_61 rfl) <|
  trivial
theorem fX3_winterAt_64 {X : tp_X} {az : Array Value} (hG : tp_Good X az) (hSt : tp_Stat X) : tp_Fit X yX3_winterAt cX3_winterAt (some .int) 5 tp_nm tp_by tp_ml tp_rtt 64 [o_ild (.iload_n 3) 3, o_iret 0] :=
  fG mo_ild (sim_ild_n dX3_winterAt_64 rfl) <|
  fE ie_iret (sim_iret dX3_winterAt_65 rfl (Or.inl ⟨rfl, rfl⟩))
theorem F_X3_winterAt {X : tp_X} {az : Array Value} (hG : tp_Good X az) (hSt : tp_Stat X) (pc : Nat) : tp_Fit X yX3_winterAt cX3_winterAt (some .int) 5 tp_nm tp_by tp_ml tp_rtt pc (mX3_winterAt pc) :=
  fI (fX3_winterAt_0 hG hSt) <| fI (fX3_winterAt_7 hG hSt) <| fI (fX3_winterAt_55 hG hSt) <| fI (fX3_winterAt_56 hG hSt) <| fI (fX3_winterAt_64 hG hSt) <| trivial
theorem fX3_surest_0 {X : tp_X} {az : Array Value} (hG : tp_Good X az) (hSt : tp_Stat X) : tp_Fit X yX3_surest cX3_surest (some .int) 5 tp_nm tp_by tp_ml tp_rtt 0 [o_ild (.iload_n 1) 1, o_int (.iconst 1) 1, o_int (.iconst 3) 3, o_cs (.invokestatic 90) kX3_isIn 3 0, o_ifeq 12 18, o_ild (.iload_n 2) 2, o_int (.iconst 0) 0, o_int (.iconst 2) 2, o_cs (.invokestatic 90) kX3_isIn 3 0, o_ifne 5 20, o_fall 18] :=
  fG mo_ild (sim_ild_n dX3_surest_0 rfl) <|
  fG mo_int (sim_iconst dX3_surest_1 (by decide)) <|
  fG mo_int (sim_iconst dX3_surest_2 (by decide)) <|
  fC (ic_cs (Or.inl rfl)) (sim_cs hG dX3_surest_3 M_X3_isIn (by rw [nm_X3_isIn]; rfl) (by rw [nm_X3_isIn]; exact q1400) (by rw [nm_X3_isIn]; exact q1401)) <|
  fG mo_ifeq (sim_ifeq dX3_surest_6 rfl) <|
  fG mo_ild (sim_ild_n dX3_surest_9 rfl) <|
  fG mo_int (sim_iconst dX3_surest_10 (by decide)) <|
  fG mo_int (sim_iconst dX3_surest_11 (by decide)) <|
  fC (ic_cs (Or.inl rfl)) (sim_cs hG dX3_surest_12 M_X3_isIn (by rw [nm_X3_isIn]; rfl) (by rw [nm_X3_isIn]; exact q1400) (by rw [nm_X3_isIn]; exact q1401)) <|
  fG mo_ifne (sim_ifne dX3_surest_15 rfl) <|
  fF
theorem fX3_surest_18 {X : tp_X} {az : Array Value} (hG : tp_Good X az) (hSt : tp_Stat X) : tp_Fit X yX3_surest cX3_surest (some .int) 5 tp_nm tp_by tp_ml tp_rtt 18 [o_int (.iconst (-1)) (-1), o_iret 0] :=
  fG mo_int (sim_iconst dX3_surest_18 (by decide)) <|
  fE ie_iret (sim_iret dX3_surest_19 rfl (Or.inl ⟨rfl, rfl⟩))
theorem fX3_surest_20 {X : tp_X} {az : Array Value} (hG : tp_Good X az) (hSt : tp_Stat X) : tp_Fit X yX3_surest cX3_surest (some .int) 5 tp_nm tp_by tp_ml tp_rtt 20 [o_ald (.aload_n 0) 0, o_int (.iconst 0) 0, o_cv (.invokevirtual 313) 3 kX3_isFree 1 0, o_ifne 59 84, o_ild (.iload_n 2) 2, o_int (.iconst 1) 1, o_icmpne 7 37, o_int (.iconst (-1)) (-1), o_goto 49 83] :=
  fG mo_ald (sim_ald_n dX3_surest_20 rfl) <|
  fG mo_int (sim_iconst dX3_surest_21 (by decide)) <|
  fC (ic_cv (Or.inl rfl)) (sim_cv hG dX3_surest_22 (hG.2.1 3 _ hc_3).2.1 M_X3_isFree (by rw [nm_X3_isFree]; rfl) (by rw [nm_X3_isFree]; exact q1582) (by rw [nm_X3_isFree]; exact q1584) (by rw [nm_X3_isFree]; exact qs73)) <|
  fG mo_ifne (sim_ifne dX3_surest_25 rfl) <|
  fG mo_ild (sim_ild_n dX3_surest_28 rfl) <|
  fG mo_int (sim_iconst dX3_surest_29 (by decide)) <|
  fG mo_icmpne (sim_icmpne dX3_surest_30 rfl) <|
  fG mo_int (sim_iconst dX3_surest_33 (by decide)) <|
  fG mo_goto (sim_goto dX3_surest_34 rfl) <|
  trivial
theorem fX3_surest_37 {X : tp_X} {az : Array Value} (hG : tp_Good X az) (hSt : tp_Stat X) : tp_Fit X yX3_surest cX3_surest (some .int) 5 tp_nm tp_by tp_ml tp_rtt 37 [o_ild (.iload_n 2) 2, o_int (.iconst 2) 2, o_icmpeq 17 56, o_ald (.aload_n 0) 0, o_getf (.getfield 7) 3 3, o_int (.iconst 0) 0, o_int (.iconst 3) 3, o_cs (.invokestatic 108) kX3_ofShip 2 0, o_lda .iaload [0, 20], o_int (.iconst 2) 2, o_icmpne 7 60, o_fall 56] :=
  fG mo_ild (sim_ild_n dX3_surest_37 rfl) <|
  fG mo_int (sim_iconst dX3_surest_38 (by decide)) <|
  fG mo_icmpeq (sim_icmpeq dX3_surest_39 rfl) <|
  fG mo_ald (sim_ald_n dX3_surest_42 rfl) <|
  fG mo_getf (sim_getfG hG dX3_surest_43 hc_3 (by decide) rfl in_X3 (fun _ _ _ h => h) (Or.inl q1255)) <|
  fG mo_int (sim_iconst dX3_surest_46 (by decide)) <|
  fG mo_int (sim_iconst dX3_surest_47 (by decide)) <|
  fC (ic_cs (Or.inl rfl)) (sim_cs hG dX3_surest_48 M_X3_ofShip (by rw [nm_X3_ofShip]; rfl) (by rw [nm_X3_ofShip]; exact q1433) (by rw [nm_X3_ofShip]; exact q1434)) <|
  fG mo_lda (sim_iald dX3_surest_51) <|
  fG mo_int (sim_iconst dX3_surest_52 (by decide)) <|
  fG mo_icmpne (sim_icmpne dX3_surest_53 rfl) <|
  fF
theorem fX3_surest_56 {X : tp_X} {az : Array Value} (hG : tp_Good X az) (hSt : tp_Stat X) : tp_Fit X yX3_surest cX3_surest (some .int) 5 tp_nm tp_by tp_ml tp_rtt 56 [o_int (.iconst 0) 0, o_goto 26 83] :=
  fG mo_int (sim_iconst dX3_surest_56 (by decide)) <|
  fG mo_goto (sim_goto dX3_surest_57 rfl) <|
  trivial
theorem fX3_surest_60 {X : tp_X} {az : Array Value} (hG : tp_Good X az) (hSt : tp_Stat X) : tp_Fit X yX3_surest cX3_surest (some .int) 5 tp_nm tp_by tp_ml tp_rtt 60 [o_ild (.iload_n 1) 1, o_int (.iconst 1) 1, o_icmpne 8 70, o_int (.bipush 10) 10, o_goto 16 83] :=
  fG mo_ild (sim_ild_n dX3_surest_60 rfl) <|
  fG mo_int (sim_iconst dX3_surest_61 (by decide)) <|
  fG mo_icmpne (sim_icmpne dX3_surest_62 rfl) <|
  fG mo_int (sim_bipush dX3_surest_65 (by decide)) <|
  fG mo_goto (sim_goto dX3_surest_67 rfl) <|
  trivial
theorem fX3_surest_70 {X : tp_X} {az : Array Value} (hG : tp_Good X az) (hSt : tp_Stat X) : tp_Fit X yX3_surest cX3_surest (some .int) 5 tp_nm tp_by tp_ml tp_rtt 70 [o_ild (.iload_n 1) 1, o_int (.iconst 2) 2, o_icmpne 8 80, o_int (.bipush 100) 100, o_goto 6 83] :=
  fG mo_ild (sim_ild_n dX3_surest_70 rfl) <|
  fG mo_int (sim_iconst dX3_surest_71 (by decide)) <|
  fG mo_icmpne (sim_icmpne dX3_surest_72 rfl) <|
  fG mo_int (sim_bipush dX3_surest_75 (by decide)) <|
  fG mo_goto (sim_goto dX3_surest_77 rfl) <|
  trivial
theorem fX3_surest_80 {X : tp_X} {az : Array Value} (hG : tp_Good X az) (hSt : tp_Stat X) : tp_Fit X yX3_surest cX3_surest (some .int) 5 tp_nm tp_by tp_ml tp_rtt 80 [o_int (.sipush 1000) 1000, o_fall 83] :=
  fG mo_int (sim_sipush dX3_surest_80 (by decide)) <|
  fF
theorem fX3_surest_83 {X : tp_X} {az : Array Value} (hG : tp_Good X az) (hSt : tp_Stat X) : tp_Fit X yX3_surest cX3_surest (some .int) 5 tp_nm tp_by tp_ml tp_rtt 83 [o_iret 0] :=
  fE ie_iret (sim_iret dX3_surest_83 rfl (Or.inl ⟨rfl, rfl⟩))
theorem fX3_surest_84 {X : tp_X} {az : Array Value} (hG : tp_Good X az) (hSt : tp_Stat X) : tp_Fit X yX3_surest cX3_surest (some .int) 5 tp_nm tp_by tp_ml tp_rtt 84 [o_ald (.aload_n 0) 0, o_ild (.iload_n 1) 1, o_cv (.invokevirtual 420) 3 kX3_hope 1 0, o_ist (.istore_n 3) 3, o_ald (.aload_n 0) 0, o_getf (.getfield 411) 3 39, o_ist (.istore 4) 4, o_ild (.iload_n 2) 2, o_ifne 7 104, o_ild (.iload_n 3) 3, o_goto 20 121] :=
  fG mo_ald (sim_ald_n dX3_surest_84 rfl) <|
  fG mo_ild (sim_ild_n dX3_surest_85 rfl) <|
  fC (ic_cv (Or.inl rfl)) (sim_cv hG dX3_surest_86 (hG.2.1 3 _ hc_3).2.1 M_X3_hope (by rw [nm_X3_hope]; rfl) (by rw [nm_X3_hope]; exact q1800) (by rw [nm_X3_hope]; exact q1802) (by rw [nm_X3_hope]; exact qs109)) <|
  fG mo_ist (sim_ist_n dX3_surest_89 rfl) <|
  fG mo_ald (sim_ald_n dX3_surest_90 rfl) <|
  fG mo_getf (sim_getfG hG dX3_surest_91 hc_3 (by decide) rfl in_X3 (fun _ _ _ h => h) (Or.inl q1289)) <|
  fG mo_ist (sim_ist dX3_surest_94) <|
  fG mo_ild (sim_ild_n dX3_surest_96 rfl) <|
  fG mo_ifne (sim_ifne dX3_surest_97 rfl) <|
  fG mo_ild (sim_ild_n dX3_surest_100 rfl) <|
  fG mo_goto (sim_goto dX3_surest_101 rfl) <|
  trivial
theorem fX3_surest_104 {X : tp_X} {az : Array Value} (hG : tp_Good X az) (hSt : tp_Stat X) : tp_Fit X yX3_surest cX3_surest (some .int) 5 tp_nm tp_by tp_ml tp_rtt 104 [o_ild (.iload_n 2) 2, o_int (.iconst 1) 1, o_icmpne 8 114, o_ild (.iload 4) 4, o_goto 10 121] :=
  fG mo_ild (sim_ild_n dX3_surest_104 rfl) <|
  fG mo_int (sim_iconst dX3_surest_105 (by decide)) <|
  fG mo_icmpne (sim_icmpne dX3_surest_106 rfl) <|
  fG mo_ild (sim_ild dX3_surest_109) <|
  fG mo_goto (sim_goto dX3_surest_111 rfl) <|
  trivial
theorem fX3_surest_114 {X : tp_X} {az : Array Value} (hG : tp_Good X az) (hSt : tp_Stat X) : tp_Fit X yX3_surest cX3_surest (some .int) 5 tp_nm tp_by tp_ml tp_rtt 114 [o_ald (.aload_n 0) 0, o_ild (.iload_n 1) 1, o_cv (.invokevirtual 423) 3 kX3_known 1 0, o_ild (.iload_n 3) 3, o_isub, o_fall 121] :=
  fG mo_ald (sim_ald_n dX3_surest_114 rfl) <|
  fG mo_ild (sim_ild_n dX3_surest_115 rfl) <|
  fC (ic_cv (Or.inl rfl)) (sim_cv hG dX3_surest_116 (hG.2.1 3 _ hc_3).2.1 M_X3_known (by rw [nm_X3_known]; rfl) (by rw [nm_X3_known]; exact q1828) (by rw [nm_X3_known]; exact q1830) (by rw [nm_X3_known]; exact qs116)) <|
  fG mo_ild (sim_ild_n dX3_surest_119 rfl) <|
  fG mo_isub (sim_isub dX3_surest_120) <|
  fF
theorem fX3_surest_121 {X : tp_X} {az : Array Value} (hG : tp_Good X az) (hSt : tp_Stat X) : tp_Fit X yX3_surest cX3_surest (some .int) 5 tp_nm tp_by tp_ml tp_rtt 121 [o_iret 0] :=
  fE ie_iret (sim_iret dX3_surest_121 rfl (Or.inl ⟨rfl, rfl⟩))
theorem F_X3_surest {X : tp_X} {az : Array Value} (hG : tp_Good X az) (hSt : tp_Stat X) (pc : Nat) : tp_Fit X yX3_surest cX3_surest (some .int) 5 tp_nm tp_by tp_ml tp_rtt pc (mX3_surest pc) :=
  fI (fX3_surest_0 hG hSt) <| fI (fX3_surest_18 hG hSt) <| fI (fX3_surest_20 hG hSt) <| fI (fX3_surest_37 hG hSt) <| fI (fX3_surest_56 hG hSt) <| fI (fX3_surest_60 hG hSt) <| fI (fX3_surest_70 hG hSt) <| fI (fX3_surest_80 hG hSt) <| fI (fX3_surest_83 hG hSt) <| fI (fX3_surest_84 hG hSt) <| fI (fX3_surest_104 hG hSt) <| fI (fX3_surest_114 hG hSt) <| fI (fX3_surest_121 hG hSt) <| trivial
theorem fX3_hope_0 {X : tp_X} {az : Array Value} (hG : tp_Good X az) (hSt : tp_Stat X) : tp_Fit X yX3_hope cX3_hope (some .int) 6 tp_nm tp_by tp_ml tp_rtt 0 [o_int (.iconst (-1)) (-1), o_ist (.istore_n 2) 2, o_ald (.aload_n 0) 0, o_int (.iconst (-1)) (-1), o_putf (.putfield 411) 3 39 0, o_ald (.aload_n 0) 0, o_int (.sipush 504) 504, o_cv (.invokevirtual 316) 3 kX3_layNow 1 0, o_int (.iconst 0) 0, o_ist (.istore_n 3) 3, o_fall 16] :=
  fG mo_int (sim_iconst dX3_hope_0 (by decide)) <|
  fG mo_ist (sim_ist_n dX3_hope_1 rfl) <|
  fG mo_ald (sim_ald_n dX3_hope_2 rfl) <|
  fG mo_int (sim_iconst dX3_hope_3 (by decide)) <|
  fG mo_putf (sim_putf hG dX3_hope_4 hc_3 (by decide) rfl (by decide) in_X3 tyX3_ok nmX3 (Or.inl ⟨rfl, rfl⟩) (fun _ _ _ h => h) rfl q1289) <|
  fG mo_ald (sim_ald_n dX3_hope_7 rfl) <|
  fG mo_int (sim_sipush dX3_hope_8 (by decide)) <|
  fC (ic_cv (Or.inl rfl)) (sim_cv hG dX3_hope_11 (hG.2.1 3 _ hc_3).2.1 M_X3_layNow (by rw [nm_X3_layNow]; rfl) (by rw [nm_X3_layNow]; exact q1586) (by rw [nm_X3_layNow]; exact q1588) (by rw [nm_X3_layNow]; exact qs74)) <|
  fG mo_int (sim_iconst dX3_hope_14 (by decide)) <|
  fG mo_ist (sim_ist_n dX3_hope_15 rfl) <|
  fF
theorem fX3_hope_16 {X : tp_X} {az : Array Value} (hG : tp_Good X az) (hSt : tp_Stat X) : tp_Fit X yX3_hope cX3_hope (some .int) 6 tp_nm tp_by tp_ml tp_rtt 16 [o_ild (.iload_n 3) 3, o_int (.bipush 8) 8, o_icmpge 98 117, o_ald (.aload_n 0) 0, o_int (.iconst 0) 0, o_int (.sipush 504) 504, o_ild (.iload_n 3) 3, o_cv (.invokevirtual 319) 3 kX3_costOf 3 0, o_ist (.istore 4) 4, o_ild (.iload 4) 4, o_ifge 6 41, o_goto 73 111] :=
  fG mo_ild (sim_ild_n dX3_hope_16 rfl) <|
  fG mo_int (sim_bipush dX3_hope_17 (by decide)) <|
  fG mo_icmpge (sim_icmpge dX3_hope_19 rfl) <|
  fG mo_ald (sim_ald_n dX3_hope_22 rfl) <|
  fG mo_int (sim_iconst dX3_hope_23 (by decide)) <|
  fG mo_int (sim_sipush dX3_hope_24 (by decide)) <|
  fG mo_ild (sim_ild_n dX3_hope_27 rfl) <|
  fC (ic_cv (Or.inl rfl)) (sim_cv hG dX3_hope_28 (hG.2.1 3 _ hc_3).2.1 M_X3_costOf (by rw [nm_X3_costOf]; rfl) (by rw [nm_X3_costOf]; exact q1590) (by rw [nm_X3_costOf]; exact q1592) (by rw [nm_X3_costOf]; exact qs75)) <|
  fG mo_ist (sim_ist dX3_hope_31) <|
  fG mo_ild (sim_ild dX3_hope_33) <|
  fG mo_ifge (sim_ifge dX3_hope_35 rfl) <|
  fG mo_goto (sim_goto dX3_hope_38 rfl) <|
  trivial
theorem fX3_hope_41 {X : tp_X} {az : Array Value} (hG : tp_Good X az) (hSt : tp_Stat X) : tp_Fit X yX3_hope cX3_hope (some .int) 6 tp_nm tp_by tp_ml tp_rtt 41 [o_ald (.aload_n 0) 0, o_ald (.aload_n 0) 0, o_cv (.invokevirtual 367) 3 kX3_shipCell 0 0, o_ild (.iload_n 3) 3, o_cv (.invokevirtual 397) 3 kX3_isWayOut 2 0, o_ifeq 29 79, o_ild (.iload_n 1) 1, o_int (.iconst 1) 1, o_icmpne 8 63, o_int (.bipush 10) 10, o_goto 32 92] :=
  fG mo_ald (sim_ald_n dX3_hope_41 rfl) <|
  fG mo_ald (sim_ald_n dX3_hope_42 rfl) <|
  fC (ic_cv (Or.inl rfl)) (sim_cv hG dX3_hope_43 (hG.2.1 3 _ hc_3).2.1 M_X3_shipCell (by rw [nm_X3_shipCell]; rfl) (by rw [nm_X3_shipCell]; exact q1728) (by rw [nm_X3_shipCell]; exact q1730) (by rw [nm_X3_shipCell]; exact qs100)) <|
  fG mo_ild (sim_ild_n dX3_hope_46 rfl) <|
  fC (ic_cv (Or.inl rfl)) (sim_cv hG dX3_hope_47 (hG.2.1 3 _ hc_3).2.1 M_X3_isWayOut (by rw [nm_X3_isWayOut]; rfl) (by rw [nm_X3_isWayOut]; exact q1804) (by rw [nm_X3_isWayOut]; exact q1806) (by rw [nm_X3_isWayOut]; exact qs110)) <|
  fG mo_ifeq (sim_ifeq dX3_hope_50 rfl) <|
  fG mo_ild (sim_ild_n dX3_hope_53 rfl) <|
  fG mo_int (sim_iconst dX3_hope_54 (by decide)) <|
  fG mo_icmpne (sim_icmpne dX3_hope_55 rfl) <|
  fG mo_int (sim_bipush dX3_hope_58 (by decide)) <|
  fG mo_goto (sim_goto dX3_hope_60 rfl) <|
  trivial
theorem fX3_hope_63 {X : tp_X} {az : Array Value} (hG : tp_Good X az) (hSt : tp_Stat X) : tp_Fit X yX3_hope cX3_hope (some .int) 6 tp_nm tp_by tp_ml tp_rtt 63 [o_ild (.iload_n 1) 1, o_int (.iconst 2) 2, o_icmpne 8 73, o_int (.bipush 100) 100, o_goto 22 92] :=
  fG mo_ild (sim_ild_n dX3_hope_63 rfl) <|
  fG mo_int (sim_iconst dX3_hope_64 (by decide)) <|
  fG mo_icmpne (sim_icmpne dX3_hope_65 rfl) <|
  fG mo_int (sim_bipush dX3_hope_68 (by decide)) <|
  fG mo_goto (sim_goto dX3_hope_70 rfl) <|
  trivial
theorem fX3_hope_73 {X : tp_X} {az : Array Value} (hG : tp_Good X az) (hSt : tp_Stat X) : tp_Fit X yX3_hope cX3_hope (some .int) 6 tp_nm tp_by tp_ml tp_rtt 73 [o_int (.sipush 1000) 1000, o_goto 16 92] :=
  fG mo_int (sim_sipush dX3_hope_73 (by decide)) <|
  fG mo_goto (sim_goto dX3_hope_76 rfl) <|
  trivial
theorem fX3_hope_79 {X : tp_X} {az : Array Value} (hG : tp_Good X az) (hSt : tp_Stat X) : tp_Fit X yX3_hope cX3_hope (some .int) 6 tp_nm tp_by tp_ml tp_rtt 79 [o_ald (.aload_n 0) 0, o_ild (.iload_n 1) 1, o_ild (.iload_n 3) 3, o_ald (.aload_n 0) 0, o_cv (.invokevirtual 370) 3 kX3_shipCoal 0 0, o_ild (.iload 4) 4, o_isub, o_cv (.invokevirtual 414) 3 kX3_hopeBehind 3 0, o_fall 92] :=
  fG mo_ald (sim_ald_n dX3_hope_79 rfl) <|
  fG mo_ild (sim_ild_n dX3_hope_80 rfl) <|
  fG mo_ild (sim_ild_n dX3_hope_81 rfl) <|
  fG mo_ald (sim_ald_n dX3_hope_82 rfl) <|
  fC (ic_cv (Or.inl rfl)) (sim_cv hG dX3_hope_83 (hG.2.1 3 _ hc_3).2.1 M_X3_shipCoal (by rw [nm_X3_shipCoal]; rfl) (by rw [nm_X3_shipCoal]; exact q1732) (by rw [nm_X3_shipCoal]; exact q1734) (by rw [nm_X3_shipCoal]; exact qs101)) <|
  fG mo_ild (sim_ild dX3_hope_86) <|
  fG mo_isub (sim_isub dX3_hope_88) <|
  fC (ic_cv (Or.inl rfl)) (sim_cv hG dX3_hope_89 (hG.2.1 3 _ hc_3).2.1 M_X3_hopeBehind (by rw [nm_X3_hopeBehind]; rfl) (by rw [nm_X3_hopeBehind]; exact q1808) (by rw [nm_X3_hopeBehind]; exact q1810) (by rw [nm_X3_hopeBehind]; exact qs111)) <|
  fF
theorem fX3_hope_92 {X : tp_X} {az : Array Value} (hG : tp_Good X az) (hSt : tp_Stat X) : tp_Fit X yX3_hope cX3_hope (some .int) 6 tp_nm tp_by tp_ml tp_rtt 92 [o_ist (.istore 5) 5, o_ild (.iload 5) 5, o_ild (.iload_n 2) 2, o_icmpgt 6 103, o_goto 11 111] :=
  fG mo_ist (sim_ist dX3_hope_92) <|
  fG mo_ild (sim_ild dX3_hope_94) <|
  fG mo_ild (sim_ild_n dX3_hope_96 rfl) <|
  fG mo_icmpgt (sim_icmpgt dX3_hope_97 rfl) <|
  fG mo_goto (sim_goto dX3_hope_100 rfl) <|
  trivial
theorem fX3_hope_103 {X : tp_X} {az : Array Value} (hG : tp_Good X az) (hSt : tp_Stat X) : tp_Fit X yX3_hope cX3_hope (some .int) 6 tp_nm tp_by tp_ml tp_rtt 103 [o_ild (.iload 5) 5, o_ist (.istore_n 2) 2, o_ald (.aload_n 0) 0, o_ild (.iload_n 3) 3, o_putf (.putfield 411) 3 39 0, o_fall 111] :=
  fG mo_ild (sim_ild dX3_hope_103) <|
  fG mo_ist (sim_ist_n dX3_hope_105 rfl) <|
  fG mo_ald (sim_ald_n dX3_hope_106 rfl) <|
  fG mo_ild (sim_ild_n dX3_hope_107 rfl) <|
  fG mo_putf (sim_putf hG dX3_hope_108 hc_3 (by decide) rfl (by decide) in_X3 tyX3_ok nmX3 (Or.inl ⟨rfl, rfl⟩) (fun _ _ _ h => h) rfl q1289) <|
  fF
theorem fX3_hope_111 {X : tp_X} {az : Array Value} (hG : tp_Good X az) (hSt : tp_Stat X) : tp_Fit X yX3_hope cX3_hope (some .int) 6 tp_nm tp_by tp_ml tp_rtt 111 [o_inc 3 1, o_goto (-98) 16] :=
  fG mo_inc (sim_inc dX3_hope_111 (by decide)) <|
  fG mo_goto (sim_goto dX3_hope_114 rfl) <|
  trivial
theorem fX3_hope_117 {X : tp_X} {az : Array Value} (hG : tp_Good X az) (hSt : tp_Stat X) : tp_Fit X yX3_hope cX3_hope (some .int) 6 tp_nm tp_by tp_ml tp_rtt 117 [o_ild (.iload_n 2) 2, o_ifge 7 125, o_int (.iconst 0) 0, o_goto 4 126] :=
  fG mo_ild (sim_ild_n dX3_hope_117 rfl) <|
  fG mo_ifge (sim_ifge dX3_hope_118 rfl) <|
  fG mo_int (sim_iconst dX3_hope_121 (by decide)) <|
  fG mo_goto (sim_goto dX3_hope_122 rfl) <|
  trivial
theorem fX3_hope_125 {X : tp_X} {az : Array Value} (hG : tp_Good X az) (hSt : tp_Stat X) : tp_Fit X yX3_hope cX3_hope (some .int) 6 tp_nm tp_by tp_ml tp_rtt 125 [o_ild (.iload_n 2) 2, o_fall 126] :=
  fG mo_ild (sim_ild_n dX3_hope_125 rfl) <|
  fF
theorem fX3_hope_126 {X : tp_X} {az : Array Value} (hG : tp_Good X az) (hSt : tp_Stat X) : tp_Fit X yX3_hope cX3_hope (some .int) 6 tp_nm tp_by tp_ml tp_rtt 126 [o_iret 0] :=
  fE ie_iret (sim_iret dX3_hope_126 rfl (Or.inl ⟨rfl, rfl⟩))
theorem F_X3_hope {X : tp_X} {az : Array Value} (hG : tp_Good X az) (hSt : tp_Stat X) (pc : Nat) : tp_Fit X yX3_hope cX3_hope (some .int) 6 tp_nm tp_by tp_ml tp_rtt pc (mX3_hope pc) :=
  fI (fX3_hope_0 hG hSt) <| fI (fX3_hope_16 hG hSt) <| fI (fX3_hope_41 hG hSt) <| fI (fX3_hope_63 hG hSt) <| fI (fX3_hope_73 hG hSt) <| fI (fX3_hope_79 hG hSt) <| fI (fX3_hope_92 hG hSt) <| fI (fX3_hope_103 hG hSt) <| fI (fX3_hope_111 hG hSt) <| fI (fX3_hope_117 hG hSt) <| fI (fX3_hope_125 hG hSt) <| fI (fX3_hope_126 hG hSt) <| trivial
theorem fX3_isWayOut_0 {X : tp_X} {az : Array Value} (hG : tp_Good X az) (hSt : tp_Stat X) : tp_Fit X yX3_isWayOut cX3_isWayOut (some .boolean) 3 tp_nm tp_by tp_ml tp_rtt 0 [o_ild (.iload_n 2) 2, o_int (.iconst 4) 4, o_icmpge 25 27, o_ald (.aload_n 0) 0, o_getf (.getfield 7) 3 3, o_int (.bipush 70) 70, o_ald (.aload_n 0) 0, o_ild (.iload_n 1) 1, o_ild (.iload_n 2) 2, o_cv (.invokevirtual 271) 3 kX3_pushed 2 0, o_iadd, o_lda .iaload [0, 20], o_int (.iconst 1) 1, o_icmpne 7 27, o_int (.iconst 1) 1, o_goto 4 28] :=
  fG mo_ild (sim_ild_n dX3_isWayOut_0 rfl) <|
  fG mo_int (sim_iconst dX3_isWayOut_1 (by decide)) <|
  fG mo_icmpge (sim_icmpge dX3_isWayOut_2 rfl) <|
  fG mo_ald (sim_ald_n dX3_isWayOut_5 rfl) <|
  fG mo_getf (sim_getfG hG dX3_isWayOut_6 hc_3 (by decide) rfl in_X3 (fun _ _ _ h => h) (Or.inl q1255)) <|
  fG mo_int (sim_bipush dX3_isWayOut_9 (by decide)) <|
  fG mo_ald (sim_ald_n dX3_isWayOut_11 rfl) <|
  fG mo_ild (sim_ild_n dX3_isWayOut_12 rfl) <|
  fG mo_ild (sim_ild_n dX3_isWayOut_13 rfl) <|
  fC (ic_cv (Or.inl rfl)) (sim_cv hG dX3_isWayOut_14 (hG.2.1 3 _ hc_3).2.1 M_X3_pushed (by rw [nm_X3_pushed]; rfl) (by rw [nm_X3_pushed]; exact q1598) (by rw [nm_X3_pushed]; exact q1600) (by rw [nm_X3_pushed]; exact qs77)) <|
  fG mo_iadd (sim_iadd dX3_isWayOut_17) <|
  fG mo_lda (sim_iald dX3_isWayOut_18) <|
  fG mo_int (sim_iconst dX3_isWayOut_19 (by decide)) <|
  fG mo_icmpne (sim_icmpne dX3_isWayOut_20 rfl) <|
  fG mo_int (sim_iconst dX3_isWayOut_23 (by decide)) <|
  fG mo_goto (sim_goto dX3_isWayOut_24 rfl) <|
  trivial
theorem fX3_isWayOut_27 {X : tp_X} {az : Array Value} (hG : tp_Good X az) (hSt : tp_Stat X) : tp_Fit X yX3_isWayOut cX3_isWayOut (some .boolean) 3 tp_nm tp_by tp_ml tp_rtt 27 [o_int (.iconst 0) 0, o_fall 28] :=
  fG mo_int (sim_iconst dX3_isWayOut_27 (by decide)) <|
  fF
theorem fX3_isWayOut_28 {X : tp_X} {az : Array Value} (hG : tp_Good X az) (hSt : tp_Stat X) : tp_Fit X yX3_isWayOut cX3_isWayOut (some .boolean) 3 tp_nm tp_by tp_ml tp_rtt 28 [o_iret 1] :=
  fE ie_iret (sim_iret dX3_isWayOut_28 rfl (Or.inr (Or.inl ⟨rfl, rfl⟩)))
theorem F_X3_isWayOut {X : tp_X} {az : Array Value} (hG : tp_Good X az) (hSt : tp_Stat X) (pc : Nat) : tp_Fit X yX3_isWayOut cX3_isWayOut (some .boolean) 3 tp_nm tp_by tp_ml tp_rtt pc (mX3_isWayOut pc) :=
  fI (fX3_isWayOut_0 hG hSt) <| fI (fX3_isWayOut_27 hG hSt) <| fI (fX3_isWayOut_28 hG hSt) <| trivial
theorem fX3_hopeBehind_0 {X : tp_X} {az : Array Value} (hG : tp_Good X az) (hSt : tp_Stat X) : tp_Fit X yX3_hopeBehind cX3_hopeBehind (some .int) 9 tp_nm tp_by tp_ml tp_rtt 0 [o_int (.iconst 0) 0, o_ist (.istore 4) 4, o_ild (.iload_n 2) 2, o_ald (.aload_n 0) 0, o_cv (.invokevirtual 373) 3 kX3_shipBanked 0 0, o_cs (.invokestatic 322) kX3_firesBehind 2 0, o_ist (.istore 5) 5, o_int (.iconst 0) 0, o_ist (.istore 6) 6, o_fall 16] :=
  fG mo_int (sim_iconst dX3_hopeBehind_0 (by decide)) <|
  fG mo_ist (sim_ist dX3_hopeBehind_1) <|
  fG mo_ild (sim_ild_n dX3_hopeBehind_3 rfl) <|
  fG mo_ald (sim_ald_n dX3_hopeBehind_4 rfl) <|
  fC (ic_cv (Or.inl rfl)) (sim_cv hG dX3_hopeBehind_5 (hG.2.1 3 _ hc_3).2.1 M_X3_shipBanked (by rw [nm_X3_shipBanked]; rfl) (by rw [nm_X3_shipBanked]; exact q1736) (by rw [nm_X3_shipBanked]; exact q1738) (by rw [nm_X3_shipBanked]; exact qs102)) <|
  fC (ic_cs (Or.inl rfl)) (sim_cs hG dX3_hopeBehind_8 M_X3_firesBehind (by rw [nm_X3_firesBehind]; rfl) (by rw [nm_X3_firesBehind]; exact q1658) (by rw [nm_X3_firesBehind]; exact q1659)) <|
  fG mo_ist (sim_ist dX3_hopeBehind_11) <|
  fG mo_int (sim_iconst dX3_hopeBehind_13 (by decide)) <|
  fG mo_ist (sim_ist dX3_hopeBehind_14) <|
  fF
theorem fX3_hopeBehind_16 {X : tp_X} {az : Array Value} (hG : tp_Good X az) (hSt : tp_Stat X) : tp_Fit X yX3_hopeBehind cX3_hopeBehind (some .int) 9 tp_nm tp_by tp_ml tp_rtt 16 [o_ild (.iload 6) 6, o_int (.iconst 4) 4, o_icmpge 163 182, o_ild (.iload_n 1) 1, o_int (.iconst 1) 1, o_icmple 158 182, o_ald (.aload_n 0) 0, o_ald (.aload_n 0) 0, o_getf (.getfield 7) 3 3, o_int (.iconst 1) 1, o_lda .iaload [0, 20], o_ild (.iload 6) 6, o_cv (.invokevirtual 401) 3 kX3_chanceOf 2 0, o_ifne 6 45, o_goto 134 176] :=
  fG mo_ild (sim_ild dX3_hopeBehind_16) <|
  fG mo_int (sim_iconst dX3_hopeBehind_18 (by decide)) <|
  fG mo_icmpge (sim_icmpge dX3_hopeBehind_19 rfl) <|
  fG mo_ild (sim_ild_n dX3_hopeBehind_22 rfl) <|
  fG mo_int (sim_iconst dX3_hopeBehind_23 (by decide)) <|
  fG mo_icmple (sim_icmple dX3_hopeBehind_24 rfl) <|
  fG mo_ald (sim_ald_n dX3_hopeBehind_27 rfl) <|
  fG mo_ald (sim_ald_n dX3_hopeBehind_28 rfl) <|
  fG mo_getf (sim_getfG hG dX3_hopeBehind_29 hc_3 (by decide) rfl in_X3 (fun _ _ _ h => h) (Or.inl q1255)) <|
  fG mo_int (sim_iconst dX3_hopeBehind_32 (by decide)) <|
  fG mo_lda (sim_iald dX3_hopeBehind_33) <|
  fG mo_ild (sim_ild dX3_hopeBehind_34) <|
  fC (ic_cv (Or.inl rfl)) (sim_cv hG dX3_hopeBehind_36 (hG.2.1 3 _ hc_3).2.1 M_X3_chanceOf (by rw [nm_X3_chanceOf]; rfl) (by rw [nm_X3_chanceOf]; exact q1812) (by rw [nm_X3_chanceOf]; exact q1814) (by rw [nm_X3_chanceOf]; exact qs112)) <|
  fG mo_ifne (sim_ifne dX3_hopeBehind_39 rfl) <|
  fG mo_goto (sim_goto dX3_hopeBehind_42 rfl) <|
  trivial
theorem fX3_hopeBehind_45 {X : tp_X} {az : Array Value} (hG : tp_Good X az) (hSt : tp_Stat X) : tp_Fit X yX3_hopeBehind cX3_hopeBehind (some .int) 9 tp_nm tp_by tp_ml tp_rtt 45 [o_ald (.aload_n 0) 0, o_int (.sipush 504) 504, o_int (.sipush 540) 540, o_ild (.iload 6) 6, o_ald (.aload_n 0) 0, o_getf (.getfield 7) 3 3, o_int (.iconst 0) 0, o_lda .iaload [0, 20], o_cv (.invokevirtual 335) 3 kX3_go 4 0, o_ald (.aload_n 0) 0, o_ald (.aload_n 0) 0, o_cv (.invokevirtual 367) 3 kX3_shipCell 0 0, o_ild (.iload_n 2) 2, o_ild (.iload 6) 6, o_cv (.invokevirtual 404) 3 kX3_behind 3 0, o_ist (.istore 7) 7, o_ald (.aload_n 0) 0, o_int (.sipush 540) 540, o_ild (.iload 7) 7, o_ild (.iload 6) 6, o_ald (.aload_n 0) 0, o_getf (.getfield 7) 3 3, o_int (.iconst 0) 0, o_lda .iaload [0, 20], o_cv (.invokevirtual 328) 3 kX3_nips 4 0, o_ifeq 6 99, o_goto 80 176] :=
  fG mo_ald (sim_ald_n dX3_hopeBehind_45 rfl) <|
  fG mo_int (sim_sipush dX3_hopeBehind_46 (by decide)) <|
  fG mo_int (sim_sipush dX3_hopeBehind_49 (by decide)) <|
  fG mo_ild (sim_ild dX3_hopeBehind_52) <|
  fG mo_ald (sim_ald_n dX3_hopeBehind_54 rfl) <|
  fG mo_getf (sim_getfG hG dX3_hopeBehind_55 hc_3 (by decide) rfl in_X3 (fun _ _ _ h => h) (Or.inl q1255)) <|
  fG mo_int (sim_iconst dX3_hopeBehind_58 (by decide)) <|
  fG mo_lda (sim_iald dX3_hopeBehind_59) <|
  fC (ic_cv (Or.inl rfl)) (sim_cv hG dX3_hopeBehind_60 (hG.2.1 3 _ hc_3).2.1 M_X3_go (by rw [nm_X3_go]; rfl) (by rw [nm_X3_go]; exact q1661) (by rw [nm_X3_go]; exact q1663) (by rw [nm_X3_go]; exact qs88)) <|
  fG mo_ald (sim_ald_n dX3_hopeBehind_63 rfl) <|
  fG mo_ald (sim_ald_n dX3_hopeBehind_64 rfl) <|
  fC (ic_cv (Or.inl rfl)) (sim_cv hG dX3_hopeBehind_65 (hG.2.1 3 _ hc_3).2.1 M_X3_shipCell (by rw [nm_X3_shipCell]; rfl) (by rw [nm_X3_shipCell]; exact q1728) (by rw [nm_X3_shipCell]; exact q1730) (by rw [nm_X3_shipCell]; exact qs100)) <|
  fG mo_ild (sim_ild_n dX3_hopeBehind_68 rfl) <|
  fG mo_ild (sim_ild dX3_hopeBehind_69) <|
  fC (ic_cv (Or.inl rfl)) (sim_cv hG dX3_hopeBehind_71 (hG.2.1 3 _ hc_3).2.1 M_X3_behind (by rw [nm_X3_behind]; rfl) (by rw [nm_X3_behind]; exact q1816) (by rw [nm_X3_behind]; exact q1818) (by rw [nm_X3_behind]; exact qs113)) <|
  fG mo_ist (sim_ist dX3_hopeBehind_74) <|
  fG mo_ald (sim_ald_n dX3_hopeBehind_76 rfl) <|
  fG mo_int (sim_sipush dX3_hopeBehind_77 (by decide)) <|
  fG mo_ild (sim_ild dX3_hopeBehind_80) <|
  fG mo_ild (sim_ild dX3_hopeBehind_82) <|
  fG mo_ald (sim_ald_n dX3_hopeBehind_84 rfl) <|
  fG mo_getf (sim_getfG hG dX3_hopeBehind_85 hc_3 (by decide) rfl in_X3 (fun _ _ _ h => h) (Or.inl q1255)) <|
  fG mo_int (sim_iconst dX3_hopeBehind_88 (by decide)) <|
  fG mo_lda (sim_iald dX3_hopeBehind_89) <|
  fC (ic_cv (Or.inl rfl)) (sim_cv hG dX3_hopeBehind_90 (hG.2.1 3 _ hc_3).2.1 M_X3_nips (by rw [nm_X3_nips]; rfl) (by rw [nm_X3_nips]; exact q1677) (by rw [nm_X3_nips]; exact q1679) (by rw [nm_X3_nips]; exact qs92)) <|
  fG mo_ifeq (sim_ifeq dX3_hopeBehind_93 rfl) <|
  fG mo_goto (sim_goto dX3_hopeBehind_96 rfl) <|
  trivial
theorem fX3_hopeBehind_99 {X : tp_X} {az : Array Value} (hG : tp_Good X az) (hSt : tp_Stat X) : tp_Fit X yX3_hopeBehind cX3_hopeBehind (some .int) 9 tp_nm tp_by tp_ml tp_rtt 99 [o_ild (.iload_n 1) 1, o_int (.iconst 2) 2, o_icmpne 28 129, o_ald (.aload_n 0) 0, o_int (.sipush 540) 540, o_ild (.iload 7) 7, o_ild (.iload_n 3) 3, o_ild (.iload 5) 5, o_ild (.iload 6) 6, o_ald (.aload_n 0) 0, o_getf (.getfield 7) 3 3, o_int (.iconst 0) 0, o_lda .iaload [0, 20], o_int (.iconst 1) 1, o_iadd, o_cv (.invokevirtual 407) 3 kX3_hopeOne 6 0, o_goto 28 154] :=
  fG mo_ild (sim_ild_n dX3_hopeBehind_99 rfl) <|
  fG mo_int (sim_iconst dX3_hopeBehind_100 (by decide)) <|
  fG mo_icmpne (sim_icmpne dX3_hopeBehind_101 rfl) <|
  fG mo_ald (sim_ald_n dX3_hopeBehind_104 rfl) <|
  fG mo_int (sim_sipush dX3_hopeBehind_105 (by decide)) <|
  fG mo_ild (sim_ild dX3_hopeBehind_108) <|
  fG mo_ild (sim_ild_n dX3_hopeBehind_110 rfl) <|
  fG mo_ild (sim_ild dX3_hopeBehind_111) <|
  fG mo_ild (sim_ild dX3_hopeBehind_113) <|
  fG mo_ald (sim_ald_n dX3_hopeBehind_115 rfl) <|
  fG mo_getf (sim_getfG hG dX3_hopeBehind_116 hc_3 (by decide) rfl in_X3 (fun _ _ _ h => h) (Or.inl q1255)) <|
  fG mo_int (sim_iconst dX3_hopeBehind_119 (by decide)) <|
  fG mo_lda (sim_iald dX3_hopeBehind_120) <|
  fG mo_int (sim_iconst dX3_hopeBehind_121 (by decide)) <|
  fG mo_iadd (sim_iadd dX3_hopeBehind_122) <|
  fC (ic_cv (Or.inl rfl)) (sim_cv hG dX3_hopeBehind_123 (hG.2.1 3 _ hc_3).2.1 M_X3_hopeOne (by rw [nm_X3_hopeOne]; rfl) (by rw [nm_X3_hopeOne]; exact q1820) (by rw [nm_X3_hopeOne]; exact q1822) (by rw [nm_X3_hopeOne]; exact qs114)) <|
  fG mo_goto (sim_goto dX3_hopeBehind_126 rfl) <|
  trivial
theorem fX3_hopeBehind_129 {X : tp_X} {az : Array Value} (hG : tp_Good X az) (hSt : tp_Stat X) : tp_Fit X yX3_hopeBehind cX3_hopeBehind (some .int) 9 tp_nm tp_by tp_ml tp_rtt 129 [o_ald (.aload_n 0) 0, o_int (.sipush 540) 540, o_int (.sipush 576) 576, o_ild (.iload 7) 7, o_ild (.iload_n 3) 3, o_ild (.iload 5) 5, o_ild (.iload 6) 6, o_ald (.aload_n 0) 0, o_getf (.getfield 7) 3 3, o_int (.iconst 0) 0, o_lda .iaload [0, 20], o_int (.iconst 1) 1, o_iadd, o_cv (.invokevirtual 417) 3 kX3_hopeTwo 7 0, o_fall 154] :=
  fG mo_ald (sim_ald_n dX3_hopeBehind_129 rfl) <|
  fG mo_int (sim_sipush dX3_hopeBehind_130 (by decide)) <|
  fG mo_int (sim_sipush dX3_hopeBehind_133 (by decide)) <|
  fG mo_ild (sim_ild dX3_hopeBehind_136) <|
  fG mo_ild (sim_ild_n dX3_hopeBehind_138 rfl) <|
  fG mo_ild (sim_ild dX3_hopeBehind_139) <|
  fG mo_ild (sim_ild dX3_hopeBehind_141) <|
  fG mo_ald (sim_ald_n dX3_hopeBehind_143 rfl) <|
  fG mo_getf (sim_getfG hG dX3_hopeBehind_144 hc_3 (by decide) rfl in_X3 (fun _ _ _ h => h) (Or.inl q1255)) <|
  fG mo_int (sim_iconst dX3_hopeBehind_147 (by decide)) <|
  fG mo_lda (sim_iald dX3_hopeBehind_148) <|
  fG mo_int (sim_iconst dX3_hopeBehind_149 (by decide)) <|
  fG mo_iadd (sim_iadd dX3_hopeBehind_150) <|
  fC (ic_cv (Or.inl rfl)) (sim_cv hG dX3_hopeBehind_151 (hG.2.1 3 _ hc_3).2.1 M_X3_hopeTwo (by rw [nm_X3_hopeTwo]; rfl) (by rw [nm_X3_hopeTwo]; exact q1824) (by rw [nm_X3_hopeTwo]; exact q1826) (by rw [nm_X3_hopeTwo]; exact qs115)) <|
  fF
theorem fX3_hopeBehind_154 {X : tp_X} {az : Array Value} (hG : tp_Good X az) (hSt : tp_Stat X) : tp_Fit X yX3_hopeBehind cX3_hopeBehind (some .int) 9 tp_nm tp_by tp_ml tp_rtt 154 [o_ist (.istore 8) 8, o_ild (.iload 4) 4, o_ald (.aload_n 0) 0, o_ald (.aload_n 0) 0, o_getf (.getfield 7) 3 3, o_int (.iconst 1) 1, o_lda .iaload [0, 20], o_ild (.iload 6) 6, o_cv (.invokevirtual 401) 3 kX3_chanceOf 2 0, o_ild (.iload 8) 8, o_imul, o_iadd, o_ist (.istore 4) 4, o_fall 176] :=
  fG mo_ist (sim_ist dX3_hopeBehind_154) <|
  fG mo_ild (sim_ild dX3_hopeBehind_156) <|
  fG mo_ald (sim_ald_n dX3_hopeBehind_158 rfl) <|
  fG mo_ald (sim_ald_n dX3_hopeBehind_159 rfl) <|
  fG mo_getf (sim_getfG hG dX3_hopeBehind_160 hc_3 (by decide) rfl in_X3 (fun _ _ _ h => h) (Or.inl q1255)) <|
  fG mo_int (sim_iconst dX3_hopeBehind_163 (by decide)) <|
  fG mo_lda (sim_iald dX3_hopeBehind_164) <|
  fG mo_ild (sim_ild dX3_hopeBehind_165) <|
  fC (ic_cv (Or.inl rfl)) (sim_cv hG dX3_hopeBehind_167 (hG.2.1 3 _ hc_3).2.1 M_X3_chanceOf (by rw [nm_X3_chanceOf]; rfl) (by rw [nm_X3_chanceOf]; exact q1812) (by rw [nm_X3_chanceOf]; exact q1814) (by rw [nm_X3_chanceOf]; exact qs112)) <|
  fG mo_ild (sim_ild dX3_hopeBehind_170) <|
  fG mo_imul (sim_imul dX3_hopeBehind_172) <|
  fG mo_iadd (sim_iadd dX3_hopeBehind_173) <|
  fG mo_ist (sim_ist dX3_hopeBehind_174) <|
  fF
theorem fX3_hopeBehind_176 {X : tp_X} {az : Array Value} (hG : tp_Good X az) (hSt : tp_Stat X) : tp_Fit X yX3_hopeBehind cX3_hopeBehind (some .int) 9 tp_nm tp_by tp_ml tp_rtt 176 [o_inc 6 1, o_goto (-163) 16] :=
  fG mo_inc (sim_inc dX3_hopeBehind_176 (by decide)) <|
  fG mo_goto (sim_goto dX3_hopeBehind_179 rfl) <|
  trivial
theorem fX3_hopeBehind_182 {X : tp_X} {az : Array Value} (hG : tp_Good X az) (hSt : tp_Stat X) : tp_Fit X yX3_hopeBehind cX3_hopeBehind (some .int) 9 tp_nm tp_by tp_ml tp_rtt 182 [o_ild (.iload 4) 4, o_iret 0] :=
  fG mo_ild (sim_ild dX3_hopeBehind_182) <|
  fE ie_iret (sim_iret dX3_hopeBehind_184 rfl (Or.inl ⟨rfl, rfl⟩))
theorem F_X3_hopeBehind {X : tp_X} {az : Array Value} (hG : tp_Good X az) (hSt : tp_Stat X) (pc : Nat) : tp_Fit X yX3_hopeBehind cX3_hopeBehind (some .int) 9 tp_nm tp_by tp_ml tp_rtt pc (mX3_hopeBehind pc) :=
  fI (fX3_hopeBehind_0 hG hSt) <| fI (fX3_hopeBehind_16 hG hSt) <| fI (fX3_hopeBehind_45 hG hSt) <| fI (fX3_hopeBehind_99 hG hSt) <| fI (fX3_hopeBehind_129 hG hSt) <| fI (fX3_hopeBehind_154 hG hSt) <| fI (fX3_hopeBehind_176 hG hSt) <| fI (fX3_hopeBehind_182 hG hSt) <| trivial
