/-! FITS 10 -/
set_option maxRecDepth 100000
theorem fX3_chanceOf_0 {X : tp_X} {az : Array Value} (hG : tp_Good X az) (hSt : tp_Stat X) : tp_Fit X yX3_chanceOf cX3_chanceOf (some .int) 3 tp_nm tp_by tp_ml tp_rtt 0 [o_ald (.aload_n 0) 0, o_getf (.getfield 7) 3 3, o_int (.sipush 160) 160, o_int (.iconst 4) 4, o_ild (.iload_n 1) 1, o_imul, o_iadd, o_ild (.iload_n 2) 2, o_iadd, o_lda .iaload [0, 20], o_iret 0] :=
  fG mo_ald (sim_ald_n dX3_chanceOf_0 rfl) <|
  fG mo_getf (sim_getfG hG dX3_chanceOf_1 hc_3 (by decide) rfl in_X3 (fun _ _ _ h => h) (Or.inl q1255)) <|
  fG mo_int (sim_sipush dX3_chanceOf_4 (by decide)) <|
  fG mo_int (sim_iconst dX3_chanceOf_7 (by decide)) <|
  fG mo_ild (sim_ild_n dX3_chanceOf_8 rfl) <|
  fG mo_imul (sim_imul dX3_chanceOf_9) <|
  fG mo_iadd (sim_iadd dX3_chanceOf_10) <|
  fG mo_ild (sim_ild_n dX3_chanceOf_11 rfl) <|
  fG mo_iadd (sim_iadd dX3_chanceOf_12) <|
  fG mo_lda (sim_iald dX3_chanceOf_13) <|
  fE ie_iret (sim_iret dX3_chanceOf_14 rfl (Or.inl ⟨rfl, rfl⟩))
theorem F_X3_chanceOf {X : tp_X} {az : Array Value} (hG : tp_Good X az) (hSt : tp_Stat X) (pc : Nat) : tp_Fit X yX3_chanceOf cX3_chanceOf (some .int) 3 tp_nm tp_by tp_ml tp_rtt pc (mX3_chanceOf pc) :=
  fI (fX3_chanceOf_0 hG hSt) <| trivial
theorem fX3_behind_0 {X : tp_X} {az : Array Value} (hG : tp_Good X az) (hSt : tp_Stat X) : tp_Fit X yX3_behind cX3_behind (some .int) 4 tp_nm tp_by tp_ml tp_rtt 0 [o_ild (.iload_n 2) 2, o_int (.iconst 4) 4, o_icmpge 12 14, o_ald (.aload_n 0) 0, o_ild (.iload_n 1) 1, o_ild (.iload_n 2) 2, o_cv (.invokevirtual 271) 3 kX3_pushed 2 0, o_goto 18 29] :=
  fG mo_ild (sim_ild_n dX3_behind_0 rfl) <|
  fG mo_int (sim_iconst dX3_behind_1 (by decide)) <|
  fG mo_icmpge (sim_icmpge dX3_behind_2 rfl) <|
  fG mo_ald (sim_ald_n dX3_behind_5 rfl) <|
  fG mo_ild (sim_ild_n dX3_behind_6 rfl) <|
  fG mo_ild (sim_ild_n dX3_behind_7 rfl) <|
  fC (ic_cv (Or.inl rfl)) (sim_cv hG dX3_behind_8 (hG.2.1 3 _ hc_3).2.1 M_X3_pushed (by rw [nm_X3_pushed]; rfl) (by rw [nm_X3_pushed]; exact q1598) (by rw [nm_X3_pushed]; exact q1600) (by rw [nm_X3_pushed]; exact qs77)) <|
  fG mo_goto (sim_goto dX3_behind_11 rfl) <|
  trivial
theorem fX3_behind_14 {X : tp_X} {az : Array Value} (hG : tp_Good X az) (hSt : tp_Stat X) : tp_Fit X yX3_behind cX3_behind (some .int) 4 tp_nm tp_by tp_ml tp_rtt 14 [o_ild (.iload_n 2) 2, o_int (.iconst 5) 5, o_icmpne 7 23, o_ild (.iload_n 1) 1, o_goto 9 29] :=
  fG mo_ild (sim_ild_n dX3_behind_14 rfl) <|
  fG mo_int (sim_iconst dX3_behind_15 (by decide)) <|
  fG mo_icmpne (sim_icmpne dX3_behind_16 rfl) <|
  fG mo_ild (sim_ild_n dX3_behind_19 rfl) <|
  fG mo_goto (sim_goto dX3_behind_20 rfl) <|
  trivial
theorem fX3_behind_23 {X : tp_X} {az : Array Value} (hG : tp_Good X az) (hSt : tp_Stat X) : tp_Fit X yX3_behind cX3_behind (some .int) 4 tp_nm tp_by tp_ml tp_rtt 23 [o_ald (.aload_n 0) 0, o_ild (.iload_n 1) 1, o_ild (.iload_n 3) 3, o_cv (.invokevirtual 325) 3 kX3_drifted 2 0, o_fall 29] :=
  fG mo_ald (sim_ald_n dX3_behind_23 rfl) <|
  fG mo_ild (sim_ild_n dX3_behind_24 rfl) <|
  fG mo_ild (sim_ild_n dX3_behind_25 rfl) <|
  fC (ic_cv (Or.inl rfl)) (sim_cv hG dX3_behind_26 (hG.2.1 3 _ hc_3).2.1 M_X3_drifted (by rw [nm_X3_drifted]; rfl) (by rw [nm_X3_drifted]; exact q1673) (by rw [nm_X3_drifted]; exact q1675) (by rw [nm_X3_drifted]; exact qs91)) <|
  fF
theorem fX3_behind_29 {X : tp_X} {az : Array Value} (hG : tp_Good X az) (hSt : tp_Stat X) : tp_Fit X yX3_behind cX3_behind (some .int) 4 tp_nm tp_by tp_ml tp_rtt 29 [o_iret 0] :=
  fE ie_iret (sim_iret dX3_behind_29 rfl (Or.inl ⟨rfl, rfl⟩))
theorem F_X3_behind {X : tp_X} {az : Array Value} (hG : tp_Good X az) (hSt : tp_Stat X) (pc : Nat) : tp_Fit X yX3_behind cX3_behind (some .int) 4 tp_nm tp_by tp_ml tp_rtt pc (mX3_behind pc) :=
  fI (fX3_behind_0 hG hSt) <| fI (fX3_behind_14 hG hSt) <| fI (fX3_behind_23 hG hSt) <| fI (fX3_behind_29 hG hSt) <| trivial
theorem fX3_hopeOne_0 {X : tp_X} {az : Array Value} (hG : tp_Good X az) (hSt : tp_Stat X) : tp_Fit X yX3_hopeOne cX3_hopeOne (some .int) 8 tp_nm tp_by tp_ml tp_rtt 0 [o_int (.iconst 0) 0, o_ist (.istore 7) 7, o_fall 3] :=
  fG mo_int (sim_iconst dX3_hopeOne_0 (by decide)) <|
  fG mo_ist (sim_ist dX3_hopeOne_1) <|
  fF
theorem fX3_hopeOne_3 {X : tp_X} {az : Array Value} (hG : tp_Good X az) (hSt : tp_Stat X) : tp_Fit X yX3_hopeOne cX3_hopeOne (some .int) 8 tp_nm tp_by tp_ml tp_rtt 3 [o_ild (.iload 7) 7, o_int (.iconst 4) 4, o_icmpge 40 46, o_ald (.aload_n 0) 0, o_ild (.iload_n 1) 1, o_ild (.iload_n 2) 2, o_ild (.iload_n 3) 3, o_ild (.iload 4) 4, o_ild (.iload 7) 7, o_ild (.iload 5) 5, o_ild (.iload 6) 6, o_cv (.invokevirtual 306) 3 kX3_orderCost 7 0, o_iflt 16 40, o_ald (.aload_n 0) 0, o_ild (.iload_n 2) 2, o_ild (.iload 7) 7, o_cv (.invokevirtual 397) 3 kX3_isWayOut 2 0, o_ifeq 6 40, o_int (.bipush 10) 10, o_iret 0] :=
  fG mo_ild (sim_ild dX3_hopeOne_3) <|
  fG mo_int (sim_iconst dX3_hopeOne_5 (by decide)) <|
  fG mo_icmpge (sim_icmpge dX3_hopeOne_6 rfl) <|
  fG mo_ald (sim_ald_n dX3_hopeOne_9 rfl) <|
  fG mo_ild (sim_ild_n dX3_hopeOne_10 rfl) <|
  fG mo_ild (sim_ild_n dX3_hopeOne_11 rfl) <|
  fG mo_ild (sim_ild_n dX3_hopeOne_12 rfl) <|
  fG mo_ild (sim_ild dX3_hopeOne_13) <|
  fG mo_ild (sim_ild dX3_hopeOne_15) <|
  fG mo_ild (sim_ild dX3_hopeOne_17) <|
  fG mo_ild (sim_ild dX3_hopeOne_19) <|
  fC (ic_cv (Or.inl rfl)) (sim_cv hG dX3_hopeOne_21 (hG.2.1 3 _ hc_3).2.1 M_X3_orderCost (by rw [nm_X3_orderCost]; rfl) (by rw [nm_X3_orderCost]; exact q1594) (by rw [nm_X3_orderCost]; exact q1596) (by rw [nm_X3_orderCost]; exact qs76)) <|
  fG mo_iflt (sim_iflt dX3_hopeOne_24 rfl) <|
  fG mo_ald (sim_ald_n dX3_hopeOne_27 rfl) <|
  fG mo_ild (sim_ild_n dX3_hopeOne_28 rfl) <|
  fG mo_ild (sim_ild dX3_hopeOne_29) <|
  fC (ic_cv (Or.inl rfl)) (sim_cv hG dX3_hopeOne_31 (hG.2.1 3 _ hc_3).2.1 M_X3_isWayOut (by rw [nm_X3_isWayOut]; rfl) (by rw [nm_X3_isWayOut]; exact q1804) (by rw [nm_X3_isWayOut]; exact q1806) (by rw [nm_X3_isWayOut]; exact qs110)) <|
  fG mo_ifeq (sim_ifeq dX3_hopeOne_34 rfl) <|
  fG mo_int (sim_bipush dX3_hopeOne_37 (by decide)) <|
  fE ie_iret (sim_iret dX3_hopeOne_39 rfl (Or.inl ⟨rfl, rfl⟩))
theorem fX3_hopeOne_40 {X : tp_X} {az : Array Value} (hG : tp_Good X az) (hSt : tp_Stat X) : tp_Fit X yX3_hopeOne cX3_hopeOne (some .int) 8 tp_nm tp_by tp_ml tp_rtt 40 [o_inc 7 1, o_goto (-40) 3] :=
  fG mo_inc (sim_inc dX3_hopeOne_40 (by decide)) <|
  fG mo_goto (sim_goto dX3_hopeOne_43 rfl) <|
  trivial
theorem fX3_hopeOne_46 {X : tp_X} {az : Array Value} (hG : tp_Good X az) (hSt : tp_Stat X) : tp_Fit X yX3_hopeOne cX3_hopeOne (some .int) 8 tp_nm tp_by tp_ml tp_rtt 46 [o_int (.iconst 0) 0, o_iret 0] :=
  fG mo_int (sim_iconst dX3_hopeOne_46 (by decide)) <|
  fE ie_iret (sim_iret dX3_hopeOne_47 rfl (Or.inl ⟨rfl, rfl⟩))
theorem F_X3_hopeOne {X : tp_X} {az : Array Value} (hG : tp_Good X az) (hSt : tp_Stat X) (pc : Nat) : tp_Fit X yX3_hopeOne cX3_hopeOne (some .int) 8 tp_nm tp_by tp_ml tp_rtt pc (mX3_hopeOne pc) :=
  fI (fX3_hopeOne_0 hG hSt) <| fI (fX3_hopeOne_3 hG hSt) <| fI (fX3_hopeOne_40 hG hSt) <| fI (fX3_hopeOne_46 hG hSt) <| trivial
theorem fX3_hopeTwo_0 {X : tp_X} {az : Array Value} (hG : tp_Good X az) (hSt : tp_Stat X) : tp_Fit X yX3_hopeTwo cX3_hopeTwo (some .int) 14 tp_nm tp_by tp_ml tp_rtt 0 [o_int (.iconst 0) 0, o_ist (.istore 8) 8, o_int (.iconst 0) 0, o_ist (.istore 9) 9, o_fall 6] :=
  fG mo_int (sim_iconst dX3_hopeTwo_0 (by decide)) <|
  fG mo_ist (sim_ist dX3_hopeTwo_1) <|
  fG mo_int (sim_iconst dX3_hopeTwo_3 (by decide)) <|
  fG mo_ist (sim_ist dX3_hopeTwo_4) <|
  fF
theorem fX3_hopeTwo_6 {X : tp_X} {az : Array Value} (hG : tp_Good X az) (hSt : tp_Stat X) : tp_Fit X yX3_hopeTwo cX3_hopeTwo (some .int) 14 tp_nm tp_by tp_ml tp_rtt 6 [o_ild (.iload 9) 9, o_int (.bipush 8) 8, o_icmpge 170 180, o_ald (.aload_n 0) 0, o_ild (.iload_n 1) 1, o_ild (.iload_n 3) 3, o_ild (.iload 4) 4, o_ild (.iload 5) 5, o_ild (.iload 9) 9, o_ild (.iload 6) 6, o_ild (.iload 7) 7, o_cv (.invokevirtual 306) 3 kX3_orderCost 7 0, o_ist (.istore 10) 10, o_ild (.iload 10) 10, o_ifge 6 39, o_goto 138 174] :=
  fG mo_ild (sim_ild dX3_hopeTwo_6) <|
  fG mo_int (sim_bipush dX3_hopeTwo_8 (by decide)) <|
  fG mo_icmpge (sim_icmpge dX3_hopeTwo_10 rfl) <|
  fG mo_ald (sim_ald_n dX3_hopeTwo_13 rfl) <|
  fG mo_ild (sim_ild_n dX3_hopeTwo_14 rfl) <|
  fG mo_ild (sim_ild_n dX3_hopeTwo_15 rfl) <|
  fG mo_ild (sim_ild dX3_hopeTwo_16) <|
  fG mo_ild (sim_ild dX3_hopeTwo_18) <|
  fG mo_ild (sim_ild dX3_hopeTwo_20) <|
  fG mo_ild (sim_ild dX3_hopeTwo_22) <|
  fG mo_ild (sim_ild dX3_hopeTwo_24) <|
  fC (ic_cv (Or.inl rfl)) (sim_cv hG dX3_hopeTwo_26 (hG.2.1 3 _ hc_3).2.1 M_X3_orderCost (by rw [nm_X3_orderCost]; rfl) (by rw [nm_X3_orderCost]; exact q1594) (by rw [nm_X3_orderCost]; exact q1596) (by rw [nm_X3_orderCost]; exact qs76)) <|
  fG mo_ist (sim_ist dX3_hopeTwo_29) <|
  fG mo_ild (sim_ild dX3_hopeTwo_31) <|
  fG mo_ifge (sim_ifge dX3_hopeTwo_33 rfl) <|
  fG mo_goto (sim_goto dX3_hopeTwo_36 rfl) <|
  trivial
theorem fX3_hopeTwo_39 {X : tp_X} {az : Array Value} (hG : tp_Good X az) (hSt : tp_Stat X) : tp_Fit X yX3_hopeTwo cX3_hopeTwo (some .int) 14 tp_nm tp_by tp_ml tp_rtt 39 [o_ald (.aload_n 0) 0, o_ild (.iload_n 3) 3, o_ild (.iload 9) 9, o_cv (.invokevirtual 397) 3 kX3_isWayOut 2 0, o_ifeq 6 52, o_int (.bipush 100) 100, o_iret 0] :=
  fG mo_ald (sim_ald_n dX3_hopeTwo_39 rfl) <|
  fG mo_ild (sim_ild_n dX3_hopeTwo_40 rfl) <|
  fG mo_ild (sim_ild dX3_hopeTwo_41) <|
  fC (ic_cv (Or.inl rfl)) (sim_cv hG dX3_hopeTwo_43 (hG.2.1 3 _ hc_3).2.1 M_X3_isWayOut (by rw [nm_X3_isWayOut]; rfl) (by rw [nm_X3_isWayOut]; exact q1804) (by rw [nm_X3_isWayOut]; exact q1806) (by rw [nm_X3_isWayOut]; exact qs110)) <|
  fG mo_ifeq (sim_ifeq dX3_hopeTwo_46 rfl) <|
  fG mo_int (sim_bipush dX3_hopeTwo_49 (by decide)) <|
  fE ie_iret (sim_iret dX3_hopeTwo_51 rfl (Or.inl ⟨rfl, rfl⟩))
theorem fX3_hopeTwo_52 {X : tp_X} {az : Array Value} (hG : tp_Good X az) (hSt : tp_Stat X) : tp_Fit X yX3_hopeTwo cX3_hopeTwo (some .int) 14 tp_nm tp_by tp_ml tp_rtt 52 [o_int (.iconst 0) 0, o_ist (.istore 11) 11, o_int (.iconst 0) 0, o_ist (.istore 12) 12, o_fall 58] :=
  fG mo_int (sim_iconst dX3_hopeTwo_52 (by decide)) <|
  fG mo_ist (sim_ist dX3_hopeTwo_53) <|
  fG mo_int (sim_iconst dX3_hopeTwo_55 (by decide)) <|
  fG mo_ist (sim_ist dX3_hopeTwo_56) <|
  fF
theorem fX3_hopeTwo_58 {X : tp_X} {az : Array Value} (hG : tp_Good X az) (hSt : tp_Stat X) : tp_Fit X yX3_hopeTwo cX3_hopeTwo (some .int) 14 tp_nm tp_by tp_ml tp_rtt 58 [o_ild (.iload 12) 12, o_int (.iconst 4) 4, o_icmpge 97 158, o_ald (.aload_n 0) 0, o_ild (.iload 6) 6, o_ild (.iload 12) 12, o_cv (.invokevirtual 401) 3 kX3_chanceOf 2 0, o_ifne 6 78, o_goto 77 152] :=
  fG mo_ild (sim_ild dX3_hopeTwo_58) <|
  fG mo_int (sim_iconst dX3_hopeTwo_60 (by decide)) <|
  fG mo_icmpge (sim_icmpge dX3_hopeTwo_61 rfl) <|
  fG mo_ald (sim_ald_n dX3_hopeTwo_64 rfl) <|
  fG mo_ild (sim_ild dX3_hopeTwo_65) <|
  fG mo_ild (sim_ild dX3_hopeTwo_67) <|
  fC (ic_cv (Or.inl rfl)) (sim_cv hG dX3_hopeTwo_69 (hG.2.1 3 _ hc_3).2.1 M_X3_chanceOf (by rw [nm_X3_chanceOf]; rfl) (by rw [nm_X3_chanceOf]; exact q1812) (by rw [nm_X3_chanceOf]; exact q1814) (by rw [nm_X3_chanceOf]; exact qs112)) <|
  fG mo_ifne (sim_ifne dX3_hopeTwo_72 rfl) <|
  fG mo_goto (sim_goto dX3_hopeTwo_75 rfl) <|
  trivial
theorem fX3_hopeTwo_78 {X : tp_X} {az : Array Value} (hG : tp_Good X az) (hSt : tp_Stat X) : tp_Fit X yX3_hopeTwo cX3_hopeTwo (some .int) 14 tp_nm tp_by tp_ml tp_rtt 78 [o_ald (.aload_n 0) 0, o_ild (.iload_n 1) 1, o_ild (.iload_n 2) 2, o_ild (.iload 12) 12, o_ild (.iload 7) 7, o_cv (.invokevirtual 335) 3 kX3_go 4 0, o_ald (.aload_n 0) 0, o_ild (.iload_n 3) 3, o_ild (.iload 9) 9, o_ild (.iload 12) 12, o_cv (.invokevirtual 404) 3 kX3_behind 3 0, o_ist (.istore 13) 13, o_ald (.aload_n 0) 0, o_ild (.iload_n 2) 2, o_ild (.iload 13) 13, o_ild (.iload 12) 12, o_ild (.iload 7) 7, o_cv (.invokevirtual 328) 3 kX3_nips 4 0, o_ifne 42 152, o_ild (.iload 11) 11, o_ald (.aload_n 0) 0, o_ild (.iload 6) 6, o_ild (.iload 12) 12, o_cv (.invokevirtual 401) 3 kX3_chanceOf 2 0, o_ald (.aload_n 0) 0, o_ild (.iload_n 2) 2, o_ild (.iload 13) 13, o_ild (.iload 4) 4, o_ild (.iload 10) 10, o_isub, o_ild (.iload 9) 9, o_ild (.iload 5) 5, o_cs (.invokestatic 322) kX3_firesBehind 2 0, o_ild (.iload 12) 12, o_ild (.iload 7) 7, o_int (.iconst 1) 1, o_iadd, o_cv (.invokevirtual 407) 3 kX3_hopeOne 6 0, o_imul, o_iadd, o_ist (.istore 11) 11, o_fall 152] :=
  fG mo_ald (sim_ald_n dX3_hopeTwo_78 rfl) <|
  fG mo_ild (sim_ild_n dX3_hopeTwo_79 rfl) <|
  fG mo_ild (sim_ild_n dX3_hopeTwo_80 rfl) <|
  fG mo_ild (sim_ild dX3_hopeTwo_81) <|
  fG mo_ild (sim_ild dX3_hopeTwo_83) <|
  fC (ic_cv (Or.inl rfl)) (sim_cv hG dX3_hopeTwo_85 (hG.2.1 3 _ hc_3).2.1 M_X3_go (by rw [nm_X3_go]; rfl) (by rw [nm_X3_go]; exact q1661) (by rw [nm_X3_go]; exact q1663) (by rw [nm_X3_go]; exact qs88)) <|
  fG mo_ald (sim_ald_n dX3_hopeTwo_88 rfl) <|
  fG mo_ild (sim_ild_n dX3_hopeTwo_89 rfl) <|
  fG mo_ild (sim_ild dX3_hopeTwo_90) <|
  fG mo_ild (sim_ild dX3_hopeTwo_92) <|
  fC (ic_cv (Or.inl rfl)) (sim_cv hG dX3_hopeTwo_94 (hG.2.1 3 _ hc_3).2.1 M_X3_behind (by rw [nm_X3_behind]; rfl) (by rw [nm_X3_behind]; exact q1816) (by rw [nm_X3_behind]; exact q1818) (by rw [nm_X3_behind]; exact qs113)) <|
  fG mo_ist (sim_ist dX3_hopeTwo_97) <|
  fG mo_ald (sim_ald_n dX3_hopeTwo_99 rfl) <|
  fG mo_ild (sim_ild_n dX3_hopeTwo_100 rfl) <|
  fG mo_ild (sim_ild dX3_hopeTwo_101) <|
  fG mo_ild (sim_ild dX3_hopeTwo_103) <|
  fG mo_ild (sim_ild dX3_hopeTwo_105) <|
  fC (ic_cv (Or.inl rfl)) (sim_cv hG dX3_hopeTwo_107 (hG.2.1 3 _ hc_3).2.1 M_X3_nips (by rw [nm_X3_nips]; rfl) (by rw [nm_X3_nips]; exact q1677) (by rw [nm_X3_nips]; exact q1679) (by rw [nm_X3_nips]; exact qs92)) <|
  fG mo_ifne (sim_ifne dX3_hopeTwo_110 rfl) <|
  fG mo_ild (sim_ild dX3_hopeTwo_113) <|
  fG mo_ald (sim_ald_n dX3_hopeTwo_115 rfl) <|
  fG mo_ild (sim_ild dX3_hopeTwo_116) <|
  fG mo_ild (sim_ild dX3_hopeTwo_118) <|
  fC (ic_cv (Or.inl rfl)) (sim_cv hG dX3_hopeTwo_120 (hG.2.1 3 _ hc_3).2.1 M_X3_chanceOf (by rw [nm_X3_chanceOf]; rfl) (by rw [nm_X3_chanceOf]; exact q1812) (by rw [nm_X3_chanceOf]; exact q1814) (by rw [nm_X3_chanceOf]; exact qs112)) <|
  fG mo_ald (sim_ald_n dX3_hopeTwo_123 rfl) <|
  fG mo_ild (sim_ild_n dX3_hopeTwo_124 rfl) <|
  fG mo_ild (sim_ild dX3_hopeTwo_125) <|
  fG mo_ild (sim_ild dX3_hopeTwo_127) <|
  fG mo_ild (sim_ild dX3_hopeTwo_129) <|
  fG mo_isub (sim_isub dX3_hopeTwo_131) <|
  fG mo_ild (sim_ild dX3_hopeTwo_132) <|
  fG mo_ild (sim_ild dX3_hopeTwo_134) <|
  fC (ic_cs (Or.inl rfl)) (sim_cs hG dX3_hopeTwo_136 M_X3_firesBehind (by rw [nm_X3_firesBehind]; rfl) (by rw [nm_X3_firesBehind]; exact q1658) (by rw [nm_X3_firesBehind]; exact q1659)) <|
  fG mo_ild (sim_ild dX3_hopeTwo_139) <|
  fG mo_ild (sim_ild dX3_hopeTwo_141) <|
  fG mo_int (sim_iconst dX3_hopeTwo_143 (by decide)) <|
  fG mo_iadd (sim_iadd dX3_hopeTwo_144) <|
  fC (ic_cv (Or.inl rfl)) (sim_cv hG dX3_hopeTwo_145 (hG.2.1 3 _ hc_3).2.1 M_X3_hopeOne (by rw [nm_X3_hopeOne]; rfl) (by rw [nm_X3_hopeOne]; exact q1820) (by rw [nm_X3_hopeOne]; exact q1822) (by rw [nm_X3_hopeOne]; exact qs114)) <|
  fG mo_imul (sim_imul dX3_hopeTwo_148) <|
  fG mo_iadd (sim_iadd dX3_hopeTwo_149) <|
  fG mo_ist (sim_ist dX3_hopeTwo_150) <|
  fF
theorem fX3_hopeTwo_152 {X : tp_X} {az : Array Value} (hG : tp_Good X az) (hSt : tp_Stat X) : tp_Fit X yX3_hopeTwo cX3_hopeTwo (some .int) 14 tp_nm tp_by tp_ml tp_rtt 152 [o_inc 12 1, o_goto (-97) 58] :=
  fG mo_inc (sim_inc dX3_hopeTwo_152 (by decide)) <|
  fG mo_goto (sim_goto dX3_hopeTwo_155 rfl) <|
  trivial
theorem fX3_hopeTwo_158 {X : tp_X} {az : Array Value} (hG : tp_Good X az) (hSt : tp_Stat X) : tp_Fit X yX3_hopeTwo cX3_hopeTwo (some .int) 14 tp_nm tp_by tp_ml tp_rtt 158 [o_ild (.iload 11) 11, o_ild (.iload 8) 8, o_icmple 8 170, o_ild (.iload 11) 11, o_goto 5 172] :=
  fG mo_ild (sim_ild dX3_hopeTwo_158) <|
  fG mo_ild (sim_ild dX3_hopeTwo_160) <|
  fG mo_icmple (sim_icmple dX3_hopeTwo_162 rfl) <|
  fG mo_ild (sim_ild dX3_hopeTwo_165) <|
  fG mo_goto (sim_goto dX3_hopeTwo_167 rfl) <|
  trivial
theorem fX3_hopeTwo_170 {X : tp_X} {az : Array Value} (hG : tp_Good X az) (hSt : tp_Stat X) : tp_Fit X yX3_hopeTwo cX3_hopeTwo (some .int) 14 tp_nm tp_by tp_ml tp_rtt 170 [o_ild (.iload 8) 8, o_fall 172] :=
  fG mo_ild (sim_ild dX3_hopeTwo_170) <|
  fF
theorem fX3_hopeTwo_172 {X : tp_X} {az : Array Value} (hG : tp_Good X az) (hSt : tp_Stat X) : tp_Fit X yX3_hopeTwo cX3_hopeTwo (some .int) 14 tp_nm tp_by tp_ml tp_rtt 172 [o_ist (.istore 8) 8, o_fall 174] :=
  fG mo_ist (sim_ist dX3_hopeTwo_172) <|
  fF
theorem fX3_hopeTwo_174 {X : tp_X} {az : Array Value} (hG : tp_Good X az) (hSt : tp_Stat X) : tp_Fit X yX3_hopeTwo cX3_hopeTwo (some .int) 14 tp_nm tp_by tp_ml tp_rtt 174 [o_inc 9 1, o_goto (-171) 6] :=
  fG mo_inc (sim_inc dX3_hopeTwo_174 (by decide)) <|
  fG mo_goto (sim_goto dX3_hopeTwo_177 rfl) <|
  trivial
theorem fX3_hopeTwo_180 {X : tp_X} {az : Array Value} (hG : tp_Good X az) (hSt : tp_Stat X) : tp_Fit X yX3_hopeTwo cX3_hopeTwo (some .int) 14 tp_nm tp_by tp_ml tp_rtt 180 [o_ild (.iload 8) 8, o_iret 0] :=
  fG mo_ild (sim_ild dX3_hopeTwo_180) <|
  fE ie_iret (sim_iret dX3_hopeTwo_182 rfl (Or.inl ⟨rfl, rfl⟩))
theorem F_X3_hopeTwo {X : tp_X} {az : Array Value} (hG : tp_Good X az) (hSt : tp_Stat X) (pc : Nat) : tp_Fit X yX3_hopeTwo cX3_hopeTwo (some .int) 14 tp_nm tp_by tp_ml tp_rtt pc (mX3_hopeTwo pc) :=
  fI (fX3_hopeTwo_0 hG hSt) <| fI (fX3_hopeTwo_6 hG hSt) <| fI (fX3_hopeTwo_39 hG hSt) <| fI (fX3_hopeTwo_52 hG hSt) <| fI (fX3_hopeTwo_58 hG hSt) <| fI (fX3_hopeTwo_78 hG hSt) <| fI (fX3_hopeTwo_152 hG hSt) <| fI (fX3_hopeTwo_158 hG hSt) <| fI (fX3_hopeTwo_170 hG hSt) <| fI (fX3_hopeTwo_172 hG hSt) <| fI (fX3_hopeTwo_174 hG hSt) <| fI (fX3_hopeTwo_180 hG hSt) <| trivial
theorem fX3_known_0 {X : tp_X} {az : Array Value} (hG : tp_Good X az) (hSt : tp_Stat X) : tp_Fit X yX3_known cX3_known (some .int) 8 tp_nm tp_by tp_ml tp_rtt 0 [o_int (.iconst 0) 0, o_ist (.istore_n 2) 2, o_fall 2] :=
  fG mo_int (sim_iconst dX3_known_0 (by decide)) <|
  fG mo_ist (sim_ist_n dX3_known_1 rfl) <|
  fF
theorem fX3_known_2 {X : tp_X} {az : Array Value} (hG : tp_Good X az) (hSt : tp_Stat X) : tp_Fit X yX3_known cX3_known (some .int) 8 tp_nm tp_by tp_ml tp_rtt 2 [o_ild (.iload_n 2) 2, o_int (.bipush 12) 12, o_icmpge 25 30, o_ald (.aload_n 0) 0, o_getf (.getfield 74) 3 40, o_ild (.iload_n 2) 2, o_ald (.aload_n 0) 0, o_getf (.getfield 7) 3 3, o_int (.sipush 180) 180, o_ild (.iload_n 2) 2, o_iadd, o_lda .iaload [0, 20], o_sta .iastore [0], o_inc 2 1, o_goto (-25) 2] :=
  fG mo_ild (sim_ild_n dX3_known_2 rfl) <|
  fG mo_int (sim_bipush dX3_known_3 (by decide)) <|
  fG mo_icmpge (sim_icmpge dX3_known_5 rfl) <|
  fG mo_ald (sim_ald_n dX3_known_8 rfl) <|
  fG mo_getf (sim_getfG hG dX3_known_9 hc_3 (by decide) rfl in_X3 (fun _ _ _ h => h) (Or.inl q1290)) <|
  fG mo_ild (sim_ild_n dX3_known_12 rfl) <|
  fG mo_ald (sim_ald_n dX3_known_13 rfl) <|
  fG mo_getf (sim_getfG hG dX3_known_14 hc_3 (by decide) rfl in_X3 (fun _ _ _ h => h) (Or.inl q1255)) <|
  fG mo_int (sim_sipush dX3_known_17 (by decide)) <|
  fG mo_ild (sim_ild_n dX3_known_20 rfl) <|
  fG mo_iadd (sim_iadd dX3_known_21) <|
  fG mo_lda (sim_iald dX3_known_22) <|
  fG mo_sta (sim_iast dX3_known_23) <|
  fG mo_inc (sim_inc dX3_known_24 (by decide)) <|
  fG mo_goto (sim_goto dX3_known_27 rfl) <|
  trivial
theorem fX3_known_30 {X : tp_X} {az : Array Value} (hG : tp_Good X az) (hSt : tp_Stat X) : tp_Fit X yX3_known cX3_known (some .int) 8 tp_nm tp_by tp_ml tp_rtt 30 [o_ald (.aload_n 0) 0, o_getf (.getfield 74) 3 40, o_int (.bipush 12) 12, o_ald (.aload_n 0) 0, o_getf (.getfield 7) 3 3, o_int (.iconst 4) 4, o_lda .iaload [0, 20], o_sta .iastore [0], o_ald (.aload_n 0) 0, o_getf (.getfield 7) 3 3, o_int (.iconst 4) 4, o_ild (.iload_n 1) 1, o_sta .iastore [0], o_int (.iconst 0) 0, o_ist (.istore_n 2) 2, o_ild (.iload_n 1) 1, o_int (.iconst 1) 1, o_icmpne 7 61, o_int (.iconst 4) 4, o_goto 15 73] :=
  fG mo_ald (sim_ald_n dX3_known_30 rfl) <|
  fG mo_getf (sim_getfG hG dX3_known_31 hc_3 (by decide) rfl in_X3 (fun _ _ _ h => h) (Or.inl q1290)) <|
  fG mo_int (sim_bipush dX3_known_34 (by decide)) <|
  fG mo_ald (sim_ald_n dX3_known_36 rfl) <|
  fG mo_getf (sim_getfG hG dX3_known_37 hc_3 (by decide) rfl in_X3 (fun _ _ _ h => h) (Or.inl q1255)) <|
  fG mo_int (sim_iconst dX3_known_40 (by decide)) <|
  fG mo_lda (sim_iald dX3_known_41) <|
  fG mo_sta (sim_iast dX3_known_42) <|
  fG mo_ald (sim_ald_n dX3_known_43 rfl) <|
  fG mo_getf (sim_getfG hG dX3_known_44 hc_3 (by decide) rfl in_X3 (fun _ _ _ h => h) (Or.inl q1255)) <|
  fG mo_int (sim_iconst dX3_known_47 (by decide)) <|
  fG mo_ild (sim_ild_n dX3_known_48 rfl) <|
  fG mo_sta (sim_iast dX3_known_49) <|
  fG mo_int (sim_iconst dX3_known_50 (by decide)) <|
  fG mo_ist (sim_ist_n dX3_known_51 rfl) <|
  fG mo_ild (sim_ild_n dX3_known_52 rfl) <|
  fG mo_int (sim_iconst dX3_known_53 (by decide)) <|
  fG mo_icmpne (sim_icmpne dX3_known_54 rfl) <|
  fG mo_int (sim_iconst dX3_known_57 (by decide)) <|
  fG mo_goto (sim_goto dX3_known_58 rfl) <|
  trivial
theorem fX3_known_61 {X : tp_X} {az : Array Value} (hG : tp_Good X az) (hSt : tp_Stat X) : tp_Fit X yX3_known cX3_known (some .int) 8 tp_nm tp_by tp_ml tp_rtt 61 [o_ild (.iload_n 1) 1, o_int (.iconst 2) 2, o_icmpne 8 71, o_int (.bipush 16) 16, o_goto 5 73] :=
  fG mo_ild (sim_ild_n dX3_known_61 rfl) <|
  fG mo_int (sim_iconst dX3_known_62 (by decide)) <|
  fG mo_icmpne (sim_icmpne dX3_known_63 rfl) <|
  fG mo_int (sim_bipush dX3_known_66 (by decide)) <|
  fG mo_goto (sim_goto dX3_known_68 rfl) <|
  trivial
theorem fX3_known_71 {X : tp_X} {az : Array Value} (hG : tp_Good X az) (hSt : tp_Stat X) : tp_Fit X yX3_known cX3_known (some .int) 8 tp_nm tp_by tp_ml tp_rtt 71 [o_int (.bipush 64) 64, o_fall 73] :=
  fG mo_int (sim_bipush dX3_known_71 (by decide)) <|
  fF
theorem fX3_known_73 {X : tp_X} {az : Array Value} (hG : tp_Good X az) (hSt : tp_Stat X) : tp_Fit X yX3_known cX3_known (some .int) 8 tp_nm tp_by tp_ml tp_rtt 73 [o_ist (.istore_n 3) 3, o_int (.iconst 0) 0, o_ist (.istore 4) 4, o_fall 77] :=
  fG mo_ist (sim_ist_n dX3_known_73 rfl) <|
  fG mo_int (sim_iconst dX3_known_74 (by decide)) <|
  fG mo_ist (sim_ist dX3_known_75) <|
  fF
theorem fX3_known_77 {X : tp_X} {az : Array Value} (hG : tp_Good X az) (hSt : tp_Stat X) : tp_Fit X yX3_known cX3_known (some .int) 8 tp_nm tp_by tp_ml tp_rtt 77 [o_ild (.iload 4) 4, o_ild (.iload_n 3) 3, o_icmpge 112 192, o_ild (.iload 4) 4, o_ist (.istore 5) 5, o_int (.iconst 1) 1, o_ist (.istore 6) 6, o_int (.iconst 0) 0, o_ist (.istore 7) 7, o_fall 93] :=
  fG mo_ild (sim_ild dX3_known_77) <|
  fG mo_ild (sim_ild_n dX3_known_79 rfl) <|
  fG mo_icmpge (sim_icmpge dX3_known_80 rfl) <|
  fG mo_ild (sim_ild dX3_known_83) <|
  fG mo_ist (sim_ist dX3_known_85) <|
  fG mo_int (sim_iconst dX3_known_87 (by decide)) <|
  fG mo_ist (sim_ist dX3_known_88) <|
  fG mo_int (sim_iconst dX3_known_90 (by decide)) <|
  fG mo_ist (sim_ist dX3_known_91) <|
  fF
theorem fX3_known_93 {X : tp_X} {az : Array Value} (hG : tp_Good X az) (hSt : tp_Stat X) : tp_Fit X yX3_known cX3_known (some .int) 8 tp_nm tp_by tp_ml tp_rtt 93 [o_ild (.iload 7) 7, o_ild (.iload_n 1) 1, o_icmpge 49 145, o_ald (.aload_n 0) 0, o_getf (.getfield 7) 3 3, o_int (.sipush 180) 180, o_ild (.iload 7) 7, o_iadd, o_ild (.iload 5) 5, o_int (.iconst 4) 4, o_irem, o_sta .iastore [0], o_ild (.iload 6) 6, o_ald (.aload_n 0) 0, o_ald (.aload_n 0) 0, o_ild (.iload 7) 7, o_cv (.invokevirtual 342) 3 kX3_windBefore 1 0, o_ild (.iload 5) 5, o_int (.iconst 4) 4, o_irem, o_cv (.invokevirtual 401) 3 kX3_chanceOf 2 0, o_imul, o_ist (.istore 6) 6, o_ild (.iload 5) 5, o_int (.iconst 4) 4, o_idiv, o_ist (.istore 5) 5, o_inc 7 1, o_goto (-49) 93] :=
  fG mo_ild (sim_ild dX3_known_93) <|
  fG mo_ild (sim_ild_n dX3_known_95 rfl) <|
  fG mo_icmpge (sim_icmpge dX3_known_96 rfl) <|
  fG mo_ald (sim_ald_n dX3_known_99 rfl) <|
  fG mo_getf (sim_getfG hG dX3_known_100 hc_3 (by decide) rfl in_X3 (fun _ _ _ h => h) (Or.inl q1255)) <|
  fG mo_int (sim_sipush dX3_known_103 (by decide)) <|
  fG mo_ild (sim_ild dX3_known_106) <|
  fG mo_iadd (sim_iadd dX3_known_108) <|
  fG mo_ild (sim_ild dX3_known_109) <|
  fG mo_int (sim_iconst dX3_known_111 (by decide)) <|
  fG mo_irem (sim_irem dX3_known_112) <|
  fG mo_sta (sim_iast dX3_known_113) <|
  fG mo_ild (sim_ild dX3_known_114) <|
  fG mo_ald (sim_ald_n dX3_known_116 rfl) <|
  fG mo_ald (sim_ald_n dX3_known_117 rfl) <|
  fG mo_ild (sim_ild dX3_known_118) <|
  fC (ic_cv (Or.inl rfl)) (sim_cv hG dX3_known_120 (hG.2.1 3 _ hc_3).2.1 M_X3_windBefore (by rw [nm_X3_windBefore]; rfl) (by rw [nm_X3_windBefore]; exact q1705) (by rw [nm_X3_windBefore]; exact q1707) (by rw [nm_X3_windBefore]; exact qs95)) <|
  fG mo_ild (sim_ild dX3_known_123) <|
  fG mo_int (sim_iconst dX3_known_125 (by decide)) <|
  fG mo_irem (sim_irem dX3_known_126) <|
  fC (ic_cv (Or.inl rfl)) (sim_cv hG dX3_known_127 (hG.2.1 3 _ hc_3).2.1 M_X3_chanceOf (by rw [nm_X3_chanceOf]; rfl) (by rw [nm_X3_chanceOf]; exact q1812) (by rw [nm_X3_chanceOf]; exact q1814) (by rw [nm_X3_chanceOf]; exact qs112)) <|
  fG mo_imul (sim_imul dX3_known_130) <|
  fG mo_ist (sim_ist dX3_known_131) <|
  fG mo_ild (sim_ild dX3_known_133) <|
  fG mo_int (sim_iconst dX3_known_135 (by decide)) <|
  fG mo_idiv (sim_idiv dX3_known_136) <|
  fG mo_ist (sim_ist dX3_known_137) <|
  fG mo_inc (sim_inc dX3_known_139 (by decide)) <|
  fG mo_goto (sim_goto dX3_known_142 rfl) <|
  trivial
theorem fX3_known_145 {X : tp_X} {az : Array Value} (hG : tp_Good X az) (hSt : tp_Stat X) : tp_Fit X yX3_known cX3_known (some .int) 8 tp_nm tp_by tp_ml tp_rtt 145 [o_ild (.iload 6) 6, o_ifne 6 153, o_goto 36 186] :=
  fG mo_ild (sim_ild dX3_known_145) <|
  fG mo_ifne (sim_ifne dX3_known_147 rfl) <|
  fG mo_goto (sim_goto dX3_known_150 rfl) <|
  trivial
theorem fX3_known_153 {X : tp_X} {az : Array Value} (hG : tp_Good X az) (hSt : tp_Stat X) : tp_Fit X yX3_known cX3_known (some .int) 8 tp_nm tp_by tp_ml tp_rtt 153 [o_ald (.aload_n 0) 0, o_cv (.invokevirtual 364) 3 kX3_findOut 0 0, o_ald (.aload_n 0) 0, o_getf (.getfield 53) 3 31, o_int (.iconst 0) 0, o_ald (.aload_n 0) 0, o_cv (.invokevirtual 367) 3 kX3_shipCell 0 0, o_ald (.aload_n 0) 0, o_cv (.invokevirtual 370) 3 kX3_shipCoal 0 0, o_ald (.aload_n 0) 0, o_cv (.invokevirtual 373) 3 kX3_shipBanked 0 0, o_cs (.invokestatic 352) kX3_stateAt 4 0, o_lda .iaload [0, 20], o_iflt 8 186, o_ild (.iload_n 2) 2, o_ild (.iload 6) 6, o_iadd, o_ist (.istore_n 2) 2, o_fall 186] :=
  fG mo_ald (sim_ald_n dX3_known_153 rfl) <|
  fC (ic_cv (Or.inl rfl)) (sim_cv hG dX3_known_154 (hG.2.1 3 _ hc_3).2.1 M_X3_findOut (by rw [nm_X3_findOut]; rfl) (by rw [nm_X3_findOut]; exact q1697) (by rw [nm_X3_findOut]; exact q1699) (by rw [nm_X3_findOut]; exact qs93)) <|
  fG mo_ald (sim_ald_n dX3_known_157 rfl) <|
  fG mo_getf (sim_getfG hG dX3_known_158 hc_3 (by decide) rfl in_X3 (fun _ _ _ h => h) (Or.inl q1281)) <|
  fG mo_int (sim_iconst dX3_known_161 (by decide)) <|
  fG mo_ald (sim_ald_n dX3_known_162 rfl) <|
  fC (ic_cv (Or.inl rfl)) (sim_cv hG dX3_known_163 (hG.2.1 3 _ hc_3).2.1 M_X3_shipCell (by rw [nm_X3_shipCell]; rfl) (by rw [nm_X3_shipCell]; exact q1728) (by rw [nm_X3_shipCell]; exact q1730) (by rw [nm_X3_shipCell]; exact qs100)) <|
  fG mo_ald (sim_ald_n dX3_known_166 rfl) <|
  fC (ic_cv (Or.inl rfl)) (sim_cv hG dX3_known_167 (hG.2.1 3 _ hc_3).2.1 M_X3_shipCoal (by rw [nm_X3_shipCoal]; rfl) (by rw [nm_X3_shipCoal]; exact q1732) (by rw [nm_X3_shipCoal]; exact q1734) (by rw [nm_X3_shipCoal]; exact qs101)) <|
  fG mo_ald (sim_ald_n dX3_known_170 rfl) <|
  fC (ic_cv (Or.inl rfl)) (sim_cv hG dX3_known_171 (hG.2.1 3 _ hc_3).2.1 M_X3_shipBanked (by rw [nm_X3_shipBanked]; rfl) (by rw [nm_X3_shipBanked]; exact q1736) (by rw [nm_X3_shipBanked]; exact q1738) (by rw [nm_X3_shipBanked]; exact qs102)) <|
  fC (ic_cs (Or.inl rfl)) (sim_cs hG dX3_known_174 M_X3_stateAt (by rw [nm_X3_stateAt]; rfl) (by rw [nm_X3_stateAt]; exact q1709) (by rw [nm_X3_stateAt]; exact q1710)) <|
  fG mo_lda (sim_iald dX3_known_177) <|
  fG mo_iflt (sim_iflt dX3_known_178 rfl) <|
  fG mo_ild (sim_ild_n dX3_known_181 rfl) <|
  fG mo_ild (sim_ild dX3_known_182) <|
  fG mo_iadd (sim_iadd dX3_known_184) <|
  fG mo_ist (sim_ist_n dX3_known_185 rfl) <|
  fF
theorem fX3_known_186 {X : tp_X} {az : Array Value} (hG : tp_Good X az) (hSt : tp_Stat X) : tp_Fit X yX3_known cX3_known (some .int) 8 tp_nm tp_by tp_ml tp_rtt 186 [o_inc 4 1, o_goto (-112) 77] :=
  fG mo_inc (sim_inc dX3_known_186 (by decide)) <|
  fG mo_goto (sim_goto dX3_known_189 rfl) <|
  trivial
theorem fX3_known_192 {X : tp_X} {az : Array Value} (hG : tp_Good X az) (hSt : tp_Stat X) : tp_Fit X yX3_known cX3_known (some .int) 8 tp_nm tp_by tp_ml tp_rtt 192 [o_int (.iconst 0) 0, o_ist (.istore 4) 4, o_fall 195] :=
  fG mo_int (sim_iconst dX3_known_192 (by decide)) <|
  fG mo_ist (sim_ist dX3_known_193) <|
  fF
theorem fX3_known_195 {X : tp_X} {az : Array Value} (hG : tp_Good X az) (hSt : tp_Stat X) : tp_Fit X yX3_known cX3_known (some .int) 8 tp_nm tp_by tp_ml tp_rtt 195 [o_ild (.iload 4) 4, o_int (.bipush 12) 12, o_icmpge 27 226, o_ald (.aload_n 0) 0, o_getf (.getfield 7) 3 3, o_int (.sipush 180) 180, o_ild (.iload 4) 4, o_iadd, o_ald (.aload_n 0) 0, o_getf (.getfield 74) 3 40, o_ild (.iload 4) 4, o_lda .iaload [0, 20], o_sta .iastore [0], o_inc 4 1, o_goto (-28) 195] :=
  fG mo_ild (sim_ild dX3_known_195) <|
  fG mo_int (sim_bipush dX3_known_197 (by decide)) <|
  fG mo_icmpge (sim_icmpge dX3_known_199 rfl) <|
  fG mo_ald (sim_ald_n dX3_known_202 rfl) <|
  fG mo_getf (sim_getfG hG dX3_known_203 hc_3 (by decide) rfl in_X3 (fun _ _ _ h => h) (Or.inl q1255)) <|
  fG mo_int (sim_sipush dX3_known_206 (by decide)) <|
  fG mo_ild (sim_ild dX3_known_209) <|
  fG mo_iadd (sim_iadd dX3_known_211) <|
  fG mo_ald (sim_ald_n dX3_known_212 rfl) <|
  fG mo_getf (sim_getfG hG dX3_known_213 hc_3 (by decide) rfl in_X3 (fun _ _ _ h => h) (Or.inl q1290)) <|
  fG mo_ild (sim_ild dX3_known_216) <|
  fG mo_lda (sim_iald dX3_known_218) <|
  fG mo_sta (sim_iast dX3_known_219) <|
  fG mo_inc (sim_inc dX3_known_220 (by decide)) <|
  fG mo_goto (sim_goto dX3_known_223 rfl) <|
  trivial
theorem fX3_known_226 {X : tp_X} {az : Array Value} (hG : tp_Good X az) (hSt : tp_Stat X) : tp_Fit X yX3_known cX3_known (some .int) 8 tp_nm tp_by tp_ml tp_rtt 226 [o_ald (.aload_n 0) 0, o_getf (.getfield 7) 3 3, o_int (.iconst 4) 4, o_ald (.aload_n 0) 0, o_getf (.getfield 74) 3 40, o_int (.bipush 12) 12, o_lda .iaload [0, 20], o_sta .iastore [0], o_ild (.iload_n 2) 2, o_iret 0] :=
  fG mo_ald (sim_ald_n dX3_known_226 rfl) <|
  fG mo_getf (sim_getfG hG dX3_known_227 hc_3 (by decide) rfl in_X3 (fun _ _ _ h => h) (Or.inl q1255)) <|
  fG mo_int (sim_iconst dX3_known_230 (by decide)) <|
  fG mo_ald (sim_ald_n dX3_known_231 rfl) <|
  fG mo_getf (sim_getfG hG dX3_known_232 hc_3 (by decide) rfl in_X3 (fun _ _ _ h => h) (Or.inl q1290)) <|
  fG mo_int (sim_bipush dX3_known_235 (by decide)) <|
  fG mo_lda (sim_iald dX3_known_237) <|
  fG mo_sta (sim_iast dX3_known_238) <|
  fG mo_ild (sim_ild_n dX3_known_239 rfl) <|
  fE ie_iret (sim_iret dX3_known_240 rfl (Or.inl ⟨rfl, rfl⟩))
theorem F_X3_known {X : tp_X} {az : Array Value} (hG : tp_Good X az) (hSt : tp_Stat X) (pc : Nat) : tp_Fit X yX3_known cX3_known (some .int) 8 tp_nm tp_by tp_ml tp_rtt pc (mX3_known pc) :=
  fI (fX3_known_0 hG hSt) <| fI (fX3_known_2 hG hSt) <| fI (fX3_known_30 hG hSt) <| fI (fX3_known_61 hG hSt) <| fI (fX3_known_71 hG hSt) <| fI (fX3_known_73 hG hSt) <| fI (fX3_known_77 hG hSt) <| fI (fX3_known_93 hG hSt) <| fI (fX3_known_145 hG hSt) <| fI (fX3_known_153 hG hSt) <| fI (fX3_known_186 hG hSt) <| fI (fX3_known_192 hG hSt) <| fI (fX3_known_195 hG hSt) <| fI (fX3_known_226 hG hSt) <| trivial
theorem fX3_leads_0 {X : tp_X} {az : Array Value} (hG : tp_Good X az) (hSt : tp_Stat X) : tp_Fit X yX3_leads cX3_leads (some .int) 7 tp_nm tp_by tp_ml tp_rtt 0 [o_ild (.iload_n 1) 1, o_int (.iconst (-1)) (-1), o_icmpeq 13 15, o_ald (.aload_n 0) 0, o_ild (.iload_n 1) 1, o_cv (.invokevirtual 98) 3 kX3_isCell 1 0, o_ifne 5 15, o_int (.iconst (-1)) (-1), o_iret 0] :=
  fG mo_ild (sim_ild_n dX3_leads_0 rfl) <|
  fG mo_int (sim_iconst dX3_leads_1 (by decide)) <|
  fG mo_icmpeq (sim_icmpeq dX3_leads_2 rfl) <|
  fG mo_ald (sim_ald_n dX3_leads_5 rfl) <|
  fG mo_ild (sim_ild_n dX3_leads_6 rfl) <|
  fC (ic_cv (Or.inl rfl)) (sim_cv hG dX3_leads_7 (hG.2.1 3 _ hc_3).2.1 M_X3_isCell (by rw [nm_X3_isCell]; rfl) (by rw [nm_X3_isCell]; exact q1396) (by rw [nm_X3_isCell]; exact q1398) (by rw [nm_X3_isCell]; exact qs50)) <|
  fG mo_ifne (sim_ifne dX3_leads_10 rfl) <|
  fG mo_int (sim_iconst dX3_leads_13 (by decide)) <|
  fE ie_iret (sim_iret dX3_leads_14 rfl (Or.inl ⟨rfl, rfl⟩))
theorem fX3_leads_15 {X : tp_X} {az : Array Value} (hG : tp_Good X az) (hSt : tp_Stat X) : tp_Fit X yX3_leads cX3_leads (some .int) 7 tp_nm tp_by tp_ml tp_rtt 15 [o_ald (.aload_n 0) 0, o_int (.sipush 504) 504, o_cv (.invokevirtual 316) 3 kX3_layNow 1 0, o_int (.iconst 0) 0, o_ist (.istore_n 2) 2, o_fall 24] :=
  fG mo_ald (sim_ald_n dX3_leads_15 rfl) <|
  fG mo_int (sim_sipush dX3_leads_16 (by decide)) <|
  fC (ic_cv (Or.inl rfl)) (sim_cv hG dX3_leads_19 (hG.2.1 3 _ hc_3).2.1 M_X3_layNow (by rw [nm_X3_layNow]; rfl) (by rw [nm_X3_layNow]; exact q1586) (by rw [nm_X3_layNow]; exact q1588) (by rw [nm_X3_layNow]; exact qs74)) <|
  fG mo_int (sim_iconst dX3_leads_22 (by decide)) <|
  fG mo_ist (sim_ist_n dX3_leads_23 rfl) <|
  fF
theorem fX3_leads_24 {X : tp_X} {az : Array Value} (hG : tp_Good X az) (hSt : tp_Stat X) : tp_Fit X yX3_leads cX3_leads (some .int) 7 tp_nm tp_by tp_ml tp_rtt 24 [o_ild (.iload_n 2) 2, o_ald (.aload_n 0) 0, o_getf (.getfield 83) 3 2, o_icmpge 28 57, o_ald (.aload_n 0) 0, o_getf (.getfield 53) 3 31, o_ild (.iload_n 2) 2, o_ild (.iload_n 2) 2, o_ald (.aload_n 0) 0, o_cv (.invokevirtual 367) 3 kX3_shipCell 0 0, o_icmpne 7 49, o_int (.iconst 0) 0, o_goto 4 50] :=
  fG mo_ild (sim_ild_n dX3_leads_24 rfl) <|
  fG mo_ald (sim_ald_n dX3_leads_25 rfl) <|
  fG mo_getf (sim_getfG hG dX3_leads_26 hc_3 (by decide) rfl in_X3 (fun _ _ _ h => h) (Or.inl q1254)) <|
  fG mo_icmpge (sim_icmpge dX3_leads_29 rfl) <|
  fG mo_ald (sim_ald_n dX3_leads_32 rfl) <|
  fG mo_getf (sim_getfG hG dX3_leads_33 hc_3 (by decide) rfl in_X3 (fun _ _ _ h => h) (Or.inl q1281)) <|
  fG mo_ild (sim_ild_n dX3_leads_36 rfl) <|
  fG mo_ild (sim_ild_n dX3_leads_37 rfl) <|
  fG mo_ald (sim_ald_n dX3_leads_38 rfl) <|
  fC (ic_cv (Or.inl rfl)) (sim_cv hG dX3_leads_39 (hG.2.1 3 _ hc_3).2.1 M_X3_shipCell (by rw [nm_X3_shipCell]; rfl) (by rw [nm_X3_shipCell]; exact q1728) (by rw [nm_X3_shipCell]; exact q1730) (by rw [nm_X3_shipCell]; exact qs100)) <|
  fG mo_icmpne (sim_icmpne dX3_leads_42 rfl) <|
  fG mo_int (sim_iconst dX3_leads_45 (by decide)) <|
  fG mo_goto (sim_goto dX3_leads_46 rfl) <|
  trivial
theorem fX3_leads_49 {X : tp_X} {az : Array Value} (hG : tp_Good X az) (hSt : tp_Stat X) : tp_Fit X yX3_leads cX3_leads (some .int) 7 tp_nm tp_by tp_ml tp_rtt 49 [o_int (.iconst (-1)) (-1), o_fall 50] :=
  fG mo_int (sim_iconst dX3_leads_49 (by decide)) <|
  fF
theorem fX3_leads_50 {X : tp_X} {az : Array Value} (hG : tp_Good X az) (hSt : tp_Stat X) : tp_Fit X yX3_leads cX3_leads (some .int) 7 tp_nm tp_by tp_ml tp_rtt 50 [o_sta .iastore [0], o_inc 2 1, o_goto (-30) 24] :=
  fG mo_sta (sim_iast dX3_leads_50) <|
  fG mo_inc (sim_inc dX3_leads_51 (by decide)) <|
  fG mo_goto (sim_goto dX3_leads_54 rfl) <|
  trivial
theorem fX3_leads_57 {X : tp_X} {az : Array Value} (hG : tp_Good X az) (hSt : tp_Stat X) : tp_Fit X yX3_leads cX3_leads (some .int) 7 tp_nm tp_by tp_ml tp_rtt 57 [o_int (.iconst 1) 1, o_ist (.istore_n 2) 2, o_int (.iconst 0) 0, o_ist (.istore_n 3) 3, o_fall 61] :=
  fG mo_int (sim_iconst dX3_leads_57 (by decide)) <|
  fG mo_ist (sim_ist_n dX3_leads_58 rfl) <|
  fG mo_int (sim_iconst dX3_leads_59 (by decide)) <|
  fG mo_ist (sim_ist_n dX3_leads_60 rfl) <|
  fF
theorem fX3_leads_61 {X : tp_X} {az : Array Value} (hG : tp_Good X az) (hSt : tp_Stat X) : tp_Fit X yX3_leads cX3_leads (some .int) 7 tp_nm tp_by tp_ml tp_rtt 61 [o_ild (.iload_n 2) 2, o_ifeq 136 198, o_int (.iconst 0) 0, o_ist (.istore_n 2) 2, o_int (.iconst 0) 0, o_ist (.istore 4) 4, o_fall 70] :=
  fG mo_ild (sim_ild_n dX3_leads_61 rfl) <|
  fG mo_ifeq (sim_ifeq dX3_leads_62 rfl) <|
  fG mo_int (sim_iconst dX3_leads_65 (by decide)) <|
  fG mo_ist (sim_ist_n dX3_leads_66 rfl) <|
  fG mo_int (sim_iconst dX3_leads_67 (by decide)) <|
  fG mo_ist (sim_ist dX3_leads_68) <|
  fF
theorem fX3_leads_70 {X : tp_X} {az : Array Value} (hG : tp_Good X az) (hSt : tp_Stat X) : tp_Fit X yX3_leads cX3_leads (some .int) 7 tp_nm tp_by tp_ml tp_rtt 70 [o_ild (.iload 4) 4, o_ald (.aload_n 0) 0, o_getf (.getfield 83) 3 2, o_icmpge 116 192, o_int (.iconst 0) 0, o_ist (.istore 5) 5, o_fall 82] :=
  fG mo_ild (sim_ild dX3_leads_70) <|
  fG mo_ald (sim_ald_n dX3_leads_72 rfl) <|
  fG mo_getf (sim_getfG hG dX3_leads_73 hc_3 (by decide) rfl in_X3 (fun _ _ _ h => h) (Or.inl q1254)) <|
  fG mo_icmpge (sim_icmpge dX3_leads_76 rfl) <|
  fG mo_int (sim_iconst dX3_leads_79 (by decide)) <|
  fG mo_ist (sim_ist dX3_leads_80) <|
  fF
theorem fX3_leads_82 {X : tp_X} {az : Array Value} (hG : tp_Good X az) (hSt : tp_Stat X) : tp_Fit X yX3_leads cX3_leads (some .int) 7 tp_nm tp_by tp_ml tp_rtt 82 [o_ild (.iload 5) 5, o_int (.iconst 4) 4, o_icmpge 101 186, o_ald (.aload_n 0) 0, o_getf (.getfield 53) 3 31, o_ild (.iload 4) 4, o_lda .iaload [0, 20], o_ild (.iload_n 3) 3, o_icmpne 90 186, o_ild (.iload_n 3) 3, o_ifeq 16 116, o_ald (.aload_n 0) 0, o_getf (.getfield 7) 3 3, o_int (.bipush 70) 70, o_ild (.iload 4) 4, o_iadd, o_lda .iaload [0, 20], o_ifne 73 186, o_fall 116] :=
  fG mo_ild (sim_ild dX3_leads_82) <|
  fG mo_int (sim_iconst dX3_leads_84 (by decide)) <|
  fG mo_icmpge (sim_icmpge dX3_leads_85 rfl) <|
  fG mo_ald (sim_ald_n dX3_leads_88 rfl) <|
  fG mo_getf (sim_getfG hG dX3_leads_89 hc_3 (by decide) rfl in_X3 (fun _ _ _ h => h) (Or.inl q1281)) <|
  fG mo_ild (sim_ild dX3_leads_92) <|
  fG mo_lda (sim_iald dX3_leads_94) <|
  fG mo_ild (sim_ild_n dX3_leads_95 rfl) <|
  fG mo_icmpne (sim_icmpne dX3_leads_96 rfl) <|
  fG mo_ild (sim_ild_n dX3_leads_99 rfl) <|
  fG mo_ifeq (sim_ifeq dX3_leads_100 rfl) <|
  fG mo_ald (sim_ald_n dX3_leads_103 rfl) <|
  fG mo_getf (sim_getfG hG dX3_leads_104 hc_3 (by decide) rfl in_X3 (fun _ _ _ h => h) (Or.inl q1255)) <|
  fG mo_int (sim_bipush dX3_leads_107 (by decide)) <|
  fG mo_ild (sim_ild dX3_leads_109) <|
  fG mo_iadd (sim_iadd dX3_leads_111) <|
  fG mo_lda (sim_iald dX3_leads_112) <|
  fG mo_ifne (sim_ifne dX3_leads_113 rfl) <|
  fF
theorem fX3_leads_116 {X : tp_X} {az : Array Value} (hG : tp_Good X az) (hSt : tp_Stat X) : tp_Fit X yX3_leads cX3_leads (some .int) 7 tp_nm tp_by tp_ml tp_rtt 116 [o_ald (.aload_n 0) 0, o_ild (.iload 4) 4, o_ild (.iload 5) 5, o_cv (.invokevirtual 271) 3 kX3_pushed 2 0, o_ist (.istore 6) 6, o_ild (.iload 6) 6, o_iflt 52 180, o_ald (.aload_n 0) 0, o_getf (.getfield 53) 3 31, o_ild (.iload 6) 6, o_lda .iaload [0, 20], o_ifge 42 180, o_ald (.aload_n 0) 0, o_int (.sipush 504) 504, o_ild (.iload 6) 6, o_ald (.aload_n 0) 0, o_getf (.getfield 7) 3 3, o_int (.iconst 1) 1, o_lda .iaload [0, 20], o_ald (.aload_n 0) 0, o_getf (.getfield 7) 3 3, o_int (.iconst 0) 0, o_lda .iaload [0, 20], o_cv (.invokevirtual 302) 3 kX3_pushCost 4 0, o_ifge 6 168, o_goto 15 180] :=
  fG mo_ald (sim_ald_n dX3_leads_116 rfl) <|
  fG mo_ild (sim_ild dX3_leads_117) <|
  fG mo_ild (sim_ild dX3_leads_119) <|
  fC (ic_cv (Or.inl rfl)) (sim_cv hG dX3_leads_121 (hG.2.1 3 _ hc_3).2.1 M_X3_pushed (by rw [nm_X3_pushed]; rfl) (by rw [nm_X3_pushed]; exact q1598) (by rw [nm_X3_pushed]; exact q1600) (by rw [nm_X3_pushed]; exact qs77)) <|
  fG mo_ist (sim_ist dX3_leads_124) <|
  fG mo_ild (sim_ild dX3_leads_126) <|
  fG mo_iflt (sim_iflt dX3_leads_128 rfl) <|
  fG mo_ald (sim_ald_n dX3_leads_131 rfl) <|
  fG mo_getf (sim_getfG hG dX3_leads_132 hc_3 (by decide) rfl in_X3 (fun _ _ _ h => h) (Or.inl q1281)) <|
  fG mo_ild (sim_ild dX3_leads_135) <|
  fG mo_lda (sim_iald dX3_leads_137) <|
  fG mo_ifge (sim_ifge dX3_leads_138 rfl) <|
  fG mo_ald (sim_ald_n dX3_leads_141 rfl) <|
  fG mo_int (sim_sipush dX3_leads_142 (by decide)) <|
  fG mo_ild (sim_ild dX3_leads_145) <|
  fG mo_ald (sim_ald_n dX3_leads_147 rfl) <|
  fG mo_getf (sim_getfG hG dX3_leads_148 hc_3 (by decide) rfl in_X3 (fun _ _ _ h => h) (Or.inl q1255)) <|
  fG mo_int (sim_iconst dX3_leads_151 (by decide)) <|
  fG mo_lda (sim_iald dX3_leads_152) <|
  fG mo_ald (sim_ald_n dX3_leads_153 rfl) <|
  fG mo_getf (sim_getfG hG dX3_leads_154 hc_3 (by decide) rfl in_X3 (fun _ _ _ h => h) (Or.inl q1255)) <|
  fG mo_int (sim_iconst dX3_leads_157 (by decide)) <|
  fG mo_lda (sim_iald dX3_leads_158) <|
  fC (ic_cv (Or.inl rfl)) (sim_cv hG dX3_leads_159 (hG.2.1 3 _ hc_3).2.1 M_X3_pushCost (by rw [nm_X3_pushCost]; rfl) (by rw [nm_X3_pushCost]; exact q1606) (by rw [nm_X3_pushCost]; exact q1608) (by rw [nm_X3_pushCost]; exact qs79)) <|
  fG mo_ifge (sim_ifge dX3_leads_162 rfl) <|
  fG mo_goto (sim_goto dX3_leads_165 rfl) <|
  trivial
theorem fX3_leads_168 {X : tp_X} {az : Array Value} (hG : tp_Good X az) (hSt : tp_Stat X) : tp_Fit X yX3_leads cX3_leads (some .int) 7 tp_nm tp_by tp_ml tp_rtt 168 [o_ald (.aload_n 0) 0, o_getf (.getfield 53) 3 31, o_ild (.iload 6) 6, o_ild (.iload_n 3) 3, o_int (.iconst 1) 1, o_iadd, o_sta .iastore [0], o_int (.iconst 1) 1, o_ist (.istore_n 2) 2, o_fall 180] :=
  fG mo_ald (sim_ald_n dX3_leads_168 rfl) <|
  fG mo_getf (sim_getfG hG dX3_leads_169 hc_3 (by decide) rfl in_X3 (fun _ _ _ h => h) (Or.inl q1281)) <|
  fG mo_ild (sim_ild dX3_leads_172) <|
  fG mo_ild (sim_ild_n dX3_leads_174 rfl) <|
  fG mo_int (sim_iconst dX3_leads_175 (by decide)) <|
  fG mo_iadd (sim_iadd dX3_leads_176) <|
  fG mo_sta (sim_iast dX3_leads_177) <|
  fG mo_int (sim_iconst dX3_leads_178 (by decide)) <|
  fG mo_ist (sim_ist_n dX3_leads_179 rfl) <|
  fF
theorem fX3_leads_180 {X : tp_X} {az : Array Value} (hG : tp_Good X az) (hSt : tp_Stat X) : tp_Fit X yX3_leads cX3_leads (some .int) 7 tp_nm tp_by tp_ml tp_rtt 180 [o_inc 5 1, o_goto (-101) 82] :=
  fG mo_inc (sim_inc dX3_leads_180 (by decide)) <|
  fG mo_goto (sim_goto dX3_leads_183 rfl) <|
  trivial
theorem fX3_leads_186 {X : tp_X} {az : Array Value} (hG : tp_Good X az) (hSt : tp_Stat X) : tp_Fit X yX3_leads cX3_leads (some .int) 7 tp_nm tp_by tp_ml tp_rtt 186 [o_inc 4 1, o_goto (-119) 70] :=
  fG mo_inc (sim_inc dX3_leads_186 (by decide)) <|
  fG mo_goto (sim_goto dX3_leads_189 rfl) <|
  trivial
theorem fX3_leads_192 {X : tp_X} {az : Array Value} (hG : tp_Good X az) (hSt : tp_Stat X) : tp_Fit X yX3_leads cX3_leads (some .int) 7 tp_nm tp_by tp_ml tp_rtt 192 [o_inc 3 1, o_goto (-134) 61] :=
  fG mo_inc (sim_inc dX3_leads_192 (by decide)) <|
  fG mo_goto (sim_goto dX3_leads_195 rfl) <|
  trivial
theorem fX3_leads_198 {X : tp_X} {az : Array Value} (hG : tp_Good X az) (hSt : tp_Stat X) : tp_Fit X yX3_leads cX3_leads (some .int) 7 tp_nm tp_by tp_ml tp_rtt 198 [o_ild (.iload_n 1) 1, o_iflt 10 209, o_ald (.aload_n 0) 0, o_getf (.getfield 53) 3 31, o_ild (.iload_n 1) 1, o_lda .iaload [0, 20], o_iret 0] :=
  fG mo_ild (sim_ild_n dX3_leads_198 rfl) <|
  fG mo_iflt (sim_iflt dX3_leads_199 rfl) <|
  fG mo_ald (sim_ald_n dX3_leads_202 rfl) <|
  fG mo_getf (sim_getfG hG dX3_leads_203 hc_3 (by decide) rfl in_X3 (fun _ _ _ h => h) (Or.inl q1281)) <|
  fG mo_ild (sim_ild_n dX3_leads_206 rfl) <|
  fG mo_lda (sim_iald dX3_leads_207) <|
  fE ie_iret (sim_iret dX3_leads_208 rfl (Or.inl ⟨rfl, rfl⟩))
theorem fX3_leads_209 {X : tp_X} {az : Array Value} (hG : tp_Good X az) (hSt : tp_Stat X) : tp_Fit X yX3_leads cX3_leads (some .int) 7 tp_nm tp_by tp_ml tp_rtt 209 [o_int (.iconst 0) 0, o_ist (.istore_n 3) 3, o_int (.iconst 0) 0, o_ist (.istore 4) 4, o_fall 214] :=
  fG mo_int (sim_iconst dX3_leads_209 (by decide)) <|
  fG mo_ist (sim_ist_n dX3_leads_210 rfl) <|
  fG mo_int (sim_iconst dX3_leads_211 (by decide)) <|
  fG mo_ist (sim_ist dX3_leads_212) <|
  fF
theorem fX3_leads_214 {X : tp_X} {az : Array Value} (hG : tp_Good X az) (hSt : tp_Stat X) : tp_Fit X yX3_leads cX3_leads (some .int) 7 tp_nm tp_by tp_ml tp_rtt 214 [o_ild (.iload 4) 4, o_ald (.aload_n 0) 0, o_getf (.getfield 83) 3 2, o_icmpge 27 247, o_ild (.iload_n 3) 3, o_ald (.aload_n 0) 0, o_getf (.getfield 53) 3 31, o_ild (.iload 4) 4, o_lda .iaload [0, 20], o_iflt 7 238, o_int (.iconst 1) 1, o_goto 4 239] :=
  fG mo_ild (sim_ild dX3_leads_214) <|
  fG mo_ald (sim_ald_n dX3_leads_216 rfl) <|
  fG mo_getf (sim_getfG hG dX3_leads_217 hc_3 (by decide) rfl in_X3 (fun _ _ _ h => h) (Or.inl q1254)) <|
  fG mo_icmpge (sim_icmpge dX3_leads_220 rfl) <|
  fG mo_ild (sim_ild_n dX3_leads_223 rfl) <|
  fG mo_ald (sim_ald_n dX3_leads_224 rfl) <|
  fG mo_getf (sim_getfG hG dX3_leads_225 hc_3 (by decide) rfl in_X3 (fun _ _ _ h => h) (Or.inl q1281)) <|
  fG mo_ild (sim_ild dX3_leads_228) <|
  fG mo_lda (sim_iald dX3_leads_230) <|
  fG mo_iflt (sim_iflt dX3_leads_231 rfl) <|
  fG mo_int (sim_iconst dX3_leads_234 (by decide)) <|
  fG mo_goto (sim_goto dX3_leads_235 rfl) <|
  trivial
theorem fX3_leads_238 {X : tp_X} {az : Array Value} (hG : tp_Good X az) (hSt : tp_Stat X) : tp_Fit X yX3_leads cX3_leads (some .int) 7 tp_nm tp_by tp_ml tp_rtt 238 [o_int (.iconst 0) 0, o_fall 239] :=
  fG mo_int (sim_iconst dX3_leads_238 (by decide)) <|
  fF
theorem fX3_leads_239 {X : tp_X} {az : Array Value} (hG : tp_Good X az) (hSt : tp_Stat X) : tp_Fit X yX3_leads cX3_leads (some .int) 7 tp_nm tp_by tp_ml tp_rtt 239 [o_iadd, o_ist (.istore_n 3) 3, o_inc 4 1, o_goto (-30) 214] :=
  fG mo_iadd (sim_iadd dX3_leads_239) <|
  fG mo_ist (sim_ist_n dX3_leads_240 rfl) <|
  fG mo_inc (sim_inc dX3_leads_241 (by decide)) <|
  fG mo_goto (sim_goto dX3_leads_244 rfl) <|
  trivial
theorem fX3_leads_247 {X : tp_X} {az : Array Value} (hG : tp_Good X az) (hSt : tp_Stat X) : tp_Fit X yX3_leads cX3_leads (some .int) 7 tp_nm tp_by tp_ml tp_rtt 247 [o_ild (.iload_n 3) 3, o_iret 0] :=
  fG mo_ild (sim_ild_n dX3_leads_247 rfl) <|
  fE ie_iret (sim_iret dX3_leads_248 rfl (Or.inl ⟨rfl, rfl⟩))
theorem F_X3_leads {X : tp_X} {az : Array Value} (hG : tp_Good X az) (hSt : tp_Stat X) (pc : Nat) : tp_Fit X yX3_leads cX3_leads (some .int) 7 tp_nm tp_by tp_ml tp_rtt pc (mX3_leads pc) :=
  fI (fX3_leads_0 hG hSt) <| fI (fX3_leads_15 hG hSt) <| fI (fX3_leads_24 hG hSt) <| fI (fX3_leads_49 hG hSt) <| fI (fX3_leads_50 hG hSt) <| fI (fX3_leads_57 hG hSt) <| fI (fX3_leads_61 hG hSt) <| fI (fX3_leads_70 hG hSt) <| fI (fX3_leads_82 hG hSt) <| fI (fX3_leads_116 hG hSt) <| fI (fX3_leads_168 hG hSt) <| fI (fX3_leads_180 hG hSt) <| fI (fX3_leads_186 hG hSt) <| fI (fX3_leads_192 hG hSt) <| fI (fX3_leads_198 hG hSt) <| fI (fX3_leads_209 hG hSt) <| fI (fX3_leads_214 hG hSt) <| fI (fX3_leads_238 hG hSt) <| fI (fX3_leads_239 hG hSt) <| fI (fX3_leads_247 hG hSt) <| trivial
theorem fX3_prior_0 {X : tp_X} {az : Array Value} (hG : tp_Good X az) (hSt : tp_Stat X) : tp_Fit X yX3_prior cX3_prior (some .boolean) 3 tp_nm tp_by tp_ml tp_rtt 0 [o_ild (.iload_n 1) 1, o_int (.iconst 0) 0, o_int (.iconst 5) 5, o_cs (.invokestatic 90) kX3_isIn 3 0, o_ifeq 13 19, o_ild (.iload_n 2) 2, o_int (.iconst 0) 0, o_int (.bipush 9) 9, o_cs (.invokestatic 90) kX3_isIn 3 0, o_ifne 5 21, o_fall 19] :=
  fG mo_ild (sim_ild_n dX3_prior_0 rfl) <|
  fG mo_int (sim_iconst dX3_prior_1 (by decide)) <|
  fG mo_int (sim_iconst dX3_prior_2 (by decide)) <|
  fC (ic_cs (Or.inl rfl)) (sim_cs hG dX3_prior_3 M_X3_isIn (by rw [nm_X3_isIn]; rfl) (by rw [nm_X3_isIn]; exact q1400) (by rw [nm_X3_isIn]; exact q1401)) <|
  fG mo_ifeq (sim_ifeq dX3_prior_6 rfl) <|
  fG mo_ild (sim_ild_n dX3_prior_9 rfl) <|
  fG mo_int (sim_iconst dX3_prior_10 (by decide)) <|
  fG mo_int (sim_bipush dX3_prior_11 (by decide)) <|
  fC (ic_cs (Or.inl rfl)) (sim_cs hG dX3_prior_13 M_X3_isIn (by rw [nm_X3_isIn]; rfl) (by rw [nm_X3_isIn]; exact q1400) (by rw [nm_X3_isIn]; exact q1401)) <|
  fG mo_ifne (sim_ifne dX3_prior_16 rfl) <|
  fF
theorem fX3_prior_19 {X : tp_X} {az : Array Value} (hG : tp_Good X az) (hSt : tp_Stat X) : tp_Fit X yX3_prior cX3_prior (some .boolean) 3 tp_nm tp_by tp_ml tp_rtt 19 [o_int (.iconst 0) 0, o_iret 1] :=
  fG mo_int (sim_iconst dX3_prior_19 (by decide)) <|
  fE ie_iret (sim_iret dX3_prior_20 rfl (Or.inr (Or.inl ⟨rfl, rfl⟩)))
theorem fX3_prior_21 {X : tp_X} {az : Array Value} (hG : tp_Good X az) (hSt : tp_Stat X) : tp_Fit X yX3_prior cX3_prior (some .boolean) 3 tp_nm tp_by tp_ml tp_rtt 21 [o_ald (.aload_n 0) 0, o_getf (.getfield 7) 3 3, o_int (.sipush 210) 210, o_ild (.iload_n 1) 1, o_iadd, o_ild (.iload_n 2) 2, o_sta .iastore [0], o_int (.iconst 1) 1, o_iret 1] :=
  fG mo_ald (sim_ald_n dX3_prior_21 rfl) <|
  fG mo_getf (sim_getfG hG dX3_prior_22 hc_3 (by decide) rfl in_X3 (fun _ _ _ h => h) (Or.inl q1255)) <|
  fG mo_int (sim_sipush dX3_prior_25 (by decide)) <|
  fG mo_ild (sim_ild_n dX3_prior_28 rfl) <|
  fG mo_iadd (sim_iadd dX3_prior_29) <|
  fG mo_ild (sim_ild_n dX3_prior_30 rfl) <|
  fG mo_sta (sim_iast dX3_prior_31) <|
  fG mo_int (sim_iconst dX3_prior_32 (by decide)) <|
  fE ie_iret (sim_iret dX3_prior_33 rfl (Or.inr (Or.inl ⟨rfl, rfl⟩)))
theorem F_X3_prior {X : tp_X} {az : Array Value} (hG : tp_Good X az) (hSt : tp_Stat X) (pc : Nat) : tp_Fit X yX3_prior cX3_prior (some .boolean) 3 tp_nm tp_by tp_ml tp_rtt pc (mX3_prior pc) :=
  fI (fX3_prior_0 hG hSt) <| fI (fX3_prior_19 hG hSt) <| fI (fX3_prior_21 hG hSt) <| trivial
theorem fX3_look_2_0 {X : tp_X} {az : Array Value} (hG : tp_Good X az) (hSt : tp_Stat X) : tp_Fit X yX3_look_2 cX3_look_2 (some .int) 3 tp_nm tp_by tp_ml tp_rtt 0 [o_ald (.aload_n 0) 0, o_ild (.iload_n 1) 1, o_cv (.invokevirtual 98) 3 kX3_isCell 1 0, o_ifeq 24 29, o_ild (.iload_n 2) 2, o_int (.iconst 0) 0, o_int (.iconst 5) 5, o_cs (.invokestatic 90) kX3_isIn 3 0, o_ifeq 15 29, o_ald (.aload_n 0) 0, o_getf (.getfield 7) 3 3, o_int (.bipush 7) 7, o_lda .iaload [0, 20], o_int (.bipush 30) 30, o_icmpne 5 31, o_fall 29] :=
  fG mo_ald (sim_ald_n dX3_look_2_0 rfl) <|
  fG mo_ild (sim_ild_n dX3_look_2_1 rfl) <|
  fC (ic_cv (Or.inl rfl)) (sim_cv hG dX3_look_2_2 (hG.2.1 3 _ hc_3).2.1 M_X3_isCell (by rw [nm_X3_isCell]; rfl) (by rw [nm_X3_isCell]; exact q1396) (by rw [nm_X3_isCell]; exact q1398) (by rw [nm_X3_isCell]; exact qs50)) <|
  fG mo_ifeq (sim_ifeq dX3_look_2_5 rfl) <|
  fG mo_ild (sim_ild_n dX3_look_2_8 rfl) <|
  fG mo_int (sim_iconst dX3_look_2_9 (by decide)) <|
  fG mo_int (sim_iconst dX3_look_2_10 (by decide)) <|
  fC (ic_cs (Or.inl rfl)) (sim_cs hG dX3_look_2_11 M_X3_isIn (by rw [nm_X3_isIn]; rfl) (by rw [nm_X3_isIn]; exact q1400) (by rw [nm_X3_isIn]; exact q1401)) <|
  fG mo_ifeq (sim_ifeq dX3_look_2_14 rfl) <|
  fG mo_ald (sim_ald_n dX3_look_2_17 rfl) <|
  fG mo_getf (sim_getfG hG dX3_look_2_18 hc_3 (by decide) rfl in_X3 (fun _ _ _ h => h) (Or.inl q1255)) <|
  fG mo_int (sim_bipush dX3_look_2_21 (by decide)) <|
  fG mo_lda (sim_iald dX3_look_2_23) <|
  fG mo_int (sim_bipush dX3_look_2_24 (by decide)) <|
  fG mo_icmpne (sim_icmpne dX3_look_2_26 rfl) <|
  fF
theorem fX3_look_2_29 {X : tp_X} {az : Array Value} (hG : tp_Good X az) (hSt : tp_Stat X) : tp_Fit X yX3_look_2 cX3_look_2 (some .int) 3 tp_nm tp_by tp_ml tp_rtt 29 [o_int (.iconst (-1)) (-1), o_iret 0] :=
  fG mo_int (sim_iconst dX3_look_2_29 (by decide)) <|
  fE ie_iret (sim_iret dX3_look_2_30 rfl (Or.inl ⟨rfl, rfl⟩))
theorem fX3_look_2_31 {X : tp_X} {az : Array Value} (hG : tp_Good X az) (hSt : tp_Stat X) : tp_Fit X yX3_look_2 cX3_look_2 (some .int) 3 tp_nm tp_by tp_ml tp_rtt 31 [o_ald (.aload_n 0) 0, o_getf (.getfield 7) 3 3, o_int (.sipush 220) 220, o_int (.iconst 2) 2, o_ald (.aload_n 0) 0, o_getf (.getfield 7) 3 3, o_int (.bipush 7) 7, o_lda .iaload [0, 20], o_imul, o_iadd, o_ild (.iload_n 1) 1, o_sta .iastore [0], o_ald (.aload_n 0) 0, o_getf (.getfield 7) 3 3, o_int (.sipush 220) 220, o_int (.iconst 2) 2, o_ald (.aload_n 0) 0, o_getf (.getfield 7) 3 3, o_int (.bipush 7) 7, o_lda .iaload [0, 20], o_imul, o_iadd, o_int (.iconst 1) 1, o_iadd, o_ild (.iload_n 2) 2, o_sta .iastore [0], o_ald (.aload_n 0) 0, o_getf (.getfield 7) 3 3, o_int (.bipush 7) 7, o_dup2, o_lda .iaload [0, 20], o_int (.iconst 1) 1, o_iadd, o_sta .iastore [0], o_ald (.aload_n 0) 0, o_getf (.getfield 7) 3 3, o_int (.bipush 7) 7, o_lda .iaload [0, 20], o_iret 0] :=
  fG mo_ald (sim_ald_n dX3_look_2_31 rfl) <|
  fG mo_getf (sim_getfG hG dX3_look_2_32 hc_3 (by decide) rfl in_X3 (fun _ _ _ h => h) (Or.inl q1255)) <|
  fG mo_int (sim_sipush dX3_look_2_35 (by decide)) <|
  fG mo_int (sim_iconst dX3_look_2_38 (by decide)) <|
  fG mo_ald (sim_ald_n dX3_look_2_39 rfl) <|
  fG mo_getf (sim_getfG hG dX3_look_2_40 hc_3 (by decide) rfl in_X3 (fun _ _ _ h => h) (Or.inl q1255)) <|
  fG mo_int (sim_bipush dX3_look_2_43 (by decide)) <|
  fG mo_lda (sim_iald dX3_look_2_45) <|
  fG mo_imul (sim_imul dX3_look_2_46) <|
  fG mo_iadd (sim_iadd dX3_look_2_47) <|
  fG mo_ild (sim_ild_n dX3_look_2_48 rfl) <|
  fG mo_sta (sim_iast dX3_look_2_49) <|
  fG mo_ald (sim_ald_n dX3_look_2_50 rfl) <|
  fG mo_getf (sim_getfG hG dX3_look_2_51 hc_3 (by decide) rfl in_X3 (fun _ _ _ h => h) (Or.inl q1255)) <|
  fG mo_int (sim_sipush dX3_look_2_54 (by decide)) <|
  fG mo_int (sim_iconst dX3_look_2_57 (by decide)) <|
  fG mo_ald (sim_ald_n dX3_look_2_58 rfl) <|
  fG mo_getf (sim_getfG hG dX3_look_2_59 hc_3 (by decide) rfl in_X3 (fun _ _ _ h => h) (Or.inl q1255)) <|
  fG mo_int (sim_bipush dX3_look_2_62 (by decide)) <|
  fG mo_lda (sim_iald dX3_look_2_64) <|
  fG mo_imul (sim_imul dX3_look_2_65) <|
  fG mo_iadd (sim_iadd dX3_look_2_66) <|
  fG mo_int (sim_iconst dX3_look_2_67 (by decide)) <|
  fG mo_iadd (sim_iadd dX3_look_2_68) <|
  fG mo_ild (sim_ild_n dX3_look_2_69 rfl) <|
  fG mo_sta (sim_iast dX3_look_2_70) <|
  fG mo_ald (sim_ald_n dX3_look_2_71 rfl) <|
  fG mo_getf (sim_getfG hG dX3_look_2_72 hc_3 (by decide) rfl in_X3 (fun _ _ _ h => h) (Or.inl q1255)) <|
  fG mo_int (sim_bipush dX3_look_2_75 (by decide)) <|
  fG mo_dup2 (sim_dup2 dX3_look_2_77) <|
  fG mo_lda (sim_iald dX3_look_2_78) <|
  fG mo_int (sim_iconst dX3_look_2_79 (by decide)) <|
  fG mo_iadd (sim_iadd dX3_look_2_80) <|
  fG mo_sta (sim_iast dX3_look_2_81) <|
  fG mo_ald (sim_ald_n dX3_look_2_82 rfl) <|
  fG mo_getf (sim_getfG hG dX3_look_2_83 hc_3 (by decide) rfl in_X3 (fun _ _ _ h => h) (Or.inl q1255)) <|
  fG mo_int (sim_bipush dX3_look_2_86 (by decide)) <|
  fG mo_lda (sim_iald dX3_look_2_88) <|
  fE ie_iret (sim_iret dX3_look_2_89 rfl (Or.inl ⟨rfl, rfl⟩))
theorem F_X3_look_2 {X : tp_X} {az : Array Value} (hG : tp_Good X az) (hSt : tp_Stat X) (pc : Nat) : tp_Fit X yX3_look_2 cX3_look_2 (some .int) 3 tp_nm tp_by tp_ml tp_rtt pc (mX3_look_2 pc) :=
  fI (fX3_look_2_0 hG hSt) <| fI (fX3_look_2_29 hG hSt) <| fI (fX3_look_2_31 hG hSt) <| trivial
theorem fX3_think_0 {X : tp_X} {az : Array Value} (hG : tp_Good X az) (hSt : tp_Stat X) : tp_Fit X yX3_think cX3_think (some .int) 7 tp_nm tp_by tp_ml tp_rtt 0 [o_ald (.aload_n 0) 0, o_ild (.iload_n 1) 1, o_cv (.invokevirtual 98) 3 kX3_isCell 1 0, o_ifeq 12 17, o_ild (.iload_n 2) 2, o_int (.iconst (-1)) (-1), o_int (.iconst 5) 5, o_cs (.invokestatic 90) kX3_isIn 3 0, o_ifne 5 19, o_fall 17] :=
  fG mo_ald (sim_ald_n dX3_think_0 rfl) <|
  fG mo_ild (sim_ild_n dX3_think_1 rfl) <|
  fC (ic_cv (Or.inl rfl)) (sim_cv hG dX3_think_2 (hG.2.1 3 _ hc_3).2.1 M_X3_isCell (by rw [nm_X3_isCell]; rfl) (by rw [nm_X3_isCell]; exact q1396) (by rw [nm_X3_isCell]; exact q1398) (by rw [nm_X3_isCell]; exact qs50)) <|
  fG mo_ifeq (sim_ifeq dX3_think_5 rfl) <|
  fG mo_ild (sim_ild_n dX3_think_8 rfl) <|
  fG mo_int (sim_iconst dX3_think_9 (by decide)) <|
  fG mo_int (sim_iconst dX3_think_10 (by decide)) <|
  fC (ic_cs (Or.inl rfl)) (sim_cs hG dX3_think_11 M_X3_isIn (by rw [nm_X3_isIn]; rfl) (by rw [nm_X3_isIn]; exact q1400) (by rw [nm_X3_isIn]; exact q1401)) <|
  fG mo_ifne (sim_ifne dX3_think_14 rfl) <|
  fF
theorem fX3_think_17 {X : tp_X} {az : Array Value} (hG : tp_Good X az) (hSt : tp_Stat X) : tp_Fit X yX3_think cX3_think (some .int) 7 tp_nm tp_by tp_ml tp_rtt 17 [o_int (.iconst (-1)) (-1), o_iret 0] :=
  fG mo_int (sim_iconst dX3_think_17 (by decide)) <|
  fE ie_iret (sim_iret dX3_think_18 rfl (Or.inl ⟨rfl, rfl⟩))
theorem fX3_think_19 {X : tp_X} {az : Array Value} (hG : tp_Good X az) (hSt : tp_Stat X) : tp_Fit X yX3_think cX3_think (some .int) 7 tp_nm tp_by tp_ml tp_rtt 19 [o_int (.iconst 0) 0, o_ist (.istore_n 3) 3, o_int (.iconst 0) 0, o_ist (.istore 4) 4, o_fall 24] :=
  fG mo_int (sim_iconst dX3_think_19 (by decide)) <|
  fG mo_ist (sim_ist_n dX3_think_20 rfl) <|
  fG mo_int (sim_iconst dX3_think_21 (by decide)) <|
  fG mo_ist (sim_ist dX3_think_22) <|
  fF
theorem fX3_think_24 {X : tp_X} {az : Array Value} (hG : tp_Good X az) (hSt : tp_Stat X) : tp_Fit X yX3_think cX3_think (some .int) 7 tp_nm tp_by tp_ml tp_rtt 24 [o_ild (.iload 4) 4, o_ald (.aload_n 0) 0, o_getf (.getfield 7) 3 3, o_int (.bipush 7) 7, o_lda .iaload [0, 20], o_icmpge 34 67, o_ild (.iload_n 3) 3, o_ald (.aload_n 0) 0, o_getf (.getfield 7) 3 3, o_int (.sipush 220) 220, o_int (.iconst 2) 2, o_ild (.iload 4) 4, o_imul, o_iadd, o_lda .iaload [0, 20], o_ild (.iload_n 1) 1, o_icmpne 7 58, o_int (.iconst 1) 1, o_goto 4 59] :=
  fG mo_ild (sim_ild dX3_think_24) <|
  fG mo_ald (sim_ald_n dX3_think_26 rfl) <|
  fG mo_getf (sim_getfG hG dX3_think_27 hc_3 (by decide) rfl in_X3 (fun _ _ _ h => h) (Or.inl q1255)) <|
  fG mo_int (sim_bipush dX3_think_30 (by decide)) <|
  fG mo_lda (sim_iald dX3_think_32) <|
  fG mo_icmpge (sim_icmpge dX3_think_33 rfl) <|
  fG mo_ild (sim_ild_n dX3_think_36 rfl) <|
  fG mo_ald (sim_ald_n dX3_think_37 rfl) <|
  fG mo_getf (sim_getfG hG dX3_think_38 hc_3 (by decide) rfl in_X3 (fun _ _ _ h => h) (Or.inl q1255)) <|
  fG mo_int (sim_sipush dX3_think_41 (by decide)) <|
  fG mo_int (sim_iconst dX3_think_44 (by decide)) <|
  fG mo_ild (sim_ild dX3_think_45) <|
  fG mo_imul (sim_imul dX3_think_47) <|
  fG mo_iadd (sim_iadd dX3_think_48) <|
  fG mo_lda (sim_iald dX3_think_49) <|
  fG mo_ild (sim_ild_n dX3_think_50 rfl) <|
  fG mo_icmpne (sim_icmpne dX3_think_51 rfl) <|
  fG mo_int (sim_iconst dX3_think_54 (by decide)) <|
  fG mo_goto (sim_goto dX3_think_55 rfl) <|
  trivial
theorem fX3_think_58 {X : tp_X} {az : Array Value} (hG : tp_Good X az) (hSt : tp_Stat X) : tp_Fit X yX3_think cX3_think (some .int) 7 tp_nm tp_by tp_ml tp_rtt 58 [o_int (.iconst 0) 0, o_fall 59] :=
  fG mo_int (sim_iconst dX3_think_58 (by decide)) <|
  fF
theorem fX3_think_59 {X : tp_X} {az : Array Value} (hG : tp_Good X az) (hSt : tp_Stat X) : tp_Fit X yX3_think cX3_think (some .int) 7 tp_nm tp_by tp_ml tp_rtt 59 [o_iadd, o_ist (.istore_n 3) 3, o_inc 4 1, o_goto (-40) 24] :=
  fG mo_iadd (sim_iadd dX3_think_59) <|
  fG mo_ist (sim_ist_n dX3_think_60 rfl) <|
  fG mo_inc (sim_inc dX3_think_61 (by decide)) <|
  fG mo_goto (sim_goto dX3_think_64 rfl) <|
  trivial
theorem fX3_think_67 {X : tp_X} {az : Array Value} (hG : tp_Good X az) (hSt : tp_Stat X) : tp_Fit X yX3_think cX3_think (some .int) 7 tp_nm tp_by tp_ml tp_rtt 67 [o_ild (.iload_n 2) 2, o_ifge 5 73, o_ild (.iload_n 3) 3, o_iret 0] :=
  fG mo_ild (sim_ild_n dX3_think_67 rfl) <|
  fG mo_ifge (sim_ifge dX3_think_68 rfl) <|
  fG mo_ild (sim_ild_n dX3_think_71 rfl) <|
  fE ie_iret (sim_iret dX3_think_72 rfl (Or.inl ⟨rfl, rfl⟩))
theorem fX3_think_73 {X : tp_X} {az : Array Value} (hG : tp_Good X az) (hSt : tp_Stat X) : tp_Fit X yX3_think cX3_think (some .int) 7 tp_nm tp_by tp_ml tp_rtt 73 [o_lng (.lconst 0) 0, o_lst (.lstore 4) 4, o_int (.iconst 0) 0, o_ist (.istore 6) 6, o_fall 79] :=
  fG mo_lng (sim_lconst0 dX3_think_73) <|
  fG mo_lst (sim_lst dX3_think_74) <|
  fG mo_int (sim_iconst dX3_think_76 (by decide)) <|
  fG mo_ist (sim_ist dX3_think_77) <|
  fF
theorem fX3_think_79 {X : tp_X} {az : Array Value} (hG : tp_Good X az) (hSt : tp_Stat X) : tp_Fit X yX3_think cX3_think (some .int) 7 tp_nm tp_by tp_ml tp_rtt 79 [o_ild (.iload 6) 6, o_int (.bipush 6) 6, o_icmpge 21 104, o_lld (.lload 4) 4, o_ald (.aload_n 0) 0, o_ild (.iload_n 1) 1, o_ild (.iload 6) 6, o_cv (.invokevirtual 428) 3 kX3_weigh 2 0, o_ladd, o_lst (.lstore 4) 4, o_inc 6 1, o_goto (-22) 79] :=
  fG mo_ild (sim_ild dX3_think_79) <|
  fG mo_int (sim_bipush dX3_think_81 (by decide)) <|
  fG mo_icmpge (sim_icmpge dX3_think_83 rfl) <|
  fG mo_lld (sim_lld dX3_think_86) <|
  fG mo_ald (sim_ald_n dX3_think_88 rfl) <|
  fG mo_ild (sim_ild_n dX3_think_89 rfl) <|
  fG mo_ild (sim_ild dX3_think_90) <|
  fC (ic_cv (Or.inl rfl)) (sim_cv hG dX3_think_92 (hG.2.1 3 _ hc_3).2.1 M_X3_weigh (by rw [nm_X3_weigh]; rfl) (by rw [nm_X3_weigh]; exact q1848) (by rw [nm_X3_weigh]; exact q1850) (by rw [nm_X3_weigh]; exact qs117)) <|
  fG mo_ladd (sim_ladd dX3_think_95) <|
  fG mo_lst (sim_lst dX3_think_96) <|
  fG mo_inc (sim_inc dX3_think_98 (by decide)) <|
  fG mo_goto (sim_goto dX3_think_101 rfl) <|
  trivial
theorem fX3_think_104 {X : tp_X} {az : Array Value} (hG : tp_Good X az) (hSt : tp_Stat X) : tp_Fit X yX3_think cX3_think (some .int) 7 tp_nm tp_by tp_ml tp_rtt 104 [o_lld (.lload 4) 4, o_lng (.lconst 0) 0, o_lcmp, o_ifne 7 115, o_int (.iconst (-1)) (-1), o_goto 17 129] :=
  fG mo_lld (sim_lld dX3_think_104) <|
  fG mo_lng (sim_lconst0 dX3_think_106) <|
  fG mo_lcmp (sim_lcmp dX3_think_107) <|
  fG mo_ifne (sim_ifne dX3_think_108 rfl) <|
  fG mo_int (sim_iconst dX3_think_111 (by decide)) <|
  fG mo_goto (sim_goto dX3_think_112 rfl) <|
  trivial
theorem fX3_think_115 {X : tp_X} {az : Array Value} (hG : tp_Good X az) (hSt : tp_Stat X) : tp_Fit X yX3_think cX3_think (some .int) 7 tp_nm tp_by tp_ml tp_rtt 115 [o_lng (.ldc2_w 432) 1000, o_ald (.aload_n 0) 0, o_ild (.iload_n 1) 1, o_ild (.iload_n 2) 2, o_cv (.invokevirtual 428) 3 kX3_weigh 2 0, o_lmul, o_lld (.lload 4) 4, o_ldiv, o_l2i, o_fall 129] :=
  fG mo_lng (sim_ldc2 hG dX3_think_115 q1853 rfl) <|
  fG mo_ald (sim_ald_n dX3_think_118 rfl) <|
  fG mo_ild (sim_ild_n dX3_think_119 rfl) <|
  fG mo_ild (sim_ild_n dX3_think_120 rfl) <|
  fC (ic_cv (Or.inl rfl)) (sim_cv hG dX3_think_121 (hG.2.1 3 _ hc_3).2.1 M_X3_weigh (by rw [nm_X3_weigh]; rfl) (by rw [nm_X3_weigh]; exact q1848) (by rw [nm_X3_weigh]; exact q1850) (by rw [nm_X3_weigh]; exact qs117)) <|
  fG mo_lmul (sim_lmul dX3_think_124) <|
  fG mo_lld (sim_lld dX3_think_125) <|
  fG mo_ldiv (sim_ldiv dX3_think_127) <|
  fG mo_l2i (sim_l2i dX3_think_128) <|
  fF
theorem fX3_think_129 {X : tp_X} {az : Array Value} (hG : tp_Good X az) (hSt : tp_Stat X) : tp_Fit X yX3_think cX3_think (some .int) 7 tp_nm tp_by tp_ml tp_rtt 129 [o_iret 0] :=
  fE ie_iret (sim_iret dX3_think_129 rfl (Or.inl ⟨rfl, rfl⟩))
theorem F_X3_think {X : tp_X} {az : Array Value} (hG : tp_Good X az) (hSt : tp_Stat X) (pc : Nat) : tp_Fit X yX3_think cX3_think (some .int) 7 tp_nm tp_by tp_ml tp_rtt pc (mX3_think pc) :=
  fI (fX3_think_0 hG hSt) <| fI (fX3_think_17 hG hSt) <| fI (fX3_think_19 hG hSt) <| fI (fX3_think_24 hG hSt) <| fI (fX3_think_58 hG hSt) <| fI (fX3_think_59 hG hSt) <| fI (fX3_think_67 hG hSt) <| fI (fX3_think_73 hG hSt) <| fI (fX3_think_79 hG hSt) <| fI (fX3_think_104 hG hSt) <| fI (fX3_think_115 hG hSt) <| fI (fX3_think_129 hG hSt) <| trivial
theorem fX3_weigh_0 {X : tp_X} {az : Array Value} (hG : tp_Good X az) (hSt : tp_Stat X) : tp_Fit X yX3_weigh cX3_weigh (some .long) 8 tp_nm tp_by tp_ml tp_rtt 0 [o_ald (.aload_n 0) 0, o_getf (.getfield 7) 3 3, o_int (.sipush 210) 210, o_ild (.iload_n 2) 2, o_iadd, o_lda .iaload [0, 20], o_i2l, o_lst (.lstore_n 3) 3, o_int (.iconst 0) 0, o_ist (.istore 5) 5, o_ald (.aload_n 0) 0, o_getf (.getfield 7) 3 3, o_int (.bipush 7) 7, o_lda .iaload [0, 20], o_int (.iconst 1) 1, o_isub, o_ist (.istore 6) 6, o_fall 26] :=
  fG mo_ald (sim_ald_n dX3_weigh_0 rfl) <|
  fG mo_getf (sim_getfG hG dX3_weigh_1 hc_3 (by decide) rfl in_X3 (fun _ _ _ h => h) (Or.inl q1255)) <|
  fG mo_int (sim_sipush dX3_weigh_4 (by decide)) <|
  fG mo_ild (sim_ild_n dX3_weigh_7 rfl) <|
  fG mo_iadd (sim_iadd dX3_weigh_8) <|
  fG mo_lda (sim_iald dX3_weigh_9) <|
  fG mo_i2l (sim_i2l dX3_weigh_10) <|
  fG mo_lst (sim_lst_n dX3_weigh_11 rfl) <|
  fG mo_int (sim_iconst dX3_weigh_12 (by decide)) <|
  fG mo_ist (sim_ist dX3_weigh_13) <|
  fG mo_ald (sim_ald_n dX3_weigh_15 rfl) <|
  fG mo_getf (sim_getfG hG dX3_weigh_16 hc_3 (by decide) rfl in_X3 (fun _ _ _ h => h) (Or.inl q1255)) <|
  fG mo_int (sim_bipush dX3_weigh_19 (by decide)) <|
  fG mo_lda (sim_iald dX3_weigh_21) <|
  fG mo_int (sim_iconst dX3_weigh_22 (by decide)) <|
  fG mo_isub (sim_isub dX3_weigh_23) <|
  fG mo_ist (sim_ist dX3_weigh_24) <|
  fF
theorem fX3_weigh_26 {X : tp_X} {az : Array Value} (hG : tp_Good X az) (hSt : tp_Stat X) : tp_Fit X yX3_weigh cX3_weigh (some .long) 8 tp_nm tp_by tp_ml tp_rtt 26 [o_ild (.iload 6) 6, o_iflt 89 117, o_ild (.iload 5) 5, o_int (.bipush 12) 12, o_icmpge 82 117, o_ald (.aload_n 0) 0, o_getf (.getfield 7) 3 3, o_int (.sipush 220) 220, o_int (.iconst 2) 2, o_ild (.iload 6) 6, o_imul, o_iadd, o_lda .iaload [0, 20], o_ild (.iload_n 1) 1, o_icmpeq 6 58, o_goto 56 111] :=
  fG mo_ild (sim_ild dX3_weigh_26) <|
  fG mo_iflt (sim_iflt dX3_weigh_28 rfl) <|
  fG mo_ild (sim_ild dX3_weigh_31) <|
  fG mo_int (sim_bipush dX3_weigh_33 (by decide)) <|
  fG mo_icmpge (sim_icmpge dX3_weigh_35 rfl) <|
  fG mo_ald (sim_ald_n dX3_weigh_38 rfl) <|
  fG mo_getf (sim_getfG hG dX3_weigh_39 hc_3 (by decide) rfl in_X3 (fun _ _ _ h => h) (Or.inl q1255)) <|
  fG mo_int (sim_sipush dX3_weigh_42 (by decide)) <|
  fG mo_int (sim_iconst dX3_weigh_45 (by decide)) <|
  fG mo_ild (sim_ild dX3_weigh_46) <|
  fG mo_imul (sim_imul dX3_weigh_48) <|
  fG mo_iadd (sim_iadd dX3_weigh_49) <|
  fG mo_lda (sim_iald dX3_weigh_50) <|
  fG mo_ild (sim_ild_n dX3_weigh_51 rfl) <|
  fG mo_icmpeq (sim_icmpeq dX3_weigh_52 rfl) <|
  fG mo_goto (sim_goto dX3_weigh_55 rfl) <|
  trivial
theorem fX3_weigh_58 {X : tp_X} {az : Array Value} (hG : tp_Good X az) (hSt : tp_Stat X) : tp_Fit X yX3_weigh cX3_weigh (some .long) 8 tp_nm tp_by tp_ml tp_rtt 58 [o_inc 5 1, o_ald (.aload_n 0) 0, o_getf (.getfield 7) 3 3, o_int (.sipush 220) 220, o_int (.iconst 2) 2, o_ild (.iload 6) 6, o_imul, o_iadd, o_int (.iconst 1) 1, o_iadd, o_lda .iaload [0, 20], o_ild (.iload_n 2) 2, o_isub, o_ist (.istore 7) 7, o_lld (.lload_n 3) 3, o_ild (.iload 7) 7, o_ifne 9 92, o_lng (.ldc2_w 426) 8, o_goto 20 109] :=
  fG mo_inc (sim_inc dX3_weigh_58 (by decide)) <|
  fG mo_ald (sim_ald_n dX3_weigh_61 rfl) <|
  fG mo_getf (sim_getfG hG dX3_weigh_62 hc_3 (by decide) rfl in_X3 (fun _ _ _ h => h) (Or.inl q1255)) <|
  fG mo_int (sim_sipush dX3_weigh_65 (by decide)) <|
  fG mo_int (sim_iconst dX3_weigh_68 (by decide)) <|
  fG mo_ild (sim_ild dX3_weigh_69) <|
  fG mo_imul (sim_imul dX3_weigh_71) <|
  fG mo_iadd (sim_iadd dX3_weigh_72) <|
  fG mo_int (sim_iconst dX3_weigh_73 (by decide)) <|
  fG mo_iadd (sim_iadd dX3_weigh_74) <|
  fG mo_lda (sim_iald dX3_weigh_75) <|
  fG mo_ild (sim_ild_n dX3_weigh_76 rfl) <|
  fG mo_isub (sim_isub dX3_weigh_77) <|
  fG mo_ist (sim_ist dX3_weigh_78) <|
  fG mo_lld (sim_lld_n dX3_weigh_80 rfl) <|
  fG mo_ild (sim_ild dX3_weigh_81) <|
  fG mo_ifne (sim_ifne dX3_weigh_83 rfl) <|
  fG mo_lng (sim_ldc2 hG dX3_weigh_86 q1852 rfl) <|
  fG mo_goto (sim_goto dX3_weigh_89 rfl) <|
  trivial
theorem fX3_weigh_92 {X : tp_X} {az : Array Value} (hG : tp_Good X az) (hSt : tp_Stat X) : tp_Fit X yX3_weigh cX3_weigh (some .long) 8 tp_nm tp_by tp_ml tp_rtt 92 [o_ild (.iload 7) 7, o_int (.iconst 1) 1, o_icmpeq 9 104, o_ild (.iload 7) 7, o_int (.iconst (-1)) (-1), o_icmpne 7 108, o_fall 104] :=
  fG mo_ild (sim_ild dX3_weigh_92) <|
  fG mo_int (sim_iconst dX3_weigh_94 (by decide)) <|
  fG mo_icmpeq (sim_icmpeq dX3_weigh_95 rfl) <|
  fG mo_ild (sim_ild dX3_weigh_98) <|
  fG mo_int (sim_iconst dX3_weigh_100 (by decide)) <|
  fG mo_icmpne (sim_icmpne dX3_weigh_101 rfl) <|
  fF
theorem fX3_weigh_104 {X : tp_X} {az : Array Value} (hG : tp_Good X az) (hSt : tp_Stat X) : tp_Fit X yX3_weigh cX3_weigh (some .long) 8 tp_nm tp_by tp_ml tp_rtt 104 [o_lng (.lconst 1) 1, o_goto 4 109] :=
  fG mo_lng (sim_lconst1 dX3_weigh_104) <|
  fG mo_goto (sim_goto dX3_weigh_105 rfl) <|
  trivial
theorem fX3_weigh_108 {X : tp_X} {az : Array Value} (hG : tp_Good X az) (hSt : tp_Stat X) : tp_Fit X yX3_weigh cX3_weigh (some .long) 8 tp_nm tp_by tp_ml tp_rtt 108 [o_lng (.lconst 0) 0, o_fall 109] :=
  fG mo_lng (sim_lconst0 dX3_weigh_108) <|
  fF
theorem fX3_weigh_109 {X : tp_X} {az : Array Value} (hG : tp_Good X az) (hSt : tp_Stat X) : tp_Fit X yX3_weigh cX3_weigh (some .long) 8 tp_nm tp_by tp_ml tp_rtt 109 [o_lmul, o_lst (.lstore_n 3) 3, o_fall 111] :=
  fG mo_lmul (sim_lmul dX3_weigh_109) <|
  fG mo_lst (sim_lst_n dX3_weigh_110 rfl) <|
  fF
theorem fX3_weigh_111 {X : tp_X} {az : Array Value} (hG : tp_Good X az) (hSt : tp_Stat X) : tp_Fit X yX3_weigh cX3_weigh (some .long) 8 tp_nm tp_by tp_ml tp_rtt 111 [o_inc 6 (-1), o_goto (-88) 26] :=
  fG mo_inc (sim_inc dX3_weigh_111 (by decide)) <|
  fG mo_goto (sim_goto dX3_weigh_114 rfl) <|
  trivial
theorem fX3_weigh_117 {X : tp_X} {az : Array Value} (hG : tp_Good X az) (hSt : tp_Stat X) : tp_Fit X yX3_weigh cX3_weigh (some .long) 8 tp_nm tp_by tp_ml tp_rtt 117 [o_lld (.lload_n 3) 3, o_lret] :=
  fG mo_lld (sim_lld_n dX3_weigh_117 rfl) <|
  fE ie_lret (sim_lret dX3_weigh_118 rfl)
theorem F_X3_weigh {X : tp_X} {az : Array Value} (hG : tp_Good X az) (hSt : tp_Stat X) (pc : Nat) : tp_Fit X yX3_weigh cX3_weigh (some .long) 8 tp_nm tp_by tp_ml tp_rtt pc (mX3_weigh pc) :=
  fI (fX3_weigh_0 hG hSt) <| fI (fX3_weigh_26 hG hSt) <| fI (fX3_weigh_58 hG hSt) <| fI (fX3_weigh_92 hG hSt) <| fI (fX3_weigh_104 hG hSt) <| fI (fX3_weigh_108 hG hSt) <| fI (fX3_weigh_109 hG hSt) <| fI (fX3_weigh_111 hG hSt) <| fI (fX3_weigh_117 hG hSt) <| trivial
theorem fX3_run_0 {X : tp_X} {az : Array Value} (hG : tp_Good X az) (hSt : tp_Stat X) : tp_Fit X yX3_run cX3_run (some .int) 5 tp_nm tp_by tp_ml tp_rtt 0 [o_ald (.aload_n 0) 0, o_ild (.iload_n 1) 1, o_cv (.invokevirtual 464) 3 kX3_isText 1 0, o_ifeq 42 47, o_ild (.iload_n 2) 2, o_int (.iconst 0) 0, o_int (.sipush 9999) 9999, o_cs (.invokestatic 90) kX3_isIn 3 0, o_ifeq 31 47, o_ild (.iload_n 3) 3, o_int (.iconst 1) 1, o_int (.bipush 40) 40, o_cs (.invokestatic 90) kX3_isIn 3 0, o_ifeq 21 47, o_ild (.iload 4) 4, o_int (.iconst 0) 0, o_int (.iconst 3) 3, o_cs (.invokestatic 90) kX3_isIn 3 0, o_ifeq 11 47, o_ald (.aload_n 0) 0, o_int (.iconst 0) 0, o_cv (.invokevirtual 313) 3 kX3_isFree 1 0, o_ifne 5 49, o_fall 47] :=
  fG mo_ald (sim_ald_n dX3_run_0 rfl) <|
  fG mo_ild (sim_ild_n dX3_run_1 rfl) <|
  fC (ic_cv (Or.inl rfl)) (sim_cv hG dX3_run_2 (hG.2.1 3 _ hc_3).2.1 M_X3_isText (by rw [nm_X3_isText]; rfl) (by rw [nm_X3_isText]; exact q1858) (by rw [nm_X3_isText]; exact q1860) (by rw [nm_X3_isText]; exact qs118)) <|
  fG mo_ifeq (sim_ifeq dX3_run_5 rfl) <|
  fG mo_ild (sim_ild_n dX3_run_8 rfl) <|
  fG mo_int (sim_iconst dX3_run_9 (by decide)) <|
  fG mo_int (sim_sipush dX3_run_10 (by decide)) <|
  fC (ic_cs (Or.inl rfl)) (sim_cs hG dX3_run_13 M_X3_isIn (by rw [nm_X3_isIn]; rfl) (by rw [nm_X3_isIn]; exact q1400) (by rw [nm_X3_isIn]; exact q1401)) <|
  fG mo_ifeq (sim_ifeq dX3_run_16 rfl) <|
  fG mo_ild (sim_ild_n dX3_run_19 rfl) <|
  fG mo_int (sim_iconst dX3_run_20 (by decide)) <|
  fG mo_int (sim_bipush dX3_run_21 (by decide)) <|
  fC (ic_cs (Or.inl rfl)) (sim_cs hG dX3_run_23 M_X3_isIn (by rw [nm_X3_isIn]; rfl) (by rw [nm_X3_isIn]; exact q1400) (by rw [nm_X3_isIn]; exact q1401)) <|
  fG mo_ifeq (sim_ifeq dX3_run_26 rfl) <|
  fG mo_ild (sim_ild dX3_run_29) <|
  fG mo_int (sim_iconst dX3_run_31 (by decide)) <|
  fG mo_int (sim_iconst dX3_run_32 (by decide)) <|
  fC (ic_cs (Or.inl rfl)) (sim_cs hG dX3_run_33 M_X3_isIn (by rw [nm_X3_isIn]; rfl) (by rw [nm_X3_isIn]; exact q1400) (by rw [nm_X3_isIn]; exact q1401)) <|
  fG mo_ifeq (sim_ifeq dX3_run_36 rfl) <|
  fG mo_ald (sim_ald_n dX3_run_39 rfl) <|
  fG mo_int (sim_iconst dX3_run_40 (by decide)) <|
  fC (ic_cv (Or.inl rfl)) (sim_cv hG dX3_run_41 (hG.2.1 3 _ hc_3).2.1 M_X3_isFree (by rw [nm_X3_isFree]; rfl) (by rw [nm_X3_isFree]; exact q1582) (by rw [nm_X3_isFree]; exact q1584) (by rw [nm_X3_isFree]; exact qs73)) <|
  fG mo_ifne (sim_ifne dX3_run_44 rfl) <|
  fF
theorem fX3_run_47 {X : tp_X} {az : Array Value} (hG : tp_Good X az) (hSt : tp_Stat X) : tp_Fit X yX3_run cX3_run (some .int) 5 tp_nm tp_by tp_ml tp_rtt 47 [o_int (.iconst (-1)) (-1), o_iret 0] :=
  fG mo_int (sim_iconst dX3_run_47 (by decide)) <|
  fE ie_iret (sim_iret dX3_run_48 rfl (Or.inl ⟨rfl, rfl⟩))
theorem fX3_run_49 {X : tp_X} {az : Array Value} (hG : tp_Good X az) (hSt : tp_Stat X) : tp_Fit X yX3_run cX3_run (some .int) 5 tp_nm tp_by tp_ml tp_rtt 49 [o_ald (.aload_n 0) 0, o_ild (.iload_n 1) 1, o_ild (.iload_n 2) 2, o_ild (.iload_n 3) 3, o_cv (.invokevirtual 467) 3 kX3_runAll 3 0, o_ild (.iload 4) 4, o_ifne 10 68, o_ald (.aload_n 0) 0, o_getf (.getfield 452) 3 44, o_goto 33 98] :=
  fG mo_ald (sim_ald_n dX3_run_49 rfl) <|
  fG mo_ild (sim_ild_n dX3_run_50 rfl) <|
  fG mo_ild (sim_ild_n dX3_run_51 rfl) <|
  fG mo_ild (sim_ild_n dX3_run_52 rfl) <|
  fC (ic_cv (Or.inl rfl)) (sim_cv hG dX3_run_53 (hG.2.1 3 _ hc_3).2.1 M_X3_runAll (by rw [nm_X3_runAll]; rfl) (by rw [nm_X3_runAll]; exact q1862) (by rw [nm_X3_runAll]; exact q1864) (by rw [nm_X3_runAll]; exact qs119)) <|
  fG mo_ild (sim_ild dX3_run_56) <|
  fG mo_ifne (sim_ifne dX3_run_58 rfl) <|
  fG mo_ald (sim_ald_n dX3_run_61 rfl) <|
  fG mo_getf (sim_getfG hG dX3_run_62 hc_3 (by decide) rfl in_X3 (fun _ _ _ h => h) (Or.inl q1294)) <|
  fG mo_goto (sim_goto dX3_run_65 rfl) <|
  trivial
theorem fX3_run_68 {X : tp_X} {az : Array Value} (hG : tp_Good X az) (hSt : tp_Stat X) : tp_Fit X yX3_run cX3_run (some .int) 5 tp_nm tp_by tp_ml tp_rtt 68 [o_ild (.iload 4) 4, o_int (.iconst 1) 1, o_icmpne 10 81, o_ald (.aload_n 0) 0, o_getf (.getfield 446) 3 45, o_goto 20 98] :=
  fG mo_ild (sim_ild dX3_run_68) <|
  fG mo_int (sim_iconst dX3_run_70 (by decide)) <|
  fG mo_icmpne (sim_icmpne dX3_run_71 rfl) <|
  fG mo_ald (sim_ald_n dX3_run_74 rfl) <|
  fG mo_getf (sim_getfG hG dX3_run_75 hc_3 (by decide) rfl in_X3 (fun _ _ _ h => h) (Or.inl q1295)) <|
  fG mo_goto (sim_goto dX3_run_78 rfl) <|
  trivial
theorem fX3_run_81 {X : tp_X} {az : Array Value} (hG : tp_Good X az) (hSt : tp_Stat X) : tp_Fit X yX3_run cX3_run (some .int) 5 tp_nm tp_by tp_ml tp_rtt 81 [o_ild (.iload 4) 4, o_int (.iconst 2) 2, o_icmpne 10 94, o_ald (.aload_n 0) 0, o_getf (.getfield 434) 3 41, o_goto 7 98] :=
  fG mo_ild (sim_ild dX3_run_81) <|
  fG mo_int (sim_iconst dX3_run_83 (by decide)) <|
  fG mo_icmpne (sim_icmpne dX3_run_84 rfl) <|
  fG mo_ald (sim_ald_n dX3_run_87 rfl) <|
  fG mo_getf (sim_getfG hG dX3_run_88 hc_3 (by decide) rfl in_X3 (fun _ _ _ h => h) (Or.inl q1291)) <|
  fG mo_goto (sim_goto dX3_run_91 rfl) <|
  trivial
theorem fX3_run_94 {X : tp_X} {az : Array Value} (hG : tp_Good X az) (hSt : tp_Stat X) : tp_Fit X yX3_run cX3_run (some .int) 5 tp_nm tp_by tp_ml tp_rtt 94 [o_ald (.aload_n 0) 0, o_getf (.getfield 437) 3 42, o_fall 98] :=
  fG mo_ald (sim_ald_n dX3_run_94 rfl) <|
  fG mo_getf (sim_getfG hG dX3_run_95 hc_3 (by decide) rfl in_X3 (fun _ _ _ h => h) (Or.inl q1292)) <|
  fF
theorem fX3_run_98 {X : tp_X} {az : Array Value} (hG : tp_Good X az) (hSt : tp_Stat X) : tp_Fit X yX3_run cX3_run (some .int) 5 tp_nm tp_by tp_ml tp_rtt 98 [o_iret 0] :=
  fE ie_iret (sim_iret dX3_run_98 rfl (Or.inl ⟨rfl, rfl⟩))
theorem F_X3_run {X : tp_X} {az : Array Value} (hG : tp_Good X az) (hSt : tp_Stat X) (pc : Nat) : tp_Fit X yX3_run cX3_run (some .int) 5 tp_nm tp_by tp_ml tp_rtt pc (mX3_run pc) :=
  fI (fX3_run_0 hG hSt) <| fI (fX3_run_47 hG hSt) <| fI (fX3_run_49 hG hSt) <| fI (fX3_run_68 hG hSt) <| fI (fX3_run_81 hG hSt) <| fI (fX3_run_94 hG hSt) <| fI (fX3_run_98 hG hSt) <| trivial
theorem fX3_isText_0 {X : tp_X} {az : Array Value} (hG : tp_Good X az) (hSt : tp_Stat X) : tp_Fit X yX3_isText cX3_isText (some .boolean) 2 tp_nm tp_by tp_ml tp_rtt 0 [o_ild (.iload_n 1) 1, o_int (.iconst 0) 0, o_ald (.aload_n 0) 0, o_getf (.getfield 7) 3 3, o_int (.iconst 2) 2, o_lda .iaload [0, 20], o_int (.iconst 1) 1, o_isub, o_cs (.invokestatic 90) kX3_isIn 3 0, o_iret 1] :=
  fG mo_ild (sim_ild_n dX3_isText_0 rfl) <|
  fG mo_int (sim_iconst dX3_isText_1 (by decide)) <|
  fG mo_ald (sim_ald_n dX3_isText_2 rfl) <|
  fG mo_getf (sim_getfG hG dX3_isText_3 hc_3 (by decide) rfl in_X3 (fun _ _ _ h => h) (Or.inl q1255)) <|
  fG mo_int (sim_iconst dX3_isText_6 (by decide)) <|
  fG mo_lda (sim_iald dX3_isText_7) <|
  fG mo_int (sim_iconst dX3_isText_8 (by decide)) <|
  fG mo_isub (sim_isub dX3_isText_9) <|
  fC (ic_cs (Or.inl rfl)) (sim_cs hG dX3_isText_10 M_X3_isIn (by rw [nm_X3_isIn]; rfl) (by rw [nm_X3_isIn]; exact q1400) (by rw [nm_X3_isIn]; exact q1401)) <|
  fE ie_iret (sim_iret dX3_isText_13 rfl (Or.inr (Or.inl ⟨rfl, rfl⟩)))
theorem F_X3_isText {X : tp_X} {az : Array Value} (hG : tp_Good X az) (hSt : tp_Stat X) (pc : Nat) : tp_Fit X yX3_isText cX3_isText (some .boolean) 2 tp_nm tp_by tp_ml tp_rtt pc (mX3_isText pc) :=
  fI (fX3_isText_0 hG hSt) <| trivial
theorem fX3_runAll_0 {X : tp_X} {az : Array Value} (hG : tp_Good X az) (hSt : tp_Stat X) : tp_Fit X yX3_runAll cX3_runAll none 6 tp_nm tp_by tp_ml tp_rtt 0 [o_ald (.aload_n 0) 0, o_ald (.aload_n 0) 0, o_cv (.invokevirtual 367) 3 kX3_shipCell 0 0, o_putf (.putfield 434) 3 41 0, o_ald (.aload_n 0) 0, o_ald (.aload_n 0) 0, o_cv (.invokevirtual 370) 3 kX3_shipCoal 0 0, o_putf (.putfield 437) 3 42 0, o_ald (.aload_n 0) 0, o_ald (.aload_n 0) 0, o_cv (.invokevirtual 373) 3 kX3_shipBanked 0 0, o_putf (.putfield 440) 3 43 0, o_ald (.aload_n 0) 0, o_int (.iconst 0) 0, o_putf (.putfield 452) 3 44 0, o_ald (.aload_n 0) 0, o_int (.iconst 0) 0, o_putf (.putfield 446) 3 45 0, o_ald (.aload_n 0) 0, o_ald (.aload_n 0) 0, o_getf (.getfield 7) 3 3, o_int (.iconst 1) 1, o_lda .iaload [0, 20], o_putf (.putfield 443) 3 46 0, o_ald (.aload_n 0) 0, o_int (.sipush 612) 612, o_cv (.invokevirtual 316) 3 kX3_layNow 1 0, o_ild (.iload_n 2) 2, o_int (.bipush 7) 7, o_imul, o_int (.iconst 3) 3, o_iadd, o_ist (.istore 4) 4, o_fall 59] :=
  fG mo_ald (sim_ald_n dX3_runAll_0 rfl) <|
  fG mo_ald (sim_ald_n dX3_runAll_1 rfl) <|
  fC (ic_cv (Or.inl rfl)) (sim_cv hG dX3_runAll_2 (hG.2.1 3 _ hc_3).2.1 M_X3_shipCell (by rw [nm_X3_shipCell]; rfl) (by rw [nm_X3_shipCell]; exact q1728) (by rw [nm_X3_shipCell]; exact q1730) (by rw [nm_X3_shipCell]; exact qs100)) <|
  fG mo_putf (sim_putf hG dX3_runAll_5 hc_3 (by decide) rfl (by decide) in_X3 tyX3_ok nmX3 (Or.inl ⟨rfl, rfl⟩) (fun _ _ _ h => h) rfl q1291) <|
  fG mo_ald (sim_ald_n dX3_runAll_8 rfl) <|
  fG mo_ald (sim_ald_n dX3_runAll_9 rfl) <|
  fC (ic_cv (Or.inl rfl)) (sim_cv hG dX3_runAll_10 (hG.2.1 3 _ hc_3).2.1 M_X3_shipCoal (by rw [nm_X3_shipCoal]; rfl) (by rw [nm_X3_shipCoal]; exact q1732) (by rw [nm_X3_shipCoal]; exact q1734) (by rw [nm_X3_shipCoal]; exact qs101)) <|
  fG mo_putf (sim_putf hG dX3_runAll_13 hc_3 (by decide) rfl (by decide) in_X3 tyX3_ok nmX3 (Or.inl ⟨rfl, rfl⟩) (fun _ _ _ h => h) rfl q1292) <|
  fG mo_ald (sim_ald_n dX3_runAll_16 rfl) <|
  fG mo_ald (sim_ald_n dX3_runAll_17 rfl) <|
  fC (ic_cv (Or.inl rfl)) (sim_cv hG dX3_runAll_18 (hG.2.1 3 _ hc_3).2.1 M_X3_shipBanked (by rw [nm_X3_shipBanked]; rfl) (by rw [nm_X3_shipBanked]; exact q1736) (by rw [nm_X3_shipBanked]; exact q1738) (by rw [nm_X3_shipBanked]; exact qs102)) <|
  fG mo_putf (sim_putf hG dX3_runAll_21 hc_3 (by decide) rfl (by decide) in_X3 tyX3_ok nmX3 (Or.inl ⟨rfl, rfl⟩) (fun _ _ _ h => h) rfl q1293) <|
  fG mo_ald (sim_ald_n dX3_runAll_24 rfl) <|
  fG mo_int (sim_iconst dX3_runAll_25 (by decide)) <|
  fG mo_putf (sim_putf hG dX3_runAll_26 hc_3 (by decide) rfl (by decide) in_X3 tyX3_ok nmX3 (Or.inl ⟨rfl, rfl⟩) (fun _ _ _ h => h) rfl q1294) <|
  fG mo_ald (sim_ald_n dX3_runAll_29 rfl) <|
  fG mo_int (sim_iconst dX3_runAll_30 (by decide)) <|
  fG mo_putf (sim_putf hG dX3_runAll_31 hc_3 (by decide) rfl (by decide) in_X3 tyX3_ok nmX3 (Or.inl ⟨rfl, rfl⟩) (fun _ _ _ h => h) rfl q1295) <|
  fG mo_ald (sim_ald_n dX3_runAll_34 rfl) <|
  fG mo_ald (sim_ald_n dX3_runAll_35 rfl) <|
  fG mo_getf (sim_getfG hG dX3_runAll_36 hc_3 (by decide) rfl in_X3 (fun _ _ _ h => h) (Or.inl q1255)) <|
  fG mo_int (sim_iconst dX3_runAll_39 (by decide)) <|
  fG mo_lda (sim_iald dX3_runAll_40) <|
  fG mo_putf (sim_putf hG dX3_runAll_41 hc_3 (by decide) rfl (by decide) in_X3 tyX3_ok nmX3 (Or.inl ⟨rfl, rfl⟩) (fun _ _ _ h => h) rfl q1296) <|
  fG mo_ald (sim_ald_n dX3_runAll_44 rfl) <|
  fG mo_int (sim_sipush dX3_runAll_45 (by decide)) <|
  fC (ic_cv (Or.inl rfl)) (sim_cv hG dX3_runAll_48 (hG.2.1 3 _ hc_3).2.1 M_X3_layNow (by rw [nm_X3_layNow]; rfl) (by rw [nm_X3_layNow]; exact q1586) (by rw [nm_X3_layNow]; exact q1588) (by rw [nm_X3_layNow]; exact qs74)) <|
  fG mo_ild (sim_ild_n dX3_runAll_51 rfl) <|
  fG mo_int (sim_bipush dX3_runAll_52 (by decide)) <|
  fG mo_imul (sim_imul dX3_runAll_54) <|
  fG mo_int (sim_iconst dX3_runAll_55 (by decide)) <|
  fG mo_iadd (sim_iadd dX3_runAll_56) <|
  fG mo_ist (sim_ist dX3_runAll_57) <|
  fF
theorem fX3_runAll_59 {X : tp_X} {az : Array Value} (hG : tp_Good X az) (hSt : tp_Stat X) : tp_Fit X yX3_runAll cX3_runAll none 6 tp_nm tp_by tp_ml tp_rtt 59 [o_ald (.aload_n 0) 0, o_getf (.getfield 446) 3 45, o_ild (.iload_n 3) 3, o_icmpge 47 111, o_ald (.aload_n 0) 0, o_getf (.getfield 452) 3 44, o_ifne 40 111, o_ald (.aload_n 0) 0, o_ild (.iload_n 1) 1, o_cv (.invokevirtual 455) 3 kX3_orderBy 1 0, o_ist (.istore 5) 5, o_ald (.aload_n 0) 0, o_ild (.iload 5) 5, o_ald (.aload_n 0) 0, o_ild (.iload 4) 4, o_cv (.invokevirtual 458) 3 kX3_drawWind 1 0, o_cv (.invokevirtual 461) 3 kX3_runOne 2 0, o_ild (.iload 4) 4, o_int (.sipush 173) 173, o_imul, o_int (.bipush 11) 11, o_iadd, o_int (.sipush 30103) 30103, o_irem, o_ist (.istore 4) 4, o_goto (-49) 59] :=
  fG mo_ald (sim_ald_n dX3_runAll_59 rfl) <|
  fG mo_getf (sim_getfG hG dX3_runAll_60 hc_3 (by decide) rfl in_X3 (fun _ _ _ h => h) (Or.inl q1295)) <|
  fG mo_ild (sim_ild_n dX3_runAll_63 rfl) <|
  fG mo_icmpge (sim_icmpge dX3_runAll_64 rfl) <|
  fG mo_ald (sim_ald_n dX3_runAll_67 rfl) <|
  fG mo_getf (sim_getfG hG dX3_runAll_68 hc_3 (by decide) rfl in_X3 (fun _ _ _ h => h) (Or.inl q1294)) <|
  fG mo_ifne (sim_ifne dX3_runAll_71 rfl) <|
  fG mo_ald (sim_ald_n dX3_runAll_74 rfl) <|
  fG mo_ild (sim_ild_n dX3_runAll_75 rfl) <|
  fC (ic_cv (Or.inl rfl)) (sim_cv hG dX3_runAll_76 (hG.2.1 3 _ hc_3).2.1 M_X3_orderBy (by rw [nm_X3_orderBy]; rfl) (by rw [nm_X3_orderBy]; exact q1866) (by rw [nm_X3_orderBy]; exact q1868) (by rw [nm_X3_orderBy]; exact qs120)) <|
  fG mo_ist (sim_ist dX3_runAll_79) <|
  fG mo_ald (sim_ald_n dX3_runAll_81 rfl) <|
  fG mo_ild (sim_ild dX3_runAll_82) <|
  fG mo_ald (sim_ald_n dX3_runAll_84 rfl) <|
  fG mo_ild (sim_ild dX3_runAll_85) <|
  fC (ic_cv (Or.inl rfl)) (sim_cv hG dX3_runAll_87 (hG.2.1 3 _ hc_3).2.1 M_X3_drawWind (by rw [nm_X3_drawWind]; rfl) (by rw [nm_X3_drawWind]; exact q1874) (by rw [nm_X3_drawWind]; exact q1876) (by rw [nm_X3_drawWind]; exact qs122)) <|
  fC (ic_cv (Or.inl rfl)) (sim_cv hG dX3_runAll_90 (hG.2.1 3 _ hc_3).2.1 M_X3_runOne (by rw [nm_X3_runOne]; rfl) (by rw [nm_X3_runOne]; exact q1878) (by rw [nm_X3_runOne]; exact q1880) (by rw [nm_X3_runOne]; exact qs123)) <|
  fG mo_ild (sim_ild dX3_runAll_93) <|
  fG mo_int (sim_sipush dX3_runAll_95 (by decide)) <|
  fG mo_imul (sim_imul dX3_runAll_98) <|
  fG mo_int (sim_bipush dX3_runAll_99 (by decide)) <|
  fG mo_iadd (sim_iadd dX3_runAll_101) <|
  fG mo_int (sim_sipush dX3_runAll_102 (by decide)) <|
  fG mo_irem (sim_irem dX3_runAll_105) <|
  fG mo_ist (sim_ist dX3_runAll_106) <|
  fG mo_goto (sim_goto dX3_runAll_108 rfl) <|
  trivial
theorem fX3_runAll_111 {X : tp_X} {az : Array Value} (hG : tp_Good X az) (hSt : tp_Stat X) : tp_Fit X yX3_runAll cX3_runAll none 6 tp_nm tp_by tp_ml tp_rtt 111 [o_vret] :=
  fE ie_vret (sim_vret dX3_runAll_111 rfl)
theorem F_X3_runAll {X : tp_X} {az : Array Value} (hG : tp_Good X az) (hSt : tp_Stat X) (pc : Nat) : tp_Fit X yX3_runAll cX3_runAll none 6 tp_nm tp_by tp_ml tp_rtt pc (mX3_runAll pc) :=
  fI (fX3_runAll_0 hG hSt) <| fI (fX3_runAll_59 hG hSt) <| fI (fX3_runAll_111 hG hSt) <| trivial
theorem fX3_orderBy_0 {X : tp_X} {az : Array Value} (hG : tp_Good X az) (hSt : tp_Stat X) : tp_Fit X yX3_orderBy cX3_orderBy (some .int) 4 tp_nm tp_by tp_ml tp_rtt 0 [o_int (.iconst 0) 0, o_ist (.istore_n 2) 2, o_fall 2] :=
  fG mo_int (sim_iconst dX3_orderBy_0 (by decide)) <|
  fG mo_ist (sim_ist_n dX3_orderBy_1 rfl) <|
  fF
theorem fX3_orderBy_2 {X : tp_X} {az : Array Value} (hG : tp_Good X az) (hSt : tp_Stat X) : tp_Fit X yX3_orderBy cX3_orderBy (some .int) 4 tp_nm tp_by tp_ml tp_rtt 2 [o_ild (.iload_n 2) 2, o_ald (.aload_n 0) 0, o_ild (.iload_n 1) 1, o_cv (.invokevirtual 277) 3 kX3_clauses 1 0, o_icmpge 112 120, o_ald (.aload_n 0) 0, o_ild (.iload_n 1) 1, o_ild (.iload_n 2) 2, o_cv (.invokevirtual 280) 3 kX3_sortAt 2 0, o_int (.iconst 4) 4, o_icmpeq 6 24, o_goto 93 114] :=
  fG mo_ild (sim_ild_n dX3_orderBy_2 rfl) <|
  fG mo_ald (sim_ald_n dX3_orderBy_3 rfl) <|
  fG mo_ild (sim_ild_n dX3_orderBy_4 rfl) <|
  fC (ic_cv (Or.inl rfl)) (sim_cv hG dX3_orderBy_5 (hG.2.1 3 _ hc_3).2.1 M_X3_clauses (by rw [nm_X3_clauses]; rfl) (by rw [nm_X3_clauses]; exact q1622) (by rw [nm_X3_clauses]; exact q1624) (by rw [nm_X3_clauses]; exact qs83)) <|
  fG mo_icmpge (sim_icmpge dX3_orderBy_8 rfl) <|
  fG mo_ald (sim_ald_n dX3_orderBy_11 rfl) <|
  fG mo_ild (sim_ild_n dX3_orderBy_12 rfl) <|
  fG mo_ild (sim_ild_n dX3_orderBy_13 rfl) <|
  fC (ic_cv (Or.inl rfl)) (sim_cv hG dX3_orderBy_14 (hG.2.1 3 _ hc_3).2.1 M_X3_sortAt (by rw [nm_X3_sortAt]; rfl) (by rw [nm_X3_sortAt]; exact q1626) (by rw [nm_X3_sortAt]; exact q1628) (by rw [nm_X3_sortAt]; exact qs84)) <|
  fG mo_int (sim_iconst dX3_orderBy_17 (by decide)) <|
  fG mo_icmpeq (sim_icmpeq dX3_orderBy_18 rfl) <|
  fG mo_goto (sim_goto dX3_orderBy_21 rfl) <|
  trivial
theorem fX3_orderBy_24 {X : tp_X} {az : Array Value} (hG : tp_Good X az) (hSt : tp_Stat X) : tp_Fit X yX3_orderBy cX3_orderBy (some .int) 4 tp_nm tp_by tp_ml tp_rtt 24 [o_ald (.aload_n 0) 0, o_int (.sipush 612) 612, o_ald (.aload_n 0) 0, o_getf (.getfield 434) 3 41, o_ald (.aload_n 0) 0, o_getf (.getfield 443) 3 46, o_ald (.aload_n 0) 0, o_getf (.getfield 7) 3 3, o_int (.iconst 0) 0, o_lda .iaload [0, 20], o_ald (.aload_n 0) 0, o_getf (.getfield 446) 3 45, o_iadd, o_cv (.invokevirtual 288) 3 kX3_nameCell 4 0, o_ald (.aload_n 0) 0, o_getf (.getfield 32) 3 25, o_int (.bipush 9) 9, o_ald (.aload_n 0) 0, o_getf (.getfield 437) 3 42, o_sta .iastore [0], o_ald (.aload_n 0) 0, o_getf (.getfield 32) 3 25, o_int (.bipush 10) 10, o_ald (.aload_n 0) 0, o_getf (.getfield 440) 3 43, o_sta .iastore [0], o_ald (.aload_n 0) 0, o_ild (.iload_n 1) 1, o_ild (.iload_n 2) 2, o_cv (.invokevirtual 283) 3 kX3_work 2 0, o_ald (.aload_n 0) 0, o_getf (.getfield 16) 3 5, o_int (.sipush 800) 800, o_ild (.iload_n 1) 1, o_imul, o_int (.iconst 2) 2, o_iadd, o_int (.iconst 4) 4, o_ild (.iload_n 2) 2, o_imul, o_iadd, o_lda .iaload [0, 20], o_ist (.istore_n 3) 3, o_ald (.aload_n 0) 0, o_getf (.getfield 39) 3 27, o_int (.iconst 0) 0, o_lda .baload [1, 2, 22], o_ifeq 13 114, o_ald (.aload_n 0) 0, o_ild (.iload_n 3) 3, o_cv (.invokevirtual 449) 3 kX3_canRun 1 0, o_ifeq 5 114, o_ild (.iload_n 3) 3, o_iret 0] :=
  fG mo_ald (sim_ald_n dX3_orderBy_24 rfl) <|
  fG mo_int (sim_sipush dX3_orderBy_25 (by decide)) <|
  fG mo_ald (sim_ald_n dX3_orderBy_28 rfl) <|
  fG mo_getf (sim_getfG hG dX3_orderBy_29 hc_3 (by decide) rfl in_X3 (fun _ _ _ h => h) (Or.inl q1291)) <|
  fG mo_ald (sim_ald_n dX3_orderBy_32 rfl) <|
  fG mo_getf (sim_getfG hG dX3_orderBy_33 hc_3 (by decide) rfl in_X3 (fun _ _ _ h => h) (Or.inl q1296)) <|
  fG mo_ald (sim_ald_n dX3_orderBy_36 rfl) <|
  fG mo_getf (sim_getfG hG dX3_orderBy_37 hc_3 (by decide) rfl in_X3 (fun _ _ _ h => h) (Or.inl q1255)) <|
  fG mo_int (sim_iconst dX3_orderBy_40 (by decide)) <|
  fG mo_lda (sim_iald dX3_orderBy_41) <|
  fG mo_ald (sim_ald_n dX3_orderBy_42 rfl) <|
  fG mo_getf (sim_getfG hG dX3_orderBy_43 hc_3 (by decide) rfl in_X3 (fun _ _ _ h => h) (Or.inl q1295)) <|
  fG mo_iadd (sim_iadd dX3_orderBy_46) <|
  fC (ic_cv (Or.inl rfl)) (sim_cv hG dX3_orderBy_47 (hG.2.1 3 _ hc_3).2.1 M_X3_nameCell (by rw [nm_X3_nameCell]; rfl) (by rw [nm_X3_nameCell]; exact q1610) (by rw [nm_X3_nameCell]; exact q1612) (by rw [nm_X3_nameCell]; exact qs80)) <|
  fG mo_ald (sim_ald_n dX3_orderBy_50 rfl) <|
  fG mo_getf (sim_getfG hG dX3_orderBy_51 hc_3 (by decide) rfl in_X3 (fun _ _ _ h => h) (Or.inl q1275)) <|
  fG mo_int (sim_bipush dX3_orderBy_54 (by decide)) <|
  fG mo_ald (sim_ald_n dX3_orderBy_56 rfl) <|
  fG mo_getf (sim_getfG hG dX3_orderBy_57 hc_3 (by decide) rfl in_X3 (fun _ _ _ h => h) (Or.inl q1292)) <|
  fG mo_sta (sim_iast dX3_orderBy_60) <|
  fG mo_ald (sim_ald_n dX3_orderBy_61 rfl) <|
  fG mo_getf (sim_getfG hG dX3_orderBy_62 hc_3 (by decide) rfl in_X3 (fun _ _ _ h => h) (Or.inl q1275)) <|
  fG mo_int (sim_bipush dX3_orderBy_65 (by decide)) <|
  fG mo_ald (sim_ald_n dX3_orderBy_67 rfl) <|
  fG mo_getf (sim_getfG hG dX3_orderBy_68 hc_3 (by decide) rfl in_X3 (fun _ _ _ h => h) (Or.inl q1293)) <|
  fG mo_sta (sim_iast dX3_orderBy_71) <|
  fG mo_ald (sim_ald_n dX3_orderBy_72 rfl) <|
  fG mo_ild (sim_ild_n dX3_orderBy_73 rfl) <|
  fG mo_ild (sim_ild_n dX3_orderBy_74 rfl) <|
  fC (ic_cv (Or.inl rfl)) (sim_cv hG dX3_orderBy_75 (hG.2.1 3 _ hc_3).2.1 M_X3_work (by rw [nm_X3_work]; rfl) (by rw [nm_X3_work]; exact q1630) (by rw [nm_X3_work]; exact q1632) (by rw [nm_X3_work]; exact qs85)) <|
  fG mo_ald (sim_ald_n dX3_orderBy_78 rfl) <|
  fG mo_getf (sim_getfG hG dX3_orderBy_79 hc_3 (by decide) rfl in_X3 (fun _ _ _ h => h) (Or.inl q1257)) <|
  fG mo_int (sim_sipush dX3_orderBy_82 (by decide)) <|
  fG mo_ild (sim_ild_n dX3_orderBy_85 rfl) <|
  fG mo_imul (sim_imul dX3_orderBy_86) <|
  fG mo_int (sim_iconst dX3_orderBy_87 (by decide)) <|
  fG mo_iadd (sim_iadd dX3_orderBy_88) <|
  fG mo_int (sim_iconst dX3_orderBy_89 (by decide)) <|
  fG mo_ild (sim_ild_n dX3_orderBy_90 rfl) <|
  fG mo_imul (sim_imul dX3_orderBy_91) <|
  fG mo_iadd (sim_iadd dX3_orderBy_92) <|
  fG mo_lda (sim_iald dX3_orderBy_93) <|
  fG mo_ist (sim_ist_n dX3_orderBy_94 rfl) <|
  fG mo_ald (sim_ald_n dX3_orderBy_95 rfl) <|
  fG mo_getf (sim_getfG hG dX3_orderBy_96 hc_3 (by decide) rfl in_X3 (fun _ _ _ h => h) (Or.inl q1277)) <|
  fG mo_int (sim_iconst dX3_orderBy_99 (by decide)) <|
  fG mo_lda (sim_bald dX3_orderBy_100) <|
  fG mo_ifeq (sim_ifeq dX3_orderBy_101 rfl) <|
  fG mo_ald (sim_ald_n dX3_orderBy_104 rfl) <|
  fG mo_ild (sim_ild_n dX3_orderBy_105 rfl) <|
  fC (ic_cv (Or.inl rfl)) (sim_cv hG dX3_orderBy_106 (hG.2.1 3 _ hc_3).2.1 M_X3_canRun (by rw [nm_X3_canRun]; rfl) (by rw [nm_X3_canRun]; exact q1870) (by rw [nm_X3_canRun]; exact q1872) (by rw [nm_X3_canRun]; exact qs121)) <|
  fG mo_ifeq (sim_ifeq dX3_orderBy_109 rfl) <|
  fG mo_ild (sim_ild_n dX3_orderBy_112 rfl) <|
  fE ie_iret (sim_iret dX3_orderBy_113 rfl (Or.inl ⟨rfl, rfl⟩))
theorem fX3_orderBy_114 {X : tp_X} {az : Array Value} (hG : tp_Good X az) (hSt : tp_Stat X) : tp_Fit X yX3_orderBy cX3_orderBy (some .int) 4 tp_nm tp_by tp_ml tp_rtt 114 [o_inc 2 1, o_goto (-115) 2] :=
  fG mo_inc (sim_inc dX3_orderBy_114 (by decide)) <|
  fG mo_goto (sim_goto dX3_orderBy_117 rfl) <|
  trivial
theorem fX3_orderBy_120 {X : tp_X} {az : Array Value} (hG : tp_Good X az) (hSt : tp_Stat X) : tp_Fit X yX3_orderBy cX3_orderBy (some .int) 4 tp_nm tp_by tp_ml tp_rtt 120 [o_ald (.aload_n 0) 0, o_int (.iconst 4) 4, o_cv (.invokevirtual 449) 3 kX3_canRun 1 0, o_ifeq 7 132, o_int (.iconst 4) 4, o_goto 5 134] :=
  fG mo_ald (sim_ald_n dX3_orderBy_120 rfl) <|
  fG mo_int (sim_iconst dX3_orderBy_121 (by decide)) <|
  fC (ic_cv (Or.inl rfl)) (sim_cv hG dX3_orderBy_122 (hG.2.1 3 _ hc_3).2.1 M_X3_canRun (by rw [nm_X3_canRun]; rfl) (by rw [nm_X3_canRun]; exact q1870) (by rw [nm_X3_canRun]; exact q1872) (by rw [nm_X3_canRun]; exact qs121)) <|
  fG mo_ifeq (sim_ifeq dX3_orderBy_125 rfl) <|
  fG mo_int (sim_iconst dX3_orderBy_128 (by decide)) <|
  fG mo_goto (sim_goto dX3_orderBy_129 rfl) <|
  trivial
theorem fX3_orderBy_132 {X : tp_X} {az : Array Value} (hG : tp_Good X az) (hSt : tp_Stat X) : tp_Fit X yX3_orderBy cX3_orderBy (some .int) 4 tp_nm tp_by tp_ml tp_rtt 132 [o_int (.bipush 6) 6, o_fall 134] :=
  fG mo_int (sim_bipush dX3_orderBy_132 (by decide)) <|
  fF
theorem fX3_orderBy_134 {X : tp_X} {az : Array Value} (hG : tp_Good X az) (hSt : tp_Stat X) : tp_Fit X yX3_orderBy cX3_orderBy (some .int) 4 tp_nm tp_by tp_ml tp_rtt 134 [o_iret 0] :=
  fE ie_iret (sim_iret dX3_orderBy_134 rfl (Or.inl ⟨rfl, rfl⟩))
theorem F_X3_orderBy {X : tp_X} {az : Array Value} (hG : tp_Good X az) (hSt : tp_Stat X) (pc : Nat) : tp_Fit X yX3_orderBy cX3_orderBy (some .int) 4 tp_nm tp_by tp_ml tp_rtt pc (mX3_orderBy pc) :=
  fI (fX3_orderBy_0 hG hSt) <| fI (fX3_orderBy_2 hG hSt) <| fI (fX3_orderBy_24 hG hSt) <| fI (fX3_orderBy_114 hG hSt) <| fI (fX3_orderBy_120 hG hSt) <| fI (fX3_orderBy_132 hG hSt) <| fI (fX3_orderBy_134 hG hSt) <| trivial
theorem fX3_canRun_0 {X : tp_X} {az : Array Value} (hG : tp_Good X az) (hSt : tp_Stat X) : tp_Fit X yX3_canRun cX3_canRun (some .boolean) 2 tp_nm tp_by tp_ml tp_rtt 0 [o_ald (.aload_n 0) 0, o_int (.sipush 612) 612, o_ald (.aload_n 0) 0, o_getf (.getfield 434) 3 41, o_ald (.aload_n 0) 0, o_getf (.getfield 437) 3 42, o_ald (.aload_n 0) 0, o_getf (.getfield 440) 3 43, o_ild (.iload_n 1) 1, o_ald (.aload_n 0) 0, o_getf (.getfield 443) 3 46, o_ald (.aload_n 0) 0, o_getf (.getfield 7) 3 3, o_int (.iconst 0) 0, o_lda .iaload [0, 20], o_ald (.aload_n 0) 0, o_getf (.getfield 446) 3 45, o_iadd, o_cv (.invokevirtual 306) 3 kX3_orderCost 7 0, o_iflt 7 42, o_int (.iconst 1) 1, o_goto 4 43] :=
  fG mo_ald (sim_ald_n dX3_canRun_0 rfl) <|
  fG mo_int (sim_sipush dX3_canRun_1 (by decide)) <|
  fG mo_ald (sim_ald_n dX3_canRun_4 rfl) <|
  fG mo_getf (sim_getfG hG dX3_canRun_5 hc_3 (by decide) rfl in_X3 (fun _ _ _ h => h) (Or.inl q1291)) <|
  fG mo_ald (sim_ald_n dX3_canRun_8 rfl) <|
  fG mo_getf (sim_getfG hG dX3_canRun_9 hc_3 (by decide) rfl in_X3 (fun _ _ _ h => h) (Or.inl q1292)) <|
  fG mo_ald (sim_ald_n dX3_canRun_12 rfl) <|
  fG mo_getf (sim_getfG hG dX3_canRun_13 hc_3 (by decide) rfl in_X3 (fun _ _ _ h => h) (Or.inl q1293)) <|
  fG mo_ild (sim_ild_n dX3_canRun_16 rfl) <|
  fG mo_ald (sim_ald_n dX3_canRun_17 rfl) <|
  fG mo_getf (sim_getfG hG dX3_canRun_18 hc_3 (by decide) rfl in_X3 (fun _ _ _ h => h) (Or.inl q1296)) <|
  fG mo_ald (sim_ald_n dX3_canRun_21 rfl) <|
  fG mo_getf (sim_getfG hG dX3_canRun_22 hc_3 (by decide) rfl in_X3 (fun _ _ _ h => h) (Or.inl q1255)) <|
  fG mo_int (sim_iconst dX3_canRun_25 (by decide)) <|
  fG mo_lda (sim_iald dX3_canRun_26) <|
  fG mo_ald (sim_ald_n dX3_canRun_27 rfl) <|
  fG mo_getf (sim_getfG hG dX3_canRun_28 hc_3 (by decide) rfl in_X3 (fun _ _ _ h => h) (Or.inl q1295)) <|
  fG mo_iadd (sim_iadd dX3_canRun_31) <|
  fC (ic_cv (Or.inl rfl)) (sim_cv hG dX3_canRun_32 (hG.2.1 3 _ hc_3).2.1 M_X3_orderCost (by rw [nm_X3_orderCost]; rfl) (by rw [nm_X3_orderCost]; exact q1594) (by rw [nm_X3_orderCost]; exact q1596) (by rw [nm_X3_orderCost]; exact qs76)) <|
  fG mo_iflt (sim_iflt dX3_canRun_35 rfl) <|
  fG mo_int (sim_iconst dX3_canRun_38 (by decide)) <|
  fG mo_goto (sim_goto dX3_canRun_39 rfl) <|
  trivial
theorem fX3_canRun_42 {X : tp_X} {az : Array Value} (hG : tp_Good X az) (hSt : tp_Stat X) : tp_Fit X yX3_canRun cX3_canRun (some .boolean) 2 tp_nm tp_by tp_ml tp_rtt 42 [o_int (.iconst 0) 0, o_fall 43] :=
  fG mo_int (sim_iconst dX3_canRun_42 (by decide)) <|
  fF
theorem fX3_canRun_43 {X : tp_X} {az : Array Value} (hG : tp_Good X az) (hSt : tp_Stat X) : tp_Fit X yX3_canRun cX3_canRun (some .boolean) 2 tp_nm tp_by tp_ml tp_rtt 43 [o_iret 1] :=
  fE ie_iret (sim_iret dX3_canRun_43 rfl (Or.inr (Or.inl ⟨rfl, rfl⟩)))
theorem F_X3_canRun {X : tp_X} {az : Array Value} (hG : tp_Good X az) (hSt : tp_Stat X) (pc : Nat) : tp_Fit X yX3_canRun cX3_canRun (some .boolean) 2 tp_nm tp_by tp_ml tp_rtt pc (mX3_canRun pc) :=
  fI (fX3_canRun_0 hG hSt) <| fI (fX3_canRun_42 hG hSt) <| fI (fX3_canRun_43 hG hSt) <| trivial
theorem fX3_drawWind_0 {X : tp_X} {az : Array Value} (hG : tp_Good X az) (hSt : tp_Stat X) : tp_Fit X yX3_drawWind cX3_drawWind (some .int) 4 tp_nm tp_by tp_ml tp_rtt 0 [o_ild (.iload_n 1) 1, o_int (.bipush 10) 10, o_irem, o_ist (.istore_n 2) 2, o_int (.iconst 0) 0, o_ist (.istore_n 3) 3, o_fall 7] :=
  fG mo_ild (sim_ild_n dX3_drawWind_0 rfl) <|
  fG mo_int (sim_bipush dX3_drawWind_1 (by decide)) <|
  fG mo_irem (sim_irem dX3_drawWind_3) <|
  fG mo_ist (sim_ist_n dX3_drawWind_4 rfl) <|
  fG mo_int (sim_iconst dX3_drawWind_5 (by decide)) <|
  fG mo_ist (sim_ist_n dX3_drawWind_6 rfl) <|
  fF
theorem fX3_drawWind_7 {X : tp_X} {az : Array Value} (hG : tp_Good X az) (hSt : tp_Stat X) : tp_Fit X yX3_drawWind cX3_drawWind (some .int) 4 tp_nm tp_by tp_ml tp_rtt 7 [o_ild (.iload_n 2) 2, o_ald (.aload_n 0) 0, o_ald (.aload_n 0) 0, o_getf (.getfield 443) 3 46, o_ild (.iload_n 3) 3, o_cv (.invokevirtual 401) 3 kX3_chanceOf 2 0, o_icmplt 21 38, o_ild (.iload_n 2) 2, o_ald (.aload_n 0) 0, o_ald (.aload_n 0) 0, o_getf (.getfield 443) 3 46, o_ild (.iload_n 3) 3, o_cv (.invokevirtual 401) 3 kX3_chanceOf 2 0, o_isub, o_ist (.istore_n 2) 2, o_inc 3 1, o_goto (-28) 7] :=
  fG mo_ild (sim_ild_n dX3_drawWind_7 rfl) <|
  fG mo_ald (sim_ald_n dX3_drawWind_8 rfl) <|
  fG mo_ald (sim_ald_n dX3_drawWind_9 rfl) <|
  fG mo_getf (sim_getfG hG dX3_drawWind_10 hc_3 (by decide) rfl in_X3 (fun _ _ _ h => h) (Or.inl q1296)) <|
  fG mo_ild (sim_ild_n dX3_drawWind_13 rfl) <|
  fC (ic_cv (Or.inl rfl)) (sim_cv hG dX3_drawWind_14 (hG.2.1 3 _ hc_3).2.1 M_X3_chanceOf (by rw [nm_X3_chanceOf]; rfl) (by rw [nm_X3_chanceOf]; exact q1812) (by rw [nm_X3_chanceOf]; exact q1814) (by rw [nm_X3_chanceOf]; exact qs112)) <|
  fG mo_icmplt (sim_icmplt dX3_drawWind_17 rfl) <|
  fG mo_ild (sim_ild_n dX3_drawWind_20 rfl) <|
  fG mo_ald (sim_ald_n dX3_drawWind_21 rfl) <|
  fG mo_ald (sim_ald_n dX3_drawWind_22 rfl) <|
  fG mo_getf (sim_getfG hG dX3_drawWind_23 hc_3 (by decide) rfl in_X3 (fun _ _ _ h => h) (Or.inl q1296)) <|
  fG mo_ild (sim_ild_n dX3_drawWind_26 rfl) <|
  fC (ic_cv (Or.inl rfl)) (sim_cv hG dX3_drawWind_27 (hG.2.1 3 _ hc_3).2.1 M_X3_chanceOf (by rw [nm_X3_chanceOf]; rfl) (by rw [nm_X3_chanceOf]; exact q1812) (by rw [nm_X3_chanceOf]; exact q1814) (by rw [nm_X3_chanceOf]; exact qs112)) <|
  fG mo_isub (sim_isub dX3_drawWind_30) <|
  fG mo_ist (sim_ist_n dX3_drawWind_31 rfl) <|
  fG mo_inc (sim_inc dX3_drawWind_32 (by decide)) <|
  fG mo_goto (sim_goto dX3_drawWind_35 rfl) <|
  trivial
theorem fX3_drawWind_38 {X : tp_X} {az : Array Value} (hG : tp_Good X az) (hSt : tp_Stat X) : tp_Fit X yX3_drawWind cX3_drawWind (some .int) 4 tp_nm tp_by tp_ml tp_rtt 38 [o_ild (.iload_n 3) 3, o_iret 0] :=
  fG mo_ild (sim_ild_n dX3_drawWind_38 rfl) <|
  fE ie_iret (sim_iret dX3_drawWind_39 rfl (Or.inl ⟨rfl, rfl⟩))
theorem F_X3_drawWind {X : tp_X} {az : Array Value} (hG : tp_Good X az) (hSt : tp_Stat X) (pc : Nat) : tp_Fit X yX3_drawWind cX3_drawWind (some .int) 4 tp_nm tp_by tp_ml tp_rtt pc (mX3_drawWind pc) :=
  fI (fX3_drawWind_0 hG hSt) <| fI (fX3_drawWind_7 hG hSt) <| fI (fX3_drawWind_38 hG hSt) <| trivial
theorem fX3_runOne_0 {X : tp_X} {az : Array Value} (hG : tp_Good X az) (hSt : tp_Stat X) : tp_Fit X yX3_runOne cX3_runOne none 5 tp_nm tp_by tp_ml tp_rtt 0 [o_ald (.aload_n 0) 0, o_int (.sipush 612) 612, o_ald (.aload_n 0) 0, o_getf (.getfield 434) 3 41, o_ald (.aload_n 0) 0, o_getf (.getfield 437) 3 42, o_ald (.aload_n 0) 0, o_getf (.getfield 440) 3 43, o_ild (.iload_n 1) 1, o_ald (.aload_n 0) 0, o_getf (.getfield 443) 3 46, o_ald (.aload_n 0) 0, o_getf (.getfield 7) 3 3, o_int (.iconst 0) 0, o_lda .iaload [0, 20], o_ald (.aload_n 0) 0, o_getf (.getfield 446) 3 45, o_iadd, o_cv (.invokevirtual 306) 3 kX3_orderCost 7 0, o_ist (.istore_n 3) 3, o_ald (.aload_n 0) 0, o_dup, o_getf (.getfield 437) 3 42, o_ild (.iload_n 3) 3, o_isub, o_putf (.putfield 437) 3 42 0, o_ald (.aload_n 0) 0, o_ild (.iload_n 1) 1, o_ald (.aload_n 0) 0, o_getf (.getfield 440) 3 43, o_cs (.invokestatic 322) kX3_firesBehind 2 0, o_putf (.putfield 440) 3 43 0, o_ild (.iload_n 1) 1, o_int (.iconst 0) 0, o_int (.iconst 3) 3, o_cs (.invokestatic 90) kX3_isIn 3 0, o_ifeq 41 105, o_ald (.aload_n 0) 0, o_ald (.aload_n 0) 0, o_ald (.aload_n 0) 0, o_getf (.getfield 434) 3 41, o_ild (.iload_n 1) 1, o_cv (.invokevirtual 271) 3 kX3_pushed 2 0, o_putf (.putfield 434) 3 41 0, o_ald (.aload_n 0) 0, o_ald (.aload_n 0) 0, o_getf (.getfield 7) 3 3, o_int (.bipush 70) 70, o_ald (.aload_n 0) 0, o_getf (.getfield 434) 3 41, o_iadd, o_lda .iaload [0, 20], o_int (.iconst 1) 1, o_icmpne 7 101, o_int (.iconst 1) 1, o_goto 4 102] :=
  fG mo_ald (sim_ald_n dX3_runOne_0 rfl) <|
  fG mo_int (sim_sipush dX3_runOne_1 (by decide)) <|
  fG mo_ald (sim_ald_n dX3_runOne_4 rfl) <|
  fG mo_getf (sim_getfG hG dX3_runOne_5 hc_3 (by decide) rfl in_X3 (fun _ _ _ h => h) (Or.inl q1291)) <|
  fG mo_ald (sim_ald_n dX3_runOne_8 rfl) <|
  fG mo_getf (sim_getfG hG dX3_runOne_9 hc_3 (by decide) rfl in_X3 (fun _ _ _ h => h) (Or.inl q1292)) <|
  fG mo_ald (sim_ald_n dX3_runOne_12 rfl) <|
  fG mo_getf (sim_getfG hG dX3_runOne_13 hc_3 (by decide) rfl in_X3 (fun _ _ _ h => h) (Or.inl q1293)) <|
  fG mo_ild (sim_ild_n dX3_runOne_16 rfl) <|
  fG mo_ald (sim_ald_n dX3_runOne_17 rfl) <|
  fG mo_getf (sim_getfG hG dX3_runOne_18 hc_3 (by decide) rfl in_X3 (fun _ _ _ h => h) (Or.inl q1296)) <|
  fG mo_ald (sim_ald_n dX3_runOne_21 rfl) <|
  fG mo_getf (sim_getfG hG dX3_runOne_22 hc_3 (by decide) rfl in_X3 (fun _ _ _ h => h) (Or.inl q1255)) <|
  fG mo_int (sim_iconst dX3_runOne_25 (by decide)) <|
  fG mo_lda (sim_iald dX3_runOne_26) <|
  fG mo_ald (sim_ald_n dX3_runOne_27 rfl) <|
  fG mo_getf (sim_getfG hG dX3_runOne_28 hc_3 (by decide) rfl in_X3 (fun _ _ _ h => h) (Or.inl q1295)) <|
  fG mo_iadd (sim_iadd dX3_runOne_31) <|
  fC (ic_cv (Or.inl rfl)) (sim_cv hG dX3_runOne_32 (hG.2.1 3 _ hc_3).2.1 M_X3_orderCost (by rw [nm_X3_orderCost]; rfl) (by rw [nm_X3_orderCost]; exact q1594) (by rw [nm_X3_orderCost]; exact q1596) (by rw [nm_X3_orderCost]; exact qs76)) <|
  fG mo_ist (sim_ist_n dX3_runOne_35 rfl) <|
  fG mo_ald (sim_ald_n dX3_runOne_36 rfl) <|
  fG mo_dup (sim_dup dX3_runOne_37) <|
  fG mo_getf (sim_getfG hG dX3_runOne_38 hc_3 (by decide) rfl in_X3 (fun _ _ _ h => h) (Or.inl q1292)) <|
  fG mo_ild (sim_ild_n dX3_runOne_41 rfl) <|
  fG mo_isub (sim_isub dX3_runOne_42) <|
  fG mo_putf (sim_putf hG dX3_runOne_43 hc_3 (by decide) rfl (by decide) in_X3 tyX3_ok nmX3 (Or.inl ⟨rfl, rfl⟩) (fun _ _ _ h => h) rfl q1292) <|
  fG mo_ald (sim_ald_n dX3_runOne_46 rfl) <|
  fG mo_ild (sim_ild_n dX3_runOne_47 rfl) <|
  fG mo_ald (sim_ald_n dX3_runOne_48 rfl) <|
  fG mo_getf (sim_getfG hG dX3_runOne_49 hc_3 (by decide) rfl in_X3 (fun _ _ _ h => h) (Or.inl q1293)) <|
  fC (ic_cs (Or.inl rfl)) (sim_cs hG dX3_runOne_52 M_X3_firesBehind (by rw [nm_X3_firesBehind]; rfl) (by rw [nm_X3_firesBehind]; exact q1658) (by rw [nm_X3_firesBehind]; exact q1659)) <|
  fG mo_putf (sim_putf hG dX3_runOne_55 hc_3 (by decide) rfl (by decide) in_X3 tyX3_ok nmX3 (Or.inl ⟨rfl, rfl⟩) (fun _ _ _ h => h) rfl q1293) <|
  fG mo_ild (sim_ild_n dX3_runOne_58 rfl) <|
  fG mo_int (sim_iconst dX3_runOne_59 (by decide)) <|
  fG mo_int (sim_iconst dX3_runOne_60 (by decide)) <|
  fC (ic_cs (Or.inl rfl)) (sim_cs hG dX3_runOne_61 M_X3_isIn (by rw [nm_X3_isIn]; rfl) (by rw [nm_X3_isIn]; exact q1400) (by rw [nm_X3_isIn]; exact q1401)) <|
  fG mo_ifeq (sim_ifeq dX3_runOne_64 rfl) <|
  fG mo_ald (sim_ald_n dX3_runOne_67 rfl) <|
  fG mo_ald (sim_ald_n dX3_runOne_68 rfl) <|
  fG mo_ald (sim_ald_n dX3_runOne_69 rfl) <|
  fG mo_getf (sim_getfG hG dX3_runOne_70 hc_3 (by decide) rfl in_X3 (fun _ _ _ h => h) (Or.inl q1291)) <|
  fG mo_ild (sim_ild_n dX3_runOne_73 rfl) <|
  fC (ic_cv (Or.inl rfl)) (sim_cv hG dX3_runOne_74 (hG.2.1 3 _ hc_3).2.1 M_X3_pushed (by rw [nm_X3_pushed]; rfl) (by rw [nm_X3_pushed]; exact q1598) (by rw [nm_X3_pushed]; exact q1600) (by rw [nm_X3_pushed]; exact qs77)) <|
  fG mo_putf (sim_putf hG dX3_runOne_77 hc_3 (by decide) rfl (by decide) in_X3 tyX3_ok nmX3 (Or.inl ⟨rfl, rfl⟩) (fun _ _ _ h => h) rfl q1291) <|
  fG mo_ald (sim_ald_n dX3_runOne_80 rfl) <|
  fG mo_ald (sim_ald_n dX3_runOne_81 rfl) <|
  fG mo_getf (sim_getfG hG dX3_runOne_82 hc_3 (by decide) rfl in_X3 (fun _ _ _ h => h) (Or.inl q1255)) <|
  fG mo_int (sim_bipush dX3_runOne_85 (by decide)) <|
  fG mo_ald (sim_ald_n dX3_runOne_87 rfl) <|
  fG mo_getf (sim_getfG hG dX3_runOne_88 hc_3 (by decide) rfl in_X3 (fun _ _ _ h => h) (Or.inl q1291)) <|
  fG mo_iadd (sim_iadd dX3_runOne_91) <|
  fG mo_lda (sim_iald dX3_runOne_92) <|
  fG mo_int (sim_iconst dX3_runOne_93 (by decide)) <|
  fG mo_icmpne (sim_icmpne dX3_runOne_94 rfl) <|
  fG mo_int (sim_iconst dX3_runOne_97 (by decide)) <|
  fG mo_goto (sim_goto dX3_runOne_98 rfl) <|
  trivial
theorem fX3_runOne_101 {X : tp_X} {az : Array Value} (hG : tp_Good X az) (hSt : tp_Stat X) : tp_Fit X yX3_runOne cX3_runOne none 5 tp_nm tp_by tp_ml tp_rtt 101 [o_int (.iconst 0) 0, o_fall 102] :=
  fG mo_int (sim_iconst dX3_runOne_101 (by decide)) <|
  fF
theorem fX3_runOne_102 {X : tp_X} {az : Array Value} (hG : tp_Good X az) (hSt : tp_Stat X) : tp_Fit X yX3_runOne cX3_runOne none 5 tp_nm tp_by tp_ml tp_rtt 102 [o_putf (.putfield 452) 3 44 0, o_fall 105] :=
  fG mo_putf (sim_putf hG dX3_runOne_102 hc_3 (by decide) rfl (by decide) in_X3 tyX3_ok nmX3 (Or.inl ⟨rfl, rfl⟩) (fun _ _ _ h => h) rfl q1294) <|
  fF
theorem fX3_runOne_105 {X : tp_X} {az : Array Value} (hG : tp_Good X az) (hSt : tp_Stat X) : tp_Fit X yX3_runOne cX3_runOne none 5 tp_nm tp_by tp_ml tp_rtt 105 [o_ald (.aload_n 0) 0, o_int (.sipush 612) 612, o_int (.sipush 540) 540, o_ild (.iload_n 2) 2, o_ald (.aload_n 0) 0, o_getf (.getfield 7) 3 3, o_int (.iconst 0) 0, o_lda .iaload [0, 20], o_ald (.aload_n 0) 0, o_getf (.getfield 446) 3 45, o_iadd, o_cv (.invokevirtual 335) 3 kX3_go 4 0, o_int (.iconst 0) 0, o_ist (.istore 4) 4, o_fall 130] :=
  fG mo_ald (sim_ald_n dX3_runOne_105 rfl) <|
  fG mo_int (sim_sipush dX3_runOne_106 (by decide)) <|
  fG mo_int (sim_sipush dX3_runOne_109 (by decide)) <|
  fG mo_ild (sim_ild_n dX3_runOne_112 rfl) <|
  fG mo_ald (sim_ald_n dX3_runOne_113 rfl) <|
  fG mo_getf (sim_getfG hG dX3_runOne_114 hc_3 (by decide) rfl in_X3 (fun _ _ _ h => h) (Or.inl q1255)) <|
  fG mo_int (sim_iconst dX3_runOne_117 (by decide)) <|
  fG mo_lda (sim_iald dX3_runOne_118) <|
  fG mo_ald (sim_ald_n dX3_runOne_119 rfl) <|
  fG mo_getf (sim_getfG hG dX3_runOne_120 hc_3 (by decide) rfl in_X3 (fun _ _ _ h => h) (Or.inl q1295)) <|
  fG mo_iadd (sim_iadd dX3_runOne_123) <|
  fC (ic_cv (Or.inl rfl)) (sim_cv hG dX3_runOne_124 (hG.2.1 3 _ hc_3).2.1 M_X3_go (by rw [nm_X3_go]; rfl) (by rw [nm_X3_go]; exact q1661) (by rw [nm_X3_go]; exact q1663) (by rw [nm_X3_go]; exact qs88)) <|
  fG mo_int (sim_iconst dX3_runOne_127 (by decide)) <|
  fG mo_ist (sim_ist dX3_runOne_128) <|
  fF
theorem fX3_runOne_130 {X : tp_X} {az : Array Value} (hG : tp_Good X az) (hSt : tp_Stat X) : tp_Fit X yX3_runOne cX3_runOne none 5 tp_nm tp_by tp_ml tp_rtt 130 [o_ild (.iload 4) 4, o_ald (.aload_n 0) 0, o_getf (.getfield 83) 3 2, o_icmpge 31 167, o_ald (.aload_n 0) 0, o_getf (.getfield 43) 3 28, o_int (.sipush 612) 612, o_ild (.iload 4) 4, o_iadd, o_ald (.aload_n 0) 0, o_getf (.getfield 43) 3 28, o_int (.sipush 540) 540, o_ild (.iload 4) 4, o_iadd, o_lda .iaload [0, 20], o_sta .iastore [0], o_inc 4 1, o_goto (-34) 130] :=
  fG mo_ild (sim_ild dX3_runOne_130) <|
  fG mo_ald (sim_ald_n dX3_runOne_132 rfl) <|
  fG mo_getf (sim_getfG hG dX3_runOne_133 hc_3 (by decide) rfl in_X3 (fun _ _ _ h => h) (Or.inl q1254)) <|
  fG mo_icmpge (sim_icmpge dX3_runOne_136 rfl) <|
  fG mo_ald (sim_ald_n dX3_runOne_139 rfl) <|
  fG mo_getf (sim_getfG hG dX3_runOne_140 hc_3 (by decide) rfl in_X3 (fun _ _ _ h => h) (Or.inl q1278)) <|
  fG mo_int (sim_sipush dX3_runOne_143 (by decide)) <|
  fG mo_ild (sim_ild dX3_runOne_146) <|
  fG mo_iadd (sim_iadd dX3_runOne_148) <|
  fG mo_ald (sim_ald_n dX3_runOne_149 rfl) <|
  fG mo_getf (sim_getfG hG dX3_runOne_150 hc_3 (by decide) rfl in_X3 (fun _ _ _ h => h) (Or.inl q1278)) <|
  fG mo_int (sim_sipush dX3_runOne_153 (by decide)) <|
  fG mo_ild (sim_ild dX3_runOne_156) <|
  fG mo_iadd (sim_iadd dX3_runOne_158) <|
  fG mo_lda (sim_iald dX3_runOne_159) <|
  fG mo_sta (sim_iast dX3_runOne_160) <|
  fG mo_inc (sim_inc dX3_runOne_161 (by decide)) <|
  fG mo_goto (sim_goto dX3_runOne_164 rfl) <|
  trivial
theorem fX3_runOne_167 {X : tp_X} {az : Array Value} (hG : tp_Good X az) (hSt : tp_Stat X) : tp_Fit X yX3_runOne cX3_runOne none 5 tp_nm tp_by tp_ml tp_rtt 167 [o_ald (.aload_n 0) 0, o_getf (.getfield 452) 3 44, o_ifne 61 232, o_ild (.iload_n 1) 1, o_int (.iconst 0) 0, o_int (.iconst 3) 3, o_cs (.invokestatic 90) kX3_isIn 3 0, o_ifne 21 201, o_ild (.iload_n 1) 1, o_int (.iconst 5) 5, o_icmpeq 16 201, o_ald (.aload_n 0) 0, o_ald (.aload_n 0) 0, o_ald (.aload_n 0) 0, o_getf (.getfield 434) 3 41, o_ild (.iload_n 2) 2, o_cv (.invokevirtual 325) 3 kX3_drifted 2 0, o_putf (.putfield 434) 3 41 0, o_fall 201] :=
  fG mo_ald (sim_ald_n dX3_runOne_167 rfl) <|
  fG mo_getf (sim_getfG hG dX3_runOne_168 hc_3 (by decide) rfl in_X3 (fun _ _ _ h => h) (Or.inl q1294)) <|
  fG mo_ifne (sim_ifne dX3_runOne_171 rfl) <|
  fG mo_ild (sim_ild_n dX3_runOne_174 rfl) <|
  fG mo_int (sim_iconst dX3_runOne_175 (by decide)) <|
  fG mo_int (sim_iconst dX3_runOne_176 (by decide)) <|
  fC (ic_cs (Or.inl rfl)) (sim_cs hG dX3_runOne_177 M_X3_isIn (by rw [nm_X3_isIn]; rfl) (by rw [nm_X3_isIn]; exact q1400) (by rw [nm_X3_isIn]; exact q1401)) <|
  fG mo_ifne (sim_ifne dX3_runOne_180 rfl) <|
  fG mo_ild (sim_ild_n dX3_runOne_183 rfl) <|
  fG mo_int (sim_iconst dX3_runOne_184 (by decide)) <|
  fG mo_icmpeq (sim_icmpeq dX3_runOne_185 rfl) <|
  fG mo_ald (sim_ald_n dX3_runOne_188 rfl) <|
  fG mo_ald (sim_ald_n dX3_runOne_189 rfl) <|
  fG mo_ald (sim_ald_n dX3_runOne_190 rfl) <|
  fG mo_getf (sim_getfG hG dX3_runOne_191 hc_3 (by decide) rfl in_X3 (fun _ _ _ h => h) (Or.inl q1291)) <|
  fG mo_ild (sim_ild_n dX3_runOne_194 rfl) <|
  fC (ic_cv (Or.inl rfl)) (sim_cv hG dX3_runOne_195 (hG.2.1 3 _ hc_3).2.1 M_X3_drifted (by rw [nm_X3_drifted]; rfl) (by rw [nm_X3_drifted]; exact q1673) (by rw [nm_X3_drifted]; exact q1675) (by rw [nm_X3_drifted]; exact qs91)) <|
  fG mo_putf (sim_putf hG dX3_runOne_198 hc_3 (by decide) rfl (by decide) in_X3 tyX3_ok nmX3 (Or.inl ⟨rfl, rfl⟩) (fun _ _ _ h => h) rfl q1291) <|
  fF
theorem fX3_runOne_201 {X : tp_X} {az : Array Value} (hG : tp_Good X az) (hSt : tp_Stat X) : tp_Fit X yX3_runOne cX3_runOne none 5 tp_nm tp_by tp_ml tp_rtt 201 [o_ald (.aload_n 0) 0, o_int (.sipush 612) 612, o_ald (.aload_n 0) 0, o_getf (.getfield 434) 3 41, o_ild (.iload_n 2) 2, o_ald (.aload_n 0) 0, o_getf (.getfield 7) 3 3, o_int (.iconst 0) 0, o_lda .iaload [0, 20], o_ald (.aload_n 0) 0, o_getf (.getfield 446) 3 45, o_iadd, o_cv (.invokevirtual 328) 3 kX3_nips 4 0, o_ifeq 8 232, o_ald (.aload_n 0) 0, o_int (.iconst 2) 2, o_putf (.putfield 452) 3 44 0, o_fall 232] :=
  fG mo_ald (sim_ald_n dX3_runOne_201 rfl) <|
  fG mo_int (sim_sipush dX3_runOne_202 (by decide)) <|
  fG mo_ald (sim_ald_n dX3_runOne_205 rfl) <|
  fG mo_getf (sim_getfG hG dX3_runOne_206 hc_3 (by decide) rfl in_X3 (fun _ _ _ h => h) (Or.inl q1291)) <|
  fG mo_ild (sim_ild_n dX3_runOne_209 rfl) <|
  fG mo_ald (sim_ald_n dX3_runOne_210 rfl) <|
  fG mo_getf (sim_getfG hG dX3_runOne_211 hc_3 (by decide) rfl in_X3 (fun _ _ _ h => h) (Or.inl q1255)) <|
  fG mo_int (sim_iconst dX3_runOne_214 (by decide)) <|
  fG mo_lda (sim_iald dX3_runOne_215) <|
  fG mo_ald (sim_ald_n dX3_runOne_216 rfl) <|
  fG mo_getf (sim_getfG hG dX3_runOne_217 hc_3 (by decide) rfl in_X3 (fun _ _ _ h => h) (Or.inl q1295)) <|
  fG mo_iadd (sim_iadd dX3_runOne_220) <|
  fC (ic_cv (Or.inl rfl)) (sim_cv hG dX3_runOne_221 (hG.2.1 3 _ hc_3).2.1 M_X3_nips (by rw [nm_X3_nips]; rfl) (by rw [nm_X3_nips]; exact q1677) (by rw [nm_X3_nips]; exact q1679) (by rw [nm_X3_nips]; exact qs92)) <|
  fG mo_ifeq (sim_ifeq dX3_runOne_224 rfl) <|
  fG mo_ald (sim_ald_n dX3_runOne_227 rfl) <|
  fG mo_int (sim_iconst dX3_runOne_228 (by decide)) <|
  fG mo_putf (sim_putf hG dX3_runOne_229 hc_3 (by decide) rfl (by decide) in_X3 tyX3_ok nmX3 (Or.inl ⟨rfl, rfl⟩) (fun _ _ _ h => h) rfl q1294) <|
  fF
theorem fX3_runOne_232 {X : tp_X} {az : Array Value} (hG : tp_Good X az) (hSt : tp_Stat X) : tp_Fit X yX3_runOne cX3_runOne none 5 tp_nm tp_by tp_ml tp_rtt 232 [o_ald (.aload_n 0) 0, o_ild (.iload_n 2) 2, o_putf (.putfield 443) 3 46 0, o_ald (.aload_n 0) 0, o_dup, o_getf (.getfield 446) 3 45, o_int (.iconst 1) 1, o_iadd, o_putf (.putfield 446) 3 45 0, o_vret] :=
  fG mo_ald (sim_ald_n dX3_runOne_232 rfl) <|
  fG mo_ild (sim_ild_n dX3_runOne_233 rfl) <|
  fG mo_putf (sim_putf hG dX3_runOne_234 hc_3 (by decide) rfl (by decide) in_X3 tyX3_ok nmX3 (Or.inl ⟨rfl, rfl⟩) (fun _ _ _ h => h) rfl q1296) <|
  fG mo_ald (sim_ald_n dX3_runOne_237 rfl) <|
  fG mo_dup (sim_dup dX3_runOne_238) <|
  fG mo_getf (sim_getfG hG dX3_runOne_239 hc_3 (by decide) rfl in_X3 (fun _ _ _ h => h) (Or.inl q1295)) <|
  fG mo_int (sim_iconst dX3_runOne_242 (by decide)) <|
  fG mo_iadd (sim_iadd dX3_runOne_243) <|
  fG mo_putf (sim_putf hG dX3_runOne_244 hc_3 (by decide) rfl (by decide) in_X3 tyX3_ok nmX3 (Or.inl ⟨rfl, rfl⟩) (fun _ _ _ h => h) rfl q1295) <|
  fE ie_vret (sim_vret dX3_runOne_247 rfl)
theorem F_X3_runOne {X : tp_X} {az : Array Value} (hG : tp_Good X az) (hSt : tp_Stat X) (pc : Nat) : tp_Fit X yX3_runOne cX3_runOne none 5 tp_nm tp_by tp_ml tp_rtt pc (mX3_runOne pc) :=
  fI (fX3_runOne_0 hG hSt) <| fI (fX3_runOne_101 hG hSt) <| fI (fX3_runOne_102 hG hSt) <| fI (fX3_runOne_105 hG hSt) <| fI (fX3_runOne_130 hG hSt) <| fI (fX3_runOne_167 hG hSt) <| fI (fX3_runOne_201 hG hSt) <| fI (fX3_runOne_232 hG hSt) <| trivial
