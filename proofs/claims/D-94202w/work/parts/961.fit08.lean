/-! FITS 8 -/
set_option maxRecDepth 100000
theorem fX3_does_0 {X : tp_X} {az : Array Value} (hG : tp_Good X az) (hSt : tp_Stat X) : tp_Fit X yX3_does cX3_does (some .boolean) 6 tp_nm tp_by tp_ml tp_rtt 0 [o_ild (.iload_n 3) 3, o_iflt 11 12, o_ald (.aload_n 0) 0, o_ild (.iload_n 1) 1, o_cv (.invokevirtual 313) 3 kX3_isFree 1 0, o_ifne 5 14, o_fall 12] :=
  fG mo_ild (sim_ild_n dX3_does_0 rfl) <|
  fG mo_iflt (sim_iflt dX3_does_1 rfl) <|
  fG mo_ald (sim_ald_n dX3_does_4 rfl) <|
  fG mo_ild (sim_ild_n dX3_does_5 rfl) <|
  fC (ic_cv (Or.inl rfl)) (sim_cv hG dX3_does_6 (hG.2.1 3 _ hc_3).2.1 M_X3_isFree (by rw [nm_X3_isFree]; rfl) (by rw [nm_X3_isFree]; exact q1582) (by rw [nm_X3_isFree]; exact q1584) (by rw [nm_X3_isFree]; exact qs73)) <|
  fG mo_ifne (sim_ifne dX3_does_9 rfl) <|
  fF
theorem fX3_does_12 {X : tp_X} {az : Array Value} (hG : tp_Good X az) (hSt : tp_Stat X) : tp_Fit X yX3_does cX3_does (some .boolean) 6 tp_nm tp_by tp_ml tp_rtt 12 [o_int (.iconst 0) 0, o_iret 1] :=
  fG mo_int (sim_iconst dX3_does_12 (by decide)) <|
  fE ie_iret (sim_iret dX3_does_13 rfl (Or.inr (Or.inl ⟨rfl, rfl⟩)))
theorem fX3_does_14 {X : tp_X} {az : Array Value} (hG : tp_Good X az) (hSt : tp_Stat X) : tp_Fit X yX3_does cX3_does (some .boolean) 6 tp_nm tp_by tp_ml tp_rtt 14 [o_ald (.aload_n 0) 0, o_ild (.iload_n 1) 1, o_ild (.iload_n 2) 2, o_ild (.iload_n 3) 3, o_cv (.invokevirtual 319) 3 kX3_costOf 3 0, o_ist (.istore 4) 4, o_ild (.iload 4) 4, o_ifge 5 30, o_int (.iconst 0) 0, o_iret 1] :=
  fG mo_ald (sim_ald_n dX3_does_14 rfl) <|
  fG mo_ild (sim_ild_n dX3_does_15 rfl) <|
  fG mo_ild (sim_ild_n dX3_does_16 rfl) <|
  fG mo_ild (sim_ild_n dX3_does_17 rfl) <|
  fC (ic_cv (Or.inl rfl)) (sim_cv hG dX3_does_18 (hG.2.1 3 _ hc_3).2.1 M_X3_costOf (by rw [nm_X3_costOf]; rfl) (by rw [nm_X3_costOf]; exact q1590) (by rw [nm_X3_costOf]; exact q1592) (by rw [nm_X3_costOf]; exact qs75)) <|
  fG mo_ist (sim_ist dX3_does_21) <|
  fG mo_ild (sim_ild dX3_does_23) <|
  fG mo_ifge (sim_ifge dX3_does_25 rfl) <|
  fG mo_int (sim_iconst dX3_does_28 (by decide)) <|
  fE ie_iret (sim_iret dX3_does_29 rfl (Or.inr (Or.inl ⟨rfl, rfl⟩)))
theorem fX3_does_30 {X : tp_X} {az : Array Value} (hG : tp_Good X az) (hSt : tp_Stat X) : tp_Fit X yX3_does cX3_does (some .boolean) 6 tp_nm tp_by tp_ml tp_rtt 30 [o_ald (.aload_n 0) 0, o_getf (.getfield 7) 3 3, o_ild (.iload_n 1) 1, o_int (.iconst 1) 1, o_cs (.invokestatic 108) kX3_ofShip 2 0, o_dup2, o_lda .iaload [0, 20], o_ild (.iload 4) 4, o_isub, o_sta .iastore [0], o_ald (.aload_n 0) 0, o_getf (.getfield 7) 3 3, o_ild (.iload_n 1) 1, o_int (.iconst 2) 2, o_cs (.invokestatic 108) kX3_ofShip 2 0, o_ild (.iload_n 3) 3, o_ald (.aload_n 0) 0, o_getf (.getfield 7) 3 3, o_ild (.iload_n 1) 1, o_int (.iconst 2) 2, o_cs (.invokestatic 108) kX3_ofShip 2 0, o_lda .iaload [0, 20], o_cs (.invokestatic 322) kX3_firesBehind 2 0, o_sta .iastore [0], o_ild (.iload_n 3) 3, o_int (.iconst 3) 3, o_icmple 5 76, o_int (.iconst 1) 1, o_iret 1] :=
  fG mo_ald (sim_ald_n dX3_does_30 rfl) <|
  fG mo_getf (sim_getfG hG dX3_does_31 hc_3 (by decide) rfl in_X3 (fun _ _ _ h => h) (Or.inl q1255)) <|
  fG mo_ild (sim_ild_n dX3_does_34 rfl) <|
  fG mo_int (sim_iconst dX3_does_35 (by decide)) <|
  fC (ic_cs (Or.inl rfl)) (sim_cs hG dX3_does_36 M_X3_ofShip (by rw [nm_X3_ofShip]; rfl) (by rw [nm_X3_ofShip]; exact q1433) (by rw [nm_X3_ofShip]; exact q1434)) <|
  fG mo_dup2 (sim_dup2 dX3_does_39) <|
  fG mo_lda (sim_iald dX3_does_40) <|
  fG mo_ild (sim_ild dX3_does_41) <|
  fG mo_isub (sim_isub dX3_does_43) <|
  fG mo_sta (sim_iast dX3_does_44) <|
  fG mo_ald (sim_ald_n dX3_does_45 rfl) <|
  fG mo_getf (sim_getfG hG dX3_does_46 hc_3 (by decide) rfl in_X3 (fun _ _ _ h => h) (Or.inl q1255)) <|
  fG mo_ild (sim_ild_n dX3_does_49 rfl) <|
  fG mo_int (sim_iconst dX3_does_50 (by decide)) <|
  fC (ic_cs (Or.inl rfl)) (sim_cs hG dX3_does_51 M_X3_ofShip (by rw [nm_X3_ofShip]; rfl) (by rw [nm_X3_ofShip]; exact q1433) (by rw [nm_X3_ofShip]; exact q1434)) <|
  fG mo_ild (sim_ild_n dX3_does_54 rfl) <|
  fG mo_ald (sim_ald_n dX3_does_55 rfl) <|
  fG mo_getf (sim_getfG hG dX3_does_56 hc_3 (by decide) rfl in_X3 (fun _ _ _ h => h) (Or.inl q1255)) <|
  fG mo_ild (sim_ild_n dX3_does_59 rfl) <|
  fG mo_int (sim_iconst dX3_does_60 (by decide)) <|
  fC (ic_cs (Or.inl rfl)) (sim_cs hG dX3_does_61 M_X3_ofShip (by rw [nm_X3_ofShip]; rfl) (by rw [nm_X3_ofShip]; exact q1433) (by rw [nm_X3_ofShip]; exact q1434)) <|
  fG mo_lda (sim_iald dX3_does_64) <|
  fC (ic_cs (Or.inl rfl)) (sim_cs hG dX3_does_65 M_X3_firesBehind (by rw [nm_X3_firesBehind]; rfl) (by rw [nm_X3_firesBehind]; exact q1658) (by rw [nm_X3_firesBehind]; exact q1659)) <|
  fG mo_sta (sim_iast dX3_does_68) <|
  fG mo_ild (sim_ild_n dX3_does_69 rfl) <|
  fG mo_int (sim_iconst dX3_does_70 (by decide)) <|
  fG mo_icmple (sim_icmple dX3_does_71 rfl) <|
  fG mo_int (sim_iconst dX3_does_74 (by decide)) <|
  fE ie_iret (sim_iret dX3_does_75 rfl (Or.inr (Or.inl ⟨rfl, rfl⟩)))
theorem fX3_does_76 {X : tp_X} {az : Array Value} (hG : tp_Good X az) (hSt : tp_Stat X) : tp_Fit X yX3_does cX3_does (some .boolean) 6 tp_nm tp_by tp_ml tp_rtt 76 [o_ald (.aload_n 0) 0, o_ald (.aload_n 0) 0, o_getf (.getfield 7) 3 3, o_ild (.iload_n 1) 1, o_int (.iconst 0) 0, o_cs (.invokestatic 108) kX3_ofShip 2 0, o_lda .iaload [0, 20], o_ild (.iload_n 3) 3, o_cv (.invokevirtual 271) 3 kX3_pushed 2 0, o_ist (.istore 5) 5, o_ald (.aload_n 0) 0, o_getf (.getfield 7) 3 3, o_ild (.iload_n 1) 1, o_int (.iconst 0) 0, o_cs (.invokestatic 108) kX3_ofShip 2 0, o_ild (.iload 5) 5, o_sta .iastore [0], o_ald (.aload_n 0) 0, o_getf (.getfield 7) 3 3, o_int (.bipush 70) 70, o_ild (.iload 5) 5, o_iadd, o_lda .iaload [0, 20], o_int (.iconst 1) 1, o_icmpne 14 130, o_ald (.aload_n 0) 0, o_getf (.getfield 7) 3 3, o_ild (.iload_n 1) 1, o_int (.iconst 3) 3, o_cs (.invokestatic 108) kX3_ofShip 2 0, o_int (.iconst 1) 1, o_sta .iastore [0], o_fall 130] :=
  fG mo_ald (sim_ald_n dX3_does_76 rfl) <|
  fG mo_ald (sim_ald_n dX3_does_77 rfl) <|
  fG mo_getf (sim_getfG hG dX3_does_78 hc_3 (by decide) rfl in_X3 (fun _ _ _ h => h) (Or.inl q1255)) <|
  fG mo_ild (sim_ild_n dX3_does_81 rfl) <|
  fG mo_int (sim_iconst dX3_does_82 (by decide)) <|
  fC (ic_cs (Or.inl rfl)) (sim_cs hG dX3_does_83 M_X3_ofShip (by rw [nm_X3_ofShip]; rfl) (by rw [nm_X3_ofShip]; exact q1433) (by rw [nm_X3_ofShip]; exact q1434)) <|
  fG mo_lda (sim_iald dX3_does_86) <|
  fG mo_ild (sim_ild_n dX3_does_87 rfl) <|
  fC (ic_cv (Or.inl rfl)) (sim_cv hG dX3_does_88 (hG.2.1 3 _ hc_3).2.1 M_X3_pushed (by rw [nm_X3_pushed]; rfl) (by rw [nm_X3_pushed]; exact q1598) (by rw [nm_X3_pushed]; exact q1600) (by rw [nm_X3_pushed]; exact qs77)) <|
  fG mo_ist (sim_ist dX3_does_91) <|
  fG mo_ald (sim_ald_n dX3_does_93 rfl) <|
  fG mo_getf (sim_getfG hG dX3_does_94 hc_3 (by decide) rfl in_X3 (fun _ _ _ h => h) (Or.inl q1255)) <|
  fG mo_ild (sim_ild_n dX3_does_97 rfl) <|
  fG mo_int (sim_iconst dX3_does_98 (by decide)) <|
  fC (ic_cs (Or.inl rfl)) (sim_cs hG dX3_does_99 M_X3_ofShip (by rw [nm_X3_ofShip]; rfl) (by rw [nm_X3_ofShip]; exact q1433) (by rw [nm_X3_ofShip]; exact q1434)) <|
  fG mo_ild (sim_ild dX3_does_102) <|
  fG mo_sta (sim_iast dX3_does_104) <|
  fG mo_ald (sim_ald_n dX3_does_105 rfl) <|
  fG mo_getf (sim_getfG hG dX3_does_106 hc_3 (by decide) rfl in_X3 (fun _ _ _ h => h) (Or.inl q1255)) <|
  fG mo_int (sim_bipush dX3_does_109 (by decide)) <|
  fG mo_ild (sim_ild dX3_does_111) <|
  fG mo_iadd (sim_iadd dX3_does_113) <|
  fG mo_lda (sim_iald dX3_does_114) <|
  fG mo_int (sim_iconst dX3_does_115 (by decide)) <|
  fG mo_icmpne (sim_icmpne dX3_does_116 rfl) <|
  fG mo_ald (sim_ald_n dX3_does_119 rfl) <|
  fG mo_getf (sim_getfG hG dX3_does_120 hc_3 (by decide) rfl in_X3 (fun _ _ _ h => h) (Or.inl q1255)) <|
  fG mo_ild (sim_ild_n dX3_does_123 rfl) <|
  fG mo_int (sim_iconst dX3_does_124 (by decide)) <|
  fC (ic_cs (Or.inl rfl)) (sim_cs hG dX3_does_125 M_X3_ofShip (by rw [nm_X3_ofShip]; rfl) (by rw [nm_X3_ofShip]; exact q1433) (by rw [nm_X3_ofShip]; exact q1434)) <|
  fG mo_int (sim_iconst dX3_does_128 (by decide)) <|
  fG mo_sta (sim_iast dX3_does_129) <|
  fF
theorem fX3_does_130 {X : tp_X} {az : Array Value} (hG : tp_Good X az) (hSt : tp_Stat X) : tp_Fit X yX3_does cX3_does (some .boolean) 6 tp_nm tp_by tp_ml tp_rtt 130 [o_int (.iconst 1) 1, o_iret 1] :=
  fG mo_int (sim_iconst dX3_does_130 (by decide)) <|
  fE ie_iret (sim_iret dX3_does_131 rfl (Or.inr (Or.inl ⟨rfl, rfl⟩)))
theorem F_X3_does {X : tp_X} {az : Array Value} (hG : tp_Good X az) (hSt : tp_Stat X) (pc : Nat) : tp_Fit X yX3_does cX3_does (some .boolean) 6 tp_nm tp_by tp_ml tp_rtt pc (mX3_does pc) :=
  fI (fX3_does_0 hG hSt) <| fI (fX3_does_12 hG hSt) <| fI (fX3_does_14 hG hSt) <| fI (fX3_does_30 hG hSt) <| fI (fX3_does_76 hG hSt) <| fI (fX3_does_130 hG hSt) <| trivial
theorem fX3_firesBehind_0 {X : tp_X} {az : Array Value} (hG : tp_Good X az) (hSt : tp_Stat X) : tp_Fit X yX3_firesBehind cX3_firesBehind (some .int) 2 tp_nm tp_by tp_ml tp_rtt 0 [o_ild (.iload_n 0) 0, o_int (.bipush 6) 6, o_icmpne 7 10, o_int (.iconst 1) 1, o_goto 14 21] :=
  fG mo_ild (sim_ild_n dX3_firesBehind_0 rfl) <|
  fG mo_int (sim_bipush dX3_firesBehind_1 (by decide)) <|
  fG mo_icmpne (sim_icmpne dX3_firesBehind_3 rfl) <|
  fG mo_int (sim_iconst dX3_firesBehind_6 (by decide)) <|
  fG mo_goto (sim_goto dX3_firesBehind_7 rfl) <|
  trivial
theorem fX3_firesBehind_10 {X : tp_X} {az : Array Value} (hG : tp_Good X az) (hSt : tp_Stat X) : tp_Fit X yX3_firesBehind cX3_firesBehind (some .int) 2 tp_nm tp_by tp_ml tp_rtt 10 [o_ild (.iload_n 0) 0, o_int (.bipush 7) 7, o_icmpne 7 20, o_int (.iconst 0) 0, o_goto 4 21] :=
  fG mo_ild (sim_ild_n dX3_firesBehind_10 rfl) <|
  fG mo_int (sim_bipush dX3_firesBehind_11 (by decide)) <|
  fG mo_icmpne (sim_icmpne dX3_firesBehind_13 rfl) <|
  fG mo_int (sim_iconst dX3_firesBehind_16 (by decide)) <|
  fG mo_goto (sim_goto dX3_firesBehind_17 rfl) <|
  trivial
theorem fX3_firesBehind_20 {X : tp_X} {az : Array Value} (hG : tp_Good X az) (hSt : tp_Stat X) : tp_Fit X yX3_firesBehind cX3_firesBehind (some .int) 2 tp_nm tp_by tp_ml tp_rtt 20 [o_ild (.iload_n 1) 1, o_fall 21] :=
  fG mo_ild (sim_ild_n dX3_firesBehind_20 rfl) <|
  fF
theorem fX3_firesBehind_21 {X : tp_X} {az : Array Value} (hG : tp_Good X az) (hSt : tp_Stat X) : tp_Fit X yX3_firesBehind cX3_firesBehind (some .int) 2 tp_nm tp_by tp_ml tp_rtt 21 [o_iret 0] :=
  fE ie_iret (sim_iret dX3_firesBehind_21 rfl (Or.inl ⟨rfl, rfl⟩))
theorem F_X3_firesBehind {X : tp_X} {az : Array Value} (hG : tp_Good X az) (hSt : tp_Stat X) (pc : Nat) : tp_Fit X yX3_firesBehind cX3_firesBehind (some .int) 2 tp_nm tp_by tp_ml tp_rtt pc (mX3_firesBehind pc) :=
  fI (fX3_firesBehind_0 hG hSt) <| fI (fX3_firesBehind_10 hG hSt) <| fI (fX3_firesBehind_20 hG hSt) <| fI (fX3_firesBehind_21 hG hSt) <| trivial
theorem fX3_go_0 {X : tp_X} {az : Array Value} (hG : tp_Good X az) (hSt : tp_Stat X) : tp_Fit X yX3_go cX3_go none 6 tp_nm tp_by tp_ml tp_rtt 0 [o_int (.iconst 0) 0, o_ist (.istore 5) 5, o_fall 3] :=
  fG mo_int (sim_iconst dX3_go_0 (by decide)) <|
  fG mo_ist (sim_ist dX3_go_1) <|
  fF
theorem fX3_go_3 {X : tp_X} {az : Array Value} (hG : tp_Good X az) (hSt : tp_Stat X) : tp_Fit X yX3_go cX3_go none 6 tp_nm tp_by tp_ml tp_rtt 3 [o_ild (.iload 5) 5, o_ald (.aload_n 0) 0, o_getf (.getfield 83) 3 2, o_icmpge 33 42, o_ald (.aload_n 0) 0, o_getf (.getfield 43) 3 28, o_int (.sipush 648) 648, o_ild (.iload 5) 5, o_iadd, o_ald (.aload_n 0) 0, o_ild (.iload_n 1) 1, o_ald (.aload_n 0) 0, o_ild (.iload 5) 5, o_ild (.iload_n 3) 3, o_int (.iconst (-1)) (-1), o_cv (.invokevirtual 299) 3 kX3_driven 3 0, o_cv (.invokevirtual 274) 3 kX3_iceOf 2 0, o_sta .iastore [0], o_inc 5 1, o_goto (-36) 3] :=
  fG mo_ild (sim_ild dX3_go_3) <|
  fG mo_ald (sim_ald_n dX3_go_5 rfl) <|
  fG mo_getf (sim_getfG hG dX3_go_6 hc_3 (by decide) rfl in_X3 (fun _ _ _ h => h) (Or.inl q1254)) <|
  fG mo_icmpge (sim_icmpge dX3_go_9 rfl) <|
  fG mo_ald (sim_ald_n dX3_go_12 rfl) <|
  fG mo_getf (sim_getfG hG dX3_go_13 hc_3 (by decide) rfl in_X3 (fun _ _ _ h => h) (Or.inl q1278)) <|
  fG mo_int (sim_sipush dX3_go_16 (by decide)) <|
  fG mo_ild (sim_ild dX3_go_19) <|
  fG mo_iadd (sim_iadd dX3_go_21) <|
  fG mo_ald (sim_ald_n dX3_go_22 rfl) <|
  fG mo_ild (sim_ild_n dX3_go_23 rfl) <|
  fG mo_ald (sim_ald_n dX3_go_24 rfl) <|
  fG mo_ild (sim_ild dX3_go_25) <|
  fG mo_ild (sim_ild_n dX3_go_27 rfl) <|
  fG mo_int (sim_iconst dX3_go_28 (by decide)) <|
  fC (ic_cv (Or.inl rfl)) (sim_cv hG dX3_go_29 (hG.2.1 3 _ hc_3).2.1 M_X3_driven (by rw [nm_X3_driven]; rfl) (by rw [nm_X3_driven]; exact q1665) (by rw [nm_X3_driven]; exact q1667) (by rw [nm_X3_driven]; exact qs89)) <|
  fC (ic_cv (Or.inl rfl)) (sim_cv hG dX3_go_32 (hG.2.1 3 _ hc_3).2.1 M_X3_iceOf (by rw [nm_X3_iceOf]; rfl) (by rw [nm_X3_iceOf]; exact q1614) (by rw [nm_X3_iceOf]; exact q1616) (by rw [nm_X3_iceOf]; exact qs81)) <|
  fG mo_sta (sim_iast dX3_go_35) <|
  fG mo_inc (sim_inc dX3_go_36 (by decide)) <|
  fG mo_goto (sim_goto dX3_go_39 rfl) <|
  trivial
theorem fX3_go_42 {X : tp_X} {az : Array Value} (hG : tp_Good X az) (hSt : tp_Stat X) : tp_Fit X yX3_go cX3_go none 6 tp_nm tp_by tp_ml tp_rtt 42 [o_int (.iconst 0) 0, o_ist (.istore 5) 5, o_fall 45] :=
  fG mo_int (sim_iconst dX3_go_42 (by decide)) <|
  fG mo_ist (sim_ist dX3_go_43) <|
  fF
theorem fX3_go_45 {X : tp_X} {az : Array Value} (hG : tp_Good X az) (hSt : tp_Stat X) : tp_Fit X yX3_go cX3_go none 6 tp_nm tp_by tp_ml tp_rtt 45 [o_ild (.iload 5) 5, o_ald (.aload_n 0) 0, o_getf (.getfield 83) 3 2, o_icmpge 47 98, o_ald (.aload_n 0) 0, o_int (.sipush 648) 648, o_ild (.iload 5) 5, o_ild (.iload_n 3) 3, o_ild (.iload 4) 4, o_cv (.invokevirtual 288) 3 kX3_nameCell 4 0, o_ald (.aload_n 0) 0, o_getf (.getfield 43) 3 28, o_ild (.iload_n 2) 2, o_ild (.iload 5) 5, o_iadd, o_ald (.aload_n 0) 0, o_int (.bipush 6) 6, o_ald (.aload_n 0) 0, o_getf (.getfield 43) 3 28, o_int (.sipush 648) 648, o_ild (.iload 5) 5, o_iadd, o_lda .iaload [0, 20], o_cv (.invokevirtual 296) 3 kX3_sumOf 2 0, o_sta .iastore [0], o_inc 5 1, o_goto (-50) 45] :=
  fG mo_ild (sim_ild dX3_go_45) <|
  fG mo_ald (sim_ald_n dX3_go_47 rfl) <|
  fG mo_getf (sim_getfG hG dX3_go_48 hc_3 (by decide) rfl in_X3 (fun _ _ _ h => h) (Or.inl q1254)) <|
  fG mo_icmpge (sim_icmpge dX3_go_51 rfl) <|
  fG mo_ald (sim_ald_n dX3_go_54 rfl) <|
  fG mo_int (sim_sipush dX3_go_55 (by decide)) <|
  fG mo_ild (sim_ild dX3_go_58) <|
  fG mo_ild (sim_ild_n dX3_go_60 rfl) <|
  fG mo_ild (sim_ild dX3_go_61) <|
  fC (ic_cv (Or.inl rfl)) (sim_cv hG dX3_go_63 (hG.2.1 3 _ hc_3).2.1 M_X3_nameCell (by rw [nm_X3_nameCell]; rfl) (by rw [nm_X3_nameCell]; exact q1610) (by rw [nm_X3_nameCell]; exact q1612) (by rw [nm_X3_nameCell]; exact qs80)) <|
  fG mo_ald (sim_ald_n dX3_go_66 rfl) <|
  fG mo_getf (sim_getfG hG dX3_go_67 hc_3 (by decide) rfl in_X3 (fun _ _ _ h => h) (Or.inl q1278)) <|
  fG mo_ild (sim_ild_n dX3_go_70 rfl) <|
  fG mo_ild (sim_ild dX3_go_71) <|
  fG mo_iadd (sim_iadd dX3_go_73) <|
  fG mo_ald (sim_ald_n dX3_go_74 rfl) <|
  fG mo_int (sim_bipush dX3_go_75 (by decide)) <|
  fG mo_ald (sim_ald_n dX3_go_77 rfl) <|
  fG mo_getf (sim_getfG hG dX3_go_78 hc_3 (by decide) rfl in_X3 (fun _ _ _ h => h) (Or.inl q1278)) <|
  fG mo_int (sim_sipush dX3_go_81 (by decide)) <|
  fG mo_ild (sim_ild dX3_go_84) <|
  fG mo_iadd (sim_iadd dX3_go_86) <|
  fG mo_lda (sim_iald dX3_go_87) <|
  fC (ic_cv (Or.inl rfl)) (sim_cv hG dX3_go_88 (hG.2.1 3 _ hc_3).2.1 M_X3_sumOf (by rw [nm_X3_sumOf]; rfl) (by rw [nm_X3_sumOf]; exact q1645) (by rw [nm_X3_sumOf]; exact q1647) (by rw [nm_X3_sumOf]; exact qs86)) <|
  fG mo_sta (sim_iast dX3_go_91) <|
  fG mo_inc (sim_inc dX3_go_92 (by decide)) <|
  fG mo_goto (sim_goto dX3_go_95 rfl) <|
  trivial
theorem fX3_go_98 {X : tp_X} {az : Array Value} (hG : tp_Good X az) (hSt : tp_Stat X) : tp_Fit X yX3_go cX3_go none 6 tp_nm tp_by tp_ml tp_rtt 98 [o_vret] :=
  fE ie_vret (sim_vret dX3_go_98 rfl)
theorem F_X3_go {X : tp_X} {az : Array Value} (hG : tp_Good X az) (hSt : tp_Stat X) (pc : Nat) : tp_Fit X yX3_go cX3_go none 6 tp_nm tp_by tp_ml tp_rtt pc (mX3_go pc) :=
  fI (fX3_go_0 hG hSt) <| fI (fX3_go_3 hG hSt) <| fI (fX3_go_42 hG hSt) <| fI (fX3_go_45 hG hSt) <| fI (fX3_go_98 hG hSt) <| trivial
theorem fX3_driven_0 {X : tp_X} {az : Array Value} (hG : tp_Good X az) (hSt : tp_Stat X) : tp_Fit X yX3_driven cX3_driven (some .int) 4 tp_nm tp_by tp_ml tp_rtt 0 [o_ald (.aload_n 0) 0, o_ild (.iload_n 1) 1, o_ild (.iload_n 3) 3, o_ald (.aload_n 0) 0, o_getf (.getfield 7) 3 3, o_int (.sipush 150) 150, o_int (.iconst 2) 2, o_ild (.iload_n 2) 2, o_imul, o_iadd, o_lda .iaload [0, 20], o_imul, o_ild (.iload_n 3) 3, o_ald (.aload_n 0) 0, o_getf (.getfield 7) 3 3, o_int (.sipush 150) 150, o_int (.iconst 2) 2, o_ild (.iload_n 2) 2, o_imul, o_iadd, o_int (.iconst 1) 1, o_iadd, o_lda .iaload [0, 20], o_imul, o_cv (.invokevirtual 94) 3 kX3_besideBy 3 0, o_iret 0] :=
  fG mo_ald (sim_ald_n dX3_driven_0 rfl) <|
  fG mo_ild (sim_ild_n dX3_driven_1 rfl) <|
  fG mo_ild (sim_ild_n dX3_driven_2 rfl) <|
  fG mo_ald (sim_ald_n dX3_driven_3 rfl) <|
  fG mo_getf (sim_getfG hG dX3_driven_4 hc_3 (by decide) rfl in_X3 (fun _ _ _ h => h) (Or.inl q1255)) <|
  fG mo_int (sim_sipush dX3_driven_7 (by decide)) <|
  fG mo_int (sim_iconst dX3_driven_10 (by decide)) <|
  fG mo_ild (sim_ild_n dX3_driven_11 rfl) <|
  fG mo_imul (sim_imul dX3_driven_12) <|
  fG mo_iadd (sim_iadd dX3_driven_13) <|
  fG mo_lda (sim_iald dX3_driven_14) <|
  fG mo_imul (sim_imul dX3_driven_15) <|
  fG mo_ild (sim_ild_n dX3_driven_16 rfl) <|
  fG mo_ald (sim_ald_n dX3_driven_17 rfl) <|
  fG mo_getf (sim_getfG hG dX3_driven_18 hc_3 (by decide) rfl in_X3 (fun _ _ _ h => h) (Or.inl q1255)) <|
  fG mo_int (sim_sipush dX3_driven_21 (by decide)) <|
  fG mo_int (sim_iconst dX3_driven_24 (by decide)) <|
  fG mo_ild (sim_ild_n dX3_driven_25 rfl) <|
  fG mo_imul (sim_imul dX3_driven_26) <|
  fG mo_iadd (sim_iadd dX3_driven_27) <|
  fG mo_int (sim_iconst dX3_driven_28 (by decide)) <|
  fG mo_iadd (sim_iadd dX3_driven_29) <|
  fG mo_lda (sim_iald dX3_driven_30) <|
  fG mo_imul (sim_imul dX3_driven_31) <|
  fC (ic_cv (Or.inl rfl)) (sim_cv hG dX3_driven_32 (hG.2.1 3 _ hc_3).2.1 M_X3_besideBy (by rw [nm_X3_besideBy]; rfl) (by rw [nm_X3_besideBy]; exact q1602) (by rw [nm_X3_besideBy]; exact q1604) (by rw [nm_X3_besideBy]; exact qs78)) <|
  fE ie_iret (sim_iret dX3_driven_35 rfl (Or.inl ⟨rfl, rfl⟩))
theorem F_X3_driven {X : tp_X} {az : Array Value} (hG : tp_Good X az) (hSt : tp_Stat X) (pc : Nat) : tp_Fit X yX3_driven cX3_driven (some .int) 4 tp_nm tp_by tp_ml tp_rtt pc (mX3_driven pc) :=
  fI (fX3_driven_0 hG hSt) <| trivial
theorem fX3_floatShip_0 {X : tp_X} {az : Array Value} (hG : tp_Good X az) (hSt : tp_Stat X) : tp_Fit X yX3_floatShip cX3_floatShip none 6 tp_nm tp_by tp_ml tp_rtt 0 [o_ald (.aload_n 0) 0, o_ild (.iload_n 1) 1, o_cv (.invokevirtual 313) 3 kX3_isFree 1 0, o_ifne 4 9, o_vret] :=
  fG mo_ald (sim_ald_n dX3_floatShip_0 rfl) <|
  fG mo_ild (sim_ild_n dX3_floatShip_1 rfl) <|
  fC (ic_cv (Or.inl rfl)) (sim_cv hG dX3_floatShip_2 (hG.2.1 3 _ hc_3).2.1 M_X3_isFree (by rw [nm_X3_isFree]; rfl) (by rw [nm_X3_isFree]; exact q1582) (by rw [nm_X3_isFree]; exact q1584) (by rw [nm_X3_isFree]; exact qs73)) <|
  fG mo_ifne (sim_ifne dX3_floatShip_5 rfl) <|
  fE ie_vret (sim_vret dX3_floatShip_8 rfl)
theorem fX3_floatShip_9 {X : tp_X} {az : Array Value} (hG : tp_Good X az) (hSt : tp_Stat X) : tp_Fit X yX3_floatShip cX3_floatShip none 6 tp_nm tp_by tp_ml tp_rtt 9 [o_ild (.iload_n 2) 2, o_ifeq 17 27, o_ild (.iload_n 3) 3, o_int (.iconst 4) 4, o_icmplt 8 23, o_ild (.iload_n 3) 3, o_int (.iconst 5) 5, o_icmpne 7 27, o_fall 23] :=
  fG mo_ild (sim_ild_n dX3_floatShip_9 rfl) <|
  fG mo_ifeq (sim_ifeq dX3_floatShip_10 rfl) <|
  fG mo_ild (sim_ild_n dX3_floatShip_13 rfl) <|
  fG mo_int (sim_iconst dX3_floatShip_14 (by decide)) <|
  fG mo_icmplt (sim_icmplt dX3_floatShip_15 rfl) <|
  fG mo_ild (sim_ild_n dX3_floatShip_18 rfl) <|
  fG mo_int (sim_iconst dX3_floatShip_19 (by decide)) <|
  fG mo_icmpne (sim_icmpne dX3_floatShip_20 rfl) <|
  fF
theorem fX3_floatShip_23 {X : tp_X} {az : Array Value} (hG : tp_Good X az) (hSt : tp_Stat X) : tp_Fit X yX3_floatShip cX3_floatShip none 6 tp_nm tp_by tp_ml tp_rtt 23 [o_int (.iconst 1) 1, o_goto 4 28] :=
  fG mo_int (sim_iconst dX3_floatShip_23 (by decide)) <|
  fG mo_goto (sim_goto dX3_floatShip_24 rfl) <|
  trivial
theorem fX3_floatShip_27 {X : tp_X} {az : Array Value} (hG : tp_Good X az) (hSt : tp_Stat X) : tp_Fit X yX3_floatShip cX3_floatShip none 6 tp_nm tp_by tp_ml tp_rtt 27 [o_int (.iconst 0) 0, o_fall 28] :=
  fG mo_int (sim_iconst dX3_floatShip_27 (by decide)) <|
  fF
theorem fX3_floatShip_28 {X : tp_X} {az : Array Value} (hG : tp_Good X az) (hSt : tp_Stat X) : tp_Fit X yX3_floatShip cX3_floatShip none 6 tp_nm tp_by tp_ml tp_rtt 28 [o_ist (.istore 5) 5, o_ild (.iload 5) 5, o_ifne 29 61, o_ald (.aload_n 0) 0, o_getf (.getfield 7) 3 3, o_ild (.iload_n 1) 1, o_int (.iconst 0) 0, o_cs (.invokestatic 108) kX3_ofShip 2 0, o_ald (.aload_n 0) 0, o_ald (.aload_n 0) 0, o_getf (.getfield 7) 3 3, o_ild (.iload_n 1) 1, o_int (.iconst 0) 0, o_cs (.invokestatic 108) kX3_ofShip 2 0, o_lda .iaload [0, 20], o_ild (.iload 4) 4, o_cv (.invokevirtual 325) 3 kX3_drifted 2 0, o_sta .iastore [0], o_fall 61] :=
  fG mo_ist (sim_ist dX3_floatShip_28) <|
  fG mo_ild (sim_ild dX3_floatShip_30) <|
  fG mo_ifne (sim_ifne dX3_floatShip_32 rfl) <|
  fG mo_ald (sim_ald_n dX3_floatShip_35 rfl) <|
  fG mo_getf (sim_getfG hG dX3_floatShip_36 hc_3 (by decide) rfl in_X3 (fun _ _ _ h => h) (Or.inl q1255)) <|
  fG mo_ild (sim_ild_n dX3_floatShip_39 rfl) <|
  fG mo_int (sim_iconst dX3_floatShip_40 (by decide)) <|
  fC (ic_cs (Or.inl rfl)) (sim_cs hG dX3_floatShip_41 M_X3_ofShip (by rw [nm_X3_ofShip]; rfl) (by rw [nm_X3_ofShip]; exact q1433) (by rw [nm_X3_ofShip]; exact q1434)) <|
  fG mo_ald (sim_ald_n dX3_floatShip_44 rfl) <|
  fG mo_ald (sim_ald_n dX3_floatShip_45 rfl) <|
  fG mo_getf (sim_getfG hG dX3_floatShip_46 hc_3 (by decide) rfl in_X3 (fun _ _ _ h => h) (Or.inl q1255)) <|
  fG mo_ild (sim_ild_n dX3_floatShip_49 rfl) <|
  fG mo_int (sim_iconst dX3_floatShip_50 (by decide)) <|
  fC (ic_cs (Or.inl rfl)) (sim_cs hG dX3_floatShip_51 M_X3_ofShip (by rw [nm_X3_ofShip]; rfl) (by rw [nm_X3_ofShip]; exact q1433) (by rw [nm_X3_ofShip]; exact q1434)) <|
  fG mo_lda (sim_iald dX3_floatShip_54) <|
  fG mo_ild (sim_ild dX3_floatShip_55) <|
  fC (ic_cv (Or.inl rfl)) (sim_cv hG dX3_floatShip_57 (hG.2.1 3 _ hc_3).2.1 M_X3_drifted (by rw [nm_X3_drifted]; rfl) (by rw [nm_X3_drifted]; exact q1673) (by rw [nm_X3_drifted]; exact q1675) (by rw [nm_X3_drifted]; exact qs91)) <|
  fG mo_sta (sim_iast dX3_floatShip_60) <|
  fF
theorem fX3_floatShip_61 {X : tp_X} {az : Array Value} (hG : tp_Good X az) (hSt : tp_Stat X) : tp_Fit X yX3_floatShip cX3_floatShip none 6 tp_nm tp_by tp_ml tp_rtt 61 [o_ald (.aload_n 0) 0, o_int (.sipush 504) 504, o_ald (.aload_n 0) 0, o_getf (.getfield 7) 3 3, o_ild (.iload_n 1) 1, o_int (.iconst 0) 0, o_cs (.invokestatic 108) kX3_ofShip 2 0, o_lda .iaload [0, 20], o_ild (.iload 4) 4, o_ald (.aload_n 0) 0, o_getf (.getfield 7) 3 3, o_int (.iconst 0) 0, o_lda .iaload [0, 20], o_cv (.invokevirtual 328) 3 kX3_nips 4 0, o_ifeq 14 100, o_ald (.aload_n 0) 0, o_getf (.getfield 7) 3 3, o_ild (.iload_n 1) 1, o_int (.iconst 3) 3, o_cs (.invokestatic 108) kX3_ofShip 2 0, o_int (.iconst 2) 2, o_sta .iastore [0], o_fall 100] :=
  fG mo_ald (sim_ald_n dX3_floatShip_61 rfl) <|
  fG mo_int (sim_sipush dX3_floatShip_62 (by decide)) <|
  fG mo_ald (sim_ald_n dX3_floatShip_65 rfl) <|
  fG mo_getf (sim_getfG hG dX3_floatShip_66 hc_3 (by decide) rfl in_X3 (fun _ _ _ h => h) (Or.inl q1255)) <|
  fG mo_ild (sim_ild_n dX3_floatShip_69 rfl) <|
  fG mo_int (sim_iconst dX3_floatShip_70 (by decide)) <|
  fC (ic_cs (Or.inl rfl)) (sim_cs hG dX3_floatShip_71 M_X3_ofShip (by rw [nm_X3_ofShip]; rfl) (by rw [nm_X3_ofShip]; exact q1433) (by rw [nm_X3_ofShip]; exact q1434)) <|
  fG mo_lda (sim_iald dX3_floatShip_74) <|
  fG mo_ild (sim_ild dX3_floatShip_75) <|
  fG mo_ald (sim_ald_n dX3_floatShip_77 rfl) <|
  fG mo_getf (sim_getfG hG dX3_floatShip_78 hc_3 (by decide) rfl in_X3 (fun _ _ _ h => h) (Or.inl q1255)) <|
  fG mo_int (sim_iconst dX3_floatShip_81 (by decide)) <|
  fG mo_lda (sim_iald dX3_floatShip_82) <|
  fC (ic_cv (Or.inl rfl)) (sim_cv hG dX3_floatShip_83 (hG.2.1 3 _ hc_3).2.1 M_X3_nips (by rw [nm_X3_nips]; rfl) (by rw [nm_X3_nips]; exact q1677) (by rw [nm_X3_nips]; exact q1679) (by rw [nm_X3_nips]; exact qs92)) <|
  fG mo_ifeq (sim_ifeq dX3_floatShip_86 rfl) <|
  fG mo_ald (sim_ald_n dX3_floatShip_89 rfl) <|
  fG mo_getf (sim_getfG hG dX3_floatShip_90 hc_3 (by decide) rfl in_X3 (fun _ _ _ h => h) (Or.inl q1255)) <|
  fG mo_ild (sim_ild_n dX3_floatShip_93 rfl) <|
  fG mo_int (sim_iconst dX3_floatShip_94 (by decide)) <|
  fC (ic_cs (Or.inl rfl)) (sim_cs hG dX3_floatShip_95 M_X3_ofShip (by rw [nm_X3_ofShip]; rfl) (by rw [nm_X3_ofShip]; exact q1433) (by rw [nm_X3_ofShip]; exact q1434)) <|
  fG mo_int (sim_iconst dX3_floatShip_98 (by decide)) <|
  fG mo_sta (sim_iast dX3_floatShip_99) <|
  fF
theorem fX3_floatShip_100 {X : tp_X} {az : Array Value} (hG : tp_Good X az) (hSt : tp_Stat X) : tp_Fit X yX3_floatShip cX3_floatShip none 6 tp_nm tp_by tp_ml tp_rtt 100 [o_vret] :=
  fE ie_vret (sim_vret dX3_floatShip_100 rfl)
theorem F_X3_floatShip {X : tp_X} {az : Array Value} (hG : tp_Good X az) (hSt : tp_Stat X) (pc : Nat) : tp_Fit X yX3_floatShip cX3_floatShip none 6 tp_nm tp_by tp_ml tp_rtt pc (mX3_floatShip pc) :=
  fI (fX3_floatShip_0 hG hSt) <| fI (fX3_floatShip_9 hG hSt) <| fI (fX3_floatShip_23 hG hSt) <| fI (fX3_floatShip_27 hG hSt) <| fI (fX3_floatShip_28 hG hSt) <| fI (fX3_floatShip_61 hG hSt) <| fI (fX3_floatShip_100 hG hSt) <| trivial
theorem fX3_drifted_0 {X : tp_X} {az : Array Value} (hG : tp_Good X az) (hSt : tp_Stat X) : tp_Fit X yX3_drifted cX3_drifted (some .int) 4 tp_nm tp_by tp_ml tp_rtt 0 [o_ald (.aload_n 0) 0, o_ild (.iload_n 1) 1, o_ild (.iload_n 2) 2, o_int (.iconst 1) 1, o_cv (.invokevirtual 299) 3 kX3_driven 3 0, o_ist (.istore_n 3) 3, o_ild (.iload_n 3) 3, o_ifge 7 16, o_ild (.iload_n 1) 1, o_goto 4 17] :=
  fG mo_ald (sim_ald_n dX3_drifted_0 rfl) <|
  fG mo_ild (sim_ild_n dX3_drifted_1 rfl) <|
  fG mo_ild (sim_ild_n dX3_drifted_2 rfl) <|
  fG mo_int (sim_iconst dX3_drifted_3 (by decide)) <|
  fC (ic_cv (Or.inl rfl)) (sim_cv hG dX3_drifted_4 (hG.2.1 3 _ hc_3).2.1 M_X3_driven (by rw [nm_X3_driven]; rfl) (by rw [nm_X3_driven]; exact q1665) (by rw [nm_X3_driven]; exact q1667) (by rw [nm_X3_driven]; exact qs89)) <|
  fG mo_ist (sim_ist_n dX3_drifted_7 rfl) <|
  fG mo_ild (sim_ild_n dX3_drifted_8 rfl) <|
  fG mo_ifge (sim_ifge dX3_drifted_9 rfl) <|
  fG mo_ild (sim_ild_n dX3_drifted_12 rfl) <|
  fG mo_goto (sim_goto dX3_drifted_13 rfl) <|
  trivial
theorem fX3_drifted_16 {X : tp_X} {az : Array Value} (hG : tp_Good X az) (hSt : tp_Stat X) : tp_Fit X yX3_drifted cX3_drifted (some .int) 4 tp_nm tp_by tp_ml tp_rtt 16 [o_ild (.iload_n 3) 3, o_fall 17] :=
  fG mo_ild (sim_ild_n dX3_drifted_16 rfl) <|
  fF
theorem fX3_drifted_17 {X : tp_X} {az : Array Value} (hG : tp_Good X az) (hSt : tp_Stat X) : tp_Fit X yX3_drifted cX3_drifted (some .int) 4 tp_nm tp_by tp_ml tp_rtt 17 [o_iret 0] :=
  fE ie_iret (sim_iret dX3_drifted_17 rfl (Or.inl ⟨rfl, rfl⟩))
theorem F_X3_drifted {X : tp_X} {az : Array Value} (hG : tp_Good X az) (hSt : tp_Stat X) (pc : Nat) : tp_Fit X yX3_drifted cX3_drifted (some .int) 4 tp_nm tp_by tp_ml tp_rtt pc (mX3_drifted pc) :=
  fI (fX3_drifted_0 hG hSt) <| fI (fX3_drifted_16 hG hSt) <| fI (fX3_drifted_17 hG hSt) <| trivial
theorem fX3_nips_0 {X : tp_X} {az : Array Value} (hG : tp_Good X az) (hSt : tp_Stat X) : tp_Fit X yX3_nips cX3_nips (some .boolean) 5 tp_nm tp_by tp_ml tp_rtt 0 [o_ald (.aload_n 0) 0, o_ild (.iload_n 1) 1, o_ild (.iload_n 2) 2, o_ild (.iload_n 3) 3, o_ild (.iload 4) 4, o_cv (.invokevirtual 288) 3 kX3_nameCell 4 0, o_ald (.aload_n 0) 0, o_int (.iconst 2) 2, o_int (.iconst 0) 0, o_cv (.invokevirtual 292) 3 kX3_isAny 2 0, o_iret 1] :=
  fG mo_ald (sim_ald_n dX3_nips_0 rfl) <|
  fG mo_ild (sim_ild_n dX3_nips_1 rfl) <|
  fG mo_ild (sim_ild_n dX3_nips_2 rfl) <|
  fG mo_ild (sim_ild_n dX3_nips_3 rfl) <|
  fG mo_ild (sim_ild dX3_nips_4) <|
  fC (ic_cv (Or.inl rfl)) (sim_cv hG dX3_nips_6 (hG.2.1 3 _ hc_3).2.1 M_X3_nameCell (by rw [nm_X3_nameCell]; rfl) (by rw [nm_X3_nameCell]; exact q1610) (by rw [nm_X3_nameCell]; exact q1612) (by rw [nm_X3_nameCell]; exact qs80)) <|
  fG mo_ald (sim_ald_n dX3_nips_9 rfl) <|
  fG mo_int (sim_iconst dX3_nips_10 (by decide)) <|
  fG mo_int (sim_iconst dX3_nips_11 (by decide)) <|
  fC (ic_cv (Or.inl rfl)) (sim_cv hG dX3_nips_12 (hG.2.1 3 _ hc_3).2.1 M_X3_isAny (by rw [nm_X3_isAny]; rfl) (by rw [nm_X3_isAny]; exact q1618) (by rw [nm_X3_isAny]; exact q1620) (by rw [nm_X3_isAny]; exact qs82)) <|
  fE ie_iret (sim_iret dX3_nips_15 rfl (Or.inr (Or.inl ⟨rfl, rfl⟩)))
theorem F_X3_nips {X : tp_X} {az : Array Value} (hG : tp_Good X az) (hSt : tp_Stat X) (pc : Nat) : tp_Fit X yX3_nips cX3_nips (some .boolean) 5 tp_nm tp_by tp_ml tp_rtt pc (mX3_nips pc) :=
  fI (fX3_nips_0 hG hSt) <| trivial
theorem fX3_of_0 {X : tp_X} {az : Array Value} (hG : tp_Good X az) (hSt : tp_Stat X) : tp_Fit X yX3_of cX3_of (some .int) 3 tp_nm tp_by tp_ml tp_rtt 0 [o_ild (.iload_n 1) 1, o_cs (.invokestatic 105) kX3_isShip 1 0, o_ifeq 25 29, o_ild (.iload_n 2) 2, o_int (.iconst 0) 0, o_int (.iconst 3) 3, o_cs (.invokestatic 90) kX3_isIn 3 0, o_ifeq 16 29, o_ald (.aload_n 0) 0, o_getf (.getfield 7) 3 3, o_ild (.iload_n 1) 1, o_int (.iconst 4) 4, o_cs (.invokestatic 108) kX3_ofShip 2 0, o_lda .iaload [0, 20], o_ifne 5 31, o_fall 29] :=
  fG mo_ild (sim_ild_n dX3_of_0 rfl) <|
  fC (ic_cs (Or.inl rfl)) (sim_cs hG dX3_of_1 M_X3_isShip (by rw [nm_X3_isShip]; rfl) (by rw [nm_X3_isShip]; exact q1430) (by rw [nm_X3_isShip]; exact q1431)) <|
  fG mo_ifeq (sim_ifeq dX3_of_4 rfl) <|
  fG mo_ild (sim_ild_n dX3_of_7 rfl) <|
  fG mo_int (sim_iconst dX3_of_8 (by decide)) <|
  fG mo_int (sim_iconst dX3_of_9 (by decide)) <|
  fC (ic_cs (Or.inl rfl)) (sim_cs hG dX3_of_10 M_X3_isIn (by rw [nm_X3_isIn]; rfl) (by rw [nm_X3_isIn]; exact q1400) (by rw [nm_X3_isIn]; exact q1401)) <|
  fG mo_ifeq (sim_ifeq dX3_of_13 rfl) <|
  fG mo_ald (sim_ald_n dX3_of_16 rfl) <|
  fG mo_getf (sim_getfG hG dX3_of_17 hc_3 (by decide) rfl in_X3 (fun _ _ _ h => h) (Or.inl q1255)) <|
  fG mo_ild (sim_ild_n dX3_of_20 rfl) <|
  fG mo_int (sim_iconst dX3_of_21 (by decide)) <|
  fC (ic_cs (Or.inl rfl)) (sim_cs hG dX3_of_22 M_X3_ofShip (by rw [nm_X3_ofShip]; rfl) (by rw [nm_X3_ofShip]; exact q1433) (by rw [nm_X3_ofShip]; exact q1434)) <|
  fG mo_lda (sim_iald dX3_of_25) <|
  fG mo_ifne (sim_ifne dX3_of_26 rfl) <|
  fF
theorem fX3_of_29 {X : tp_X} {az : Array Value} (hG : tp_Good X az) (hSt : tp_Stat X) : tp_Fit X yX3_of cX3_of (some .int) 3 tp_nm tp_by tp_ml tp_rtt 29 [o_int (.iconst (-1)) (-1), o_iret 0] :=
  fG mo_int (sim_iconst dX3_of_29 (by decide)) <|
  fE ie_iret (sim_iret dX3_of_30 rfl (Or.inl ⟨rfl, rfl⟩))
theorem fX3_of_31 {X : tp_X} {az : Array Value} (hG : tp_Good X az) (hSt : tp_Stat X) : tp_Fit X yX3_of cX3_of (some .int) 3 tp_nm tp_by tp_ml tp_rtt 31 [o_ald (.aload_n 0) 0, o_getf (.getfield 7) 3 3, o_ild (.iload_n 1) 1, o_ild (.iload_n 2) 2, o_cs (.invokestatic 108) kX3_ofShip 2 0, o_lda .iaload [0, 20], o_iret 0] :=
  fG mo_ald (sim_ald_n dX3_of_31 rfl) <|
  fG mo_getf (sim_getfG hG dX3_of_32 hc_3 (by decide) rfl in_X3 (fun _ _ _ h => h) (Or.inl q1255)) <|
  fG mo_ild (sim_ild_n dX3_of_35 rfl) <|
  fG mo_ild (sim_ild_n dX3_of_36 rfl) <|
  fC (ic_cs (Or.inl rfl)) (sim_cs hG dX3_of_37 M_X3_ofShip (by rw [nm_X3_ofShip]; rfl) (by rw [nm_X3_ofShip]; exact q1433) (by rw [nm_X3_ofShip]; exact q1434)) <|
  fG mo_lda (sim_iald dX3_of_40) <|
  fE ie_iret (sim_iret dX3_of_41 rfl (Or.inl ⟨rfl, rfl⟩))
theorem F_X3_of {X : tp_X} {az : Array Value} (hG : tp_Good X az) (hSt : tp_Stat X) (pc : Nat) : tp_Fit X yX3_of cX3_of (some .int) 3 tp_nm tp_by tp_ml tp_rtt pc (mX3_of pc) :=
  fI (fX3_of_0 hG hSt) <| fI (fX3_of_29 hG hSt) <| fI (fX3_of_31 hG hSt) <| trivial
theorem fX3_ahead_0 {X : tp_X} {az : Array Value} (hG : tp_Good X az) (hSt : tp_Stat X) : tp_Fit X yX3_ahead cX3_ahead (some .int) 3 tp_nm tp_by tp_ml tp_rtt 0 [o_ild (.iload_n 1) 1, o_int (.iconst 0) 0, o_int (.bipush 11) 11, o_cs (.invokestatic 90) kX3_isIn 3 0, o_ifeq 10 17, o_ild (.iload_n 2) 2, o_cs (.invokestatic 102) kX3_isWind 1 0, o_ifne 5 19, o_fall 17] :=
  fG mo_ild (sim_ild_n dX3_ahead_0 rfl) <|
  fG mo_int (sim_iconst dX3_ahead_1 (by decide)) <|
  fG mo_int (sim_bipush dX3_ahead_2 (by decide)) <|
  fC (ic_cs (Or.inl rfl)) (sim_cs hG dX3_ahead_4 M_X3_isIn (by rw [nm_X3_isIn]; rfl) (by rw [nm_X3_isIn]; exact q1400) (by rw [nm_X3_isIn]; exact q1401)) <|
  fG mo_ifeq (sim_ifeq dX3_ahead_7 rfl) <|
  fG mo_ild (sim_ild_n dX3_ahead_10 rfl) <|
  fC (ic_cs (Or.inl rfl)) (sim_cs hG dX3_ahead_11 M_X3_isWind (by rw [nm_X3_isWind]; rfl) (by rw [nm_X3_isWind]; exact q1419) (by rw [nm_X3_isWind]; exact q1420)) <|
  fG mo_ifne (sim_ifne dX3_ahead_14 rfl) <|
  fF
theorem fX3_ahead_17 {X : tp_X} {az : Array Value} (hG : tp_Good X az) (hSt : tp_Stat X) : tp_Fit X yX3_ahead cX3_ahead (some .int) 3 tp_nm tp_by tp_ml tp_rtt 17 [o_int (.iconst (-1)) (-1), o_iret 0] :=
  fG mo_int (sim_iconst dX3_ahead_17 (by decide)) <|
  fE ie_iret (sim_iret dX3_ahead_18 rfl (Or.inl ⟨rfl, rfl⟩))
theorem fX3_ahead_19 {X : tp_X} {az : Array Value} (hG : tp_Good X az) (hSt : tp_Stat X) : tp_Fit X yX3_ahead cX3_ahead (some .int) 3 tp_nm tp_by tp_ml tp_rtt 19 [o_ald (.aload_n 0) 0, o_getf (.getfield 7) 3 3, o_int (.sipush 180) 180, o_ild (.iload_n 1) 1, o_iadd, o_ild (.iload_n 2) 2, o_sta .iastore [0], o_ald (.aload_n 0) 0, o_getf (.getfield 7) 3 3, o_int (.iconst 4) 4, o_ild (.iload_n 1) 1, o_int (.iconst 1) 1, o_iadd, o_ald (.aload_n 0) 0, o_getf (.getfield 7) 3 3, o_int (.iconst 4) 4, o_lda .iaload [0, 20], o_icmple 9 53, o_ild (.iload_n 1) 1, o_int (.iconst 1) 1, o_iadd, o_goto 9 59] :=
  fG mo_ald (sim_ald_n dX3_ahead_19 rfl) <|
  fG mo_getf (sim_getfG hG dX3_ahead_20 hc_3 (by decide) rfl in_X3 (fun _ _ _ h => h) (Or.inl q1255)) <|
  fG mo_int (sim_sipush dX3_ahead_23 (by decide)) <|
  fG mo_ild (sim_ild_n dX3_ahead_26 rfl) <|
  fG mo_iadd (sim_iadd dX3_ahead_27) <|
  fG mo_ild (sim_ild_n dX3_ahead_28 rfl) <|
  fG mo_sta (sim_iast dX3_ahead_29) <|
  fG mo_ald (sim_ald_n dX3_ahead_30 rfl) <|
  fG mo_getf (sim_getfG hG dX3_ahead_31 hc_3 (by decide) rfl in_X3 (fun _ _ _ h => h) (Or.inl q1255)) <|
  fG mo_int (sim_iconst dX3_ahead_34 (by decide)) <|
  fG mo_ild (sim_ild_n dX3_ahead_35 rfl) <|
  fG mo_int (sim_iconst dX3_ahead_36 (by decide)) <|
  fG mo_iadd (sim_iadd dX3_ahead_37) <|
  fG mo_ald (sim_ald_n dX3_ahead_38 rfl) <|
  fG mo_getf (sim_getfG hG dX3_ahead_39 hc_3 (by decide) rfl in_X3 (fun _ _ _ h => h) (Or.inl q1255)) <|
  fG mo_int (sim_iconst dX3_ahead_42 (by decide)) <|
  fG mo_lda (sim_iald dX3_ahead_43) <|
  fG mo_icmple (sim_icmple dX3_ahead_44 rfl) <|
  fG mo_ild (sim_ild_n dX3_ahead_47 rfl) <|
  fG mo_int (sim_iconst dX3_ahead_48 (by decide)) <|
  fG mo_iadd (sim_iadd dX3_ahead_49) <|
  fG mo_goto (sim_goto dX3_ahead_50 rfl) <|
  trivial
theorem fX3_ahead_53 {X : tp_X} {az : Array Value} (hG : tp_Good X az) (hSt : tp_Stat X) : tp_Fit X yX3_ahead cX3_ahead (some .int) 3 tp_nm tp_by tp_ml tp_rtt 53 [o_ald (.aload_n 0) 0, o_getf (.getfield 7) 3 3, o_int (.iconst 4) 4, o_lda .iaload [0, 20], o_fall 59] :=
  fG mo_ald (sim_ald_n dX3_ahead_53 rfl) <|
  fG mo_getf (sim_getfG hG dX3_ahead_54 hc_3 (by decide) rfl in_X3 (fun _ _ _ h => h) (Or.inl q1255)) <|
  fG mo_int (sim_iconst dX3_ahead_57 (by decide)) <|
  fG mo_lda (sim_iald dX3_ahead_58) <|
  fF
theorem fX3_ahead_59 {X : tp_X} {az : Array Value} (hG : tp_Good X az) (hSt : tp_Stat X) : tp_Fit X yX3_ahead cX3_ahead (some .int) 3 tp_nm tp_by tp_ml tp_rtt 59 [o_sta .iastore [0], o_ald (.aload_n 0) 0, o_getf (.getfield 7) 3 3, o_int (.iconst 4) 4, o_lda .iaload [0, 20], o_iret 0] :=
  fG mo_sta (sim_iast dX3_ahead_59) <|
  fG mo_ald (sim_ald_n dX3_ahead_60 rfl) <|
  fG mo_getf (sim_getfG hG dX3_ahead_61 hc_3 (by decide) rfl in_X3 (fun _ _ _ h => h) (Or.inl q1255)) <|
  fG mo_int (sim_iconst dX3_ahead_64 (by decide)) <|
  fG mo_lda (sim_iald dX3_ahead_65) <|
  fE ie_iret (sim_iret dX3_ahead_66 rfl (Or.inl ⟨rfl, rfl⟩))
theorem F_X3_ahead {X : tp_X} {az : Array Value} (hG : tp_Good X az) (hSt : tp_Stat X) (pc : Nat) : tp_Fit X yX3_ahead cX3_ahead (some .int) 3 tp_nm tp_by tp_ml tp_rtt pc (mX3_ahead pc) :=
  fI (fX3_ahead_0 hG hSt) <| fI (fX3_ahead_17 hG hSt) <| fI (fX3_ahead_19 hG hSt) <| fI (fX3_ahead_53 hG hSt) <| fI (fX3_ahead_59 hG hSt) <| trivial
theorem fX3_many_0 {X : tp_X} {az : Array Value} (hG : tp_Good X az) (hSt : tp_Stat X) : tp_Fit X yX3_many cX3_many (some .boolean) 3 tp_nm tp_by tp_ml tp_rtt 0 [o_ild (.iload_n 1) 1, o_int (.iconst 0) 0, o_int (.bipush 12) 12, o_cs (.invokestatic 90) kX3_isIn 3 0, o_ifeq 12 19, o_ild (.iload_n 2) 2, o_int (.iconst 0) 0, o_ild (.iload_n 1) 1, o_cs (.invokestatic 90) kX3_isIn 3 0, o_ifne 5 21, o_fall 19] :=
  fG mo_ild (sim_ild_n dX3_many_0 rfl) <|
  fG mo_int (sim_iconst dX3_many_1 (by decide)) <|
  fG mo_int (sim_bipush dX3_many_2 (by decide)) <|
  fC (ic_cs (Or.inl rfl)) (sim_cs hG dX3_many_4 M_X3_isIn (by rw [nm_X3_isIn]; rfl) (by rw [nm_X3_isIn]; exact q1400) (by rw [nm_X3_isIn]; exact q1401)) <|
  fG mo_ifeq (sim_ifeq dX3_many_7 rfl) <|
  fG mo_ild (sim_ild_n dX3_many_10 rfl) <|
  fG mo_int (sim_iconst dX3_many_11 (by decide)) <|
  fG mo_ild (sim_ild_n dX3_many_12 rfl) <|
  fC (ic_cs (Or.inl rfl)) (sim_cs hG dX3_many_13 M_X3_isIn (by rw [nm_X3_isIn]; rfl) (by rw [nm_X3_isIn]; exact q1400) (by rw [nm_X3_isIn]; exact q1401)) <|
  fG mo_ifne (sim_ifne dX3_many_16 rfl) <|
  fF
theorem fX3_many_19 {X : tp_X} {az : Array Value} (hG : tp_Good X az) (hSt : tp_Stat X) : tp_Fit X yX3_many cX3_many (some .boolean) 3 tp_nm tp_by tp_ml tp_rtt 19 [o_int (.iconst 0) 0, o_iret 1] :=
  fG mo_int (sim_iconst dX3_many_19 (by decide)) <|
  fE ie_iret (sim_iret dX3_many_20 rfl (Or.inr (Or.inl ⟨rfl, rfl⟩)))
theorem fX3_many_21 {X : tp_X} {az : Array Value} (hG : tp_Good X az) (hSt : tp_Stat X) : tp_Fit X yX3_many cX3_many (some .boolean) 3 tp_nm tp_by tp_ml tp_rtt 21 [o_ald (.aload_n 0) 0, o_getf (.getfield 7) 3 3, o_int (.iconst 4) 4, o_ild (.iload_n 1) 1, o_sta .iastore [0], o_ald (.aload_n 0) 0, o_getf (.getfield 7) 3 3, o_int (.iconst 5) 5, o_ild (.iload_n 2) 2, o_sta .iastore [0], o_int (.iconst 1) 1, o_iret 1] :=
  fG mo_ald (sim_ald_n dX3_many_21 rfl) <|
  fG mo_getf (sim_getfG hG dX3_many_22 hc_3 (by decide) rfl in_X3 (fun _ _ _ h => h) (Or.inl q1255)) <|
  fG mo_int (sim_iconst dX3_many_25 (by decide)) <|
  fG mo_ild (sim_ild_n dX3_many_26 rfl) <|
  fG mo_sta (sim_iast dX3_many_27) <|
  fG mo_ald (sim_ald_n dX3_many_28 rfl) <|
  fG mo_getf (sim_getfG hG dX3_many_29 hc_3 (by decide) rfl in_X3 (fun _ _ _ h => h) (Or.inl q1255)) <|
  fG mo_int (sim_iconst dX3_many_32 (by decide)) <|
  fG mo_ild (sim_ild_n dX3_many_33 rfl) <|
  fG mo_sta (sim_iast dX3_many_34) <|
  fG mo_int (sim_iconst dX3_many_35 (by decide)) <|
  fE ie_iret (sim_iret dX3_many_36 rfl (Or.inr (Or.inl ⟨rfl, rfl⟩)))
theorem F_X3_many {X : tp_X} {az : Array Value} (hG : tp_Good X az) (hSt : tp_Stat X) (pc : Nat) : tp_Fit X yX3_many cX3_many (some .boolean) 3 tp_nm tp_by tp_ml tp_rtt pc (mX3_many pc) :=
  fI (fX3_many_0 hG hSt) <| fI (fX3_many_19 hG hSt) <| fI (fX3_many_21 hG hSt) <| trivial
theorem fX3_soonest_0 {X : tp_X} {az : Array Value} (hG : tp_Good X az) (hSt : tp_Stat X) : tp_Fit X yX3_soonest cX3_soonest (some .int) 9 tp_nm tp_by tp_ml tp_rtt 0 [o_ald (.aload_n 0) 0, o_int (.iconst 0) 0, o_cv (.invokevirtual 313) 3 kX3_isFree 1 0, o_ifeq 23 28, o_ild (.iload_n 1) 1, o_int (.iconst 0) 0, o_int (.iconst 1) 1, o_cs (.invokestatic 90) kX3_isIn 3 0, o_ifne 16 30, o_ild (.iload_n 1) 1, o_int (.bipush 10) 10, o_int (.bipush 21) 21, o_cs (.invokestatic 90) kX3_isIn 3 0, o_ifne 5 30, o_fall 28] :=
  fG mo_ald (sim_ald_n dX3_soonest_0 rfl) <|
  fG mo_int (sim_iconst dX3_soonest_1 (by decide)) <|
  fC (ic_cv (Or.inl rfl)) (sim_cv hG dX3_soonest_2 (hG.2.1 3 _ hc_3).2.1 M_X3_isFree (by rw [nm_X3_isFree]; rfl) (by rw [nm_X3_isFree]; exact q1582) (by rw [nm_X3_isFree]; exact q1584) (by rw [nm_X3_isFree]; exact qs73)) <|
  fG mo_ifeq (sim_ifeq dX3_soonest_5 rfl) <|
  fG mo_ild (sim_ild_n dX3_soonest_8 rfl) <|
  fG mo_int (sim_iconst dX3_soonest_9 (by decide)) <|
  fG mo_int (sim_iconst dX3_soonest_10 (by decide)) <|
  fC (ic_cs (Or.inl rfl)) (sim_cs hG dX3_soonest_11 M_X3_isIn (by rw [nm_X3_isIn]; rfl) (by rw [nm_X3_isIn]; exact q1400) (by rw [nm_X3_isIn]; exact q1401)) <|
  fG mo_ifne (sim_ifne dX3_soonest_14 rfl) <|
  fG mo_ild (sim_ild_n dX3_soonest_17 rfl) <|
  fG mo_int (sim_bipush dX3_soonest_18 (by decide)) <|
  fG mo_int (sim_bipush dX3_soonest_20 (by decide)) <|
  fC (ic_cs (Or.inl rfl)) (sim_cs hG dX3_soonest_22 M_X3_isIn (by rw [nm_X3_isIn]; rfl) (by rw [nm_X3_isIn]; exact q1400) (by rw [nm_X3_isIn]; exact q1401)) <|
  fG mo_ifne (sim_ifne dX3_soonest_25 rfl) <|
  fF
theorem fX3_soonest_28 {X : tp_X} {az : Array Value} (hG : tp_Good X az) (hSt : tp_Stat X) : tp_Fit X yX3_soonest cX3_soonest (some .int) 9 tp_nm tp_by tp_ml tp_rtt 28 [o_int (.iconst (-1)) (-1), o_iret 0] :=
  fG mo_int (sim_iconst dX3_soonest_28 (by decide)) <|
  fE ie_iret (sim_iret dX3_soonest_29 rfl (Or.inl ⟨rfl, rfl⟩))
theorem fX3_soonest_30 {X : tp_X} {az : Array Value} (hG : tp_Good X az) (hSt : tp_Stat X) : tp_Fit X yX3_soonest cX3_soonest (some .int) 9 tp_nm tp_by tp_ml tp_rtt 30 [o_ald (.aload_n 0) 0, o_cv (.invokevirtual 364) 3 kX3_findOut 0 0, o_ald (.aload_n 0) 0, o_getf (.getfield 53) 3 31, o_int (.iconst 0) 0, o_ald (.aload_n 0) 0, o_cv (.invokevirtual 367) 3 kX3_shipCell 0 0, o_ald (.aload_n 0) 0, o_cv (.invokevirtual 370) 3 kX3_shipCoal 0 0, o_ald (.aload_n 0) 0, o_cv (.invokevirtual 373) 3 kX3_shipBanked 0 0, o_cs (.invokestatic 352) kX3_stateAt 4 0, o_lda .iaload [0, 20], o_ist (.istore_n 2) 2, o_ild (.iload_n 2) 2, o_ifge 5 62, o_int (.iconst (-1)) (-1), o_iret 0] :=
  fG mo_ald (sim_ald_n dX3_soonest_30 rfl) <|
  fC (ic_cv (Or.inl rfl)) (sim_cv hG dX3_soonest_31 (hG.2.1 3 _ hc_3).2.1 M_X3_findOut (by rw [nm_X3_findOut]; rfl) (by rw [nm_X3_findOut]; exact q1697) (by rw [nm_X3_findOut]; exact q1699) (by rw [nm_X3_findOut]; exact qs93)) <|
  fG mo_ald (sim_ald_n dX3_soonest_34 rfl) <|
  fG mo_getf (sim_getfG hG dX3_soonest_35 hc_3 (by decide) rfl in_X3 (fun _ _ _ h => h) (Or.inl q1281)) <|
  fG mo_int (sim_iconst dX3_soonest_38 (by decide)) <|
  fG mo_ald (sim_ald_n dX3_soonest_39 rfl) <|
  fC (ic_cv (Or.inl rfl)) (sim_cv hG dX3_soonest_40 (hG.2.1 3 _ hc_3).2.1 M_X3_shipCell (by rw [nm_X3_shipCell]; rfl) (by rw [nm_X3_shipCell]; exact q1728) (by rw [nm_X3_shipCell]; exact q1730) (by rw [nm_X3_shipCell]; exact qs100)) <|
  fG mo_ald (sim_ald_n dX3_soonest_43 rfl) <|
  fC (ic_cv (Or.inl rfl)) (sim_cv hG dX3_soonest_44 (hG.2.1 3 _ hc_3).2.1 M_X3_shipCoal (by rw [nm_X3_shipCoal]; rfl) (by rw [nm_X3_shipCoal]; exact q1732) (by rw [nm_X3_shipCoal]; exact q1734) (by rw [nm_X3_shipCoal]; exact qs101)) <|
  fG mo_ald (sim_ald_n dX3_soonest_47 rfl) <|
  fC (ic_cv (Or.inl rfl)) (sim_cv hG dX3_soonest_48 (hG.2.1 3 _ hc_3).2.1 M_X3_shipBanked (by rw [nm_X3_shipBanked]; rfl) (by rw [nm_X3_shipBanked]; exact q1736) (by rw [nm_X3_shipBanked]; exact q1738) (by rw [nm_X3_shipBanked]; exact qs102)) <|
  fC (ic_cs (Or.inl rfl)) (sim_cs hG dX3_soonest_51 M_X3_stateAt (by rw [nm_X3_stateAt]; rfl) (by rw [nm_X3_stateAt]; exact q1709) (by rw [nm_X3_stateAt]; exact q1710)) <|
  fG mo_lda (sim_iald dX3_soonest_54) <|
  fG mo_ist (sim_ist_n dX3_soonest_55 rfl) <|
  fG mo_ild (sim_ild_n dX3_soonest_56 rfl) <|
  fG mo_ifge (sim_ifge dX3_soonest_57 rfl) <|
  fG mo_int (sim_iconst dX3_soonest_60 (by decide)) <|
  fE ie_iret (sim_iret dX3_soonest_61 rfl (Or.inl ⟨rfl, rfl⟩))
theorem fX3_soonest_62 {X : tp_X} {az : Array Value} (hG : tp_Good X az) (hSt : tp_Stat X) : tp_Fit X yX3_soonest cX3_soonest (some .int) 9 tp_nm tp_by tp_ml tp_rtt 62 [o_ild (.iload_n 2) 2, o_int (.bipush 100) 100, o_idiv, o_ist (.istore_n 3) 3, o_ild (.iload_n 1) 1, o_int (.iconst 2) 2, o_icmpge 19 88, o_ild (.iload_n 1) 1, o_ifne 7 80, o_ild (.iload_n 3) 3, o_goto 10 87] :=
  fG mo_ild (sim_ild_n dX3_soonest_62 rfl) <|
  fG mo_int (sim_bipush dX3_soonest_63 (by decide)) <|
  fG mo_idiv (sim_idiv dX3_soonest_65) <|
  fG mo_ist (sim_ist_n dX3_soonest_66 rfl) <|
  fG mo_ild (sim_ild_n dX3_soonest_67 rfl) <|
  fG mo_int (sim_iconst dX3_soonest_68 (by decide)) <|
  fG mo_icmpge (sim_icmpge dX3_soonest_69 rfl) <|
  fG mo_ild (sim_ild_n dX3_soonest_72 rfl) <|
  fG mo_ifne (sim_ifne dX3_soonest_73 rfl) <|
  fG mo_ild (sim_ild_n dX3_soonest_76 rfl) <|
  fG mo_goto (sim_goto dX3_soonest_77 rfl) <|
  trivial
theorem fX3_soonest_80 {X : tp_X} {az : Array Value} (hG : tp_Good X az) (hSt : tp_Stat X) : tp_Fit X yX3_soonest cX3_soonest (some .int) 9 tp_nm tp_by tp_ml tp_rtt 80 [o_int (.bipush 99) 99, o_ild (.iload_n 2) 2, o_int (.bipush 100) 100, o_irem, o_isub, o_fall 87] :=
  fG mo_int (sim_bipush dX3_soonest_80 (by decide)) <|
  fG mo_ild (sim_ild_n dX3_soonest_82 rfl) <|
  fG mo_int (sim_bipush dX3_soonest_83 (by decide)) <|
  fG mo_irem (sim_irem dX3_soonest_85) <|
  fG mo_isub (sim_isub dX3_soonest_86) <|
  fF
theorem fX3_soonest_87 {X : tp_X} {az : Array Value} (hG : tp_Good X az) (hSt : tp_Stat X) : tp_Fit X yX3_soonest cX3_soonest (some .int) 9 tp_nm tp_by tp_ml tp_rtt 87 [o_iret 0] :=
  fE ie_iret (sim_iret dX3_soonest_87 rfl (Or.inl ⟨rfl, rfl⟩))
theorem fX3_soonest_88 {X : tp_X} {az : Array Value} (hG : tp_Good X az) (hSt : tp_Stat X) : tp_Fit X yX3_soonest cX3_soonest (some .int) 9 tp_nm tp_by tp_ml tp_rtt 88 [o_ild (.iload_n 1) 1, o_int (.bipush 10) 10, o_isub, o_ild (.iload_n 3) 3, o_icmplt 5 98, o_int (.iconst (-1)) (-1), o_iret 0] :=
  fG mo_ild (sim_ild_n dX3_soonest_88 rfl) <|
  fG mo_int (sim_bipush dX3_soonest_89 (by decide)) <|
  fG mo_isub (sim_isub dX3_soonest_91) <|
  fG mo_ild (sim_ild_n dX3_soonest_92 rfl) <|
  fG mo_icmplt (sim_icmplt dX3_soonest_93 rfl) <|
  fG mo_int (sim_iconst dX3_soonest_96 (by decide)) <|
  fE ie_iret (sim_iret dX3_soonest_97 rfl (Or.inl ⟨rfl, rfl⟩))
theorem fX3_soonest_98 {X : tp_X} {az : Array Value} (hG : tp_Good X az) (hSt : tp_Stat X) : tp_Fit X yX3_soonest cX3_soonest (some .int) 9 tp_nm tp_by tp_ml tp_rtt 98 [o_ald (.aload_n 0) 0, o_cv (.invokevirtual 367) 3 kX3_shipCell 0 0, o_ist (.istore 4) 4, o_ald (.aload_n 0) 0, o_cv (.invokevirtual 370) 3 kX3_shipCoal 0 0, o_ist (.istore 5) 5, o_ald (.aload_n 0) 0, o_cv (.invokevirtual 373) 3 kX3_shipBanked 0 0, o_ist (.istore 6) 6, o_int (.iconst 0) 0, o_ist (.istore 7) 7, o_fall 119] :=
  fG mo_ald (sim_ald_n dX3_soonest_98 rfl) <|
  fC (ic_cv (Or.inl rfl)) (sim_cv hG dX3_soonest_99 (hG.2.1 3 _ hc_3).2.1 M_X3_shipCell (by rw [nm_X3_shipCell]; rfl) (by rw [nm_X3_shipCell]; exact q1728) (by rw [nm_X3_shipCell]; exact q1730) (by rw [nm_X3_shipCell]; exact qs100)) <|
  fG mo_ist (sim_ist dX3_soonest_102) <|
  fG mo_ald (sim_ald_n dX3_soonest_104 rfl) <|
  fC (ic_cv (Or.inl rfl)) (sim_cv hG dX3_soonest_105 (hG.2.1 3 _ hc_3).2.1 M_X3_shipCoal (by rw [nm_X3_shipCoal]; rfl) (by rw [nm_X3_shipCoal]; exact q1732) (by rw [nm_X3_shipCoal]; exact q1734) (by rw [nm_X3_shipCoal]; exact qs101)) <|
  fG mo_ist (sim_ist dX3_soonest_108) <|
  fG mo_ald (sim_ald_n dX3_soonest_110 rfl) <|
  fC (ic_cv (Or.inl rfl)) (sim_cv hG dX3_soonest_111 (hG.2.1 3 _ hc_3).2.1 M_X3_shipBanked (by rw [nm_X3_shipBanked]; rfl) (by rw [nm_X3_shipBanked]; exact q1736) (by rw [nm_X3_shipBanked]; exact q1738) (by rw [nm_X3_shipBanked]; exact qs102)) <|
  fG mo_ist (sim_ist dX3_soonest_114) <|
  fG mo_int (sim_iconst dX3_soonest_116 (by decide)) <|
  fG mo_ist (sim_ist dX3_soonest_117) <|
  fF
theorem fX3_soonest_119 {X : tp_X} {az : Array Value} (hG : tp_Good X az) (hSt : tp_Stat X) : tp_Fit X yX3_soonest cX3_soonest (some .int) 9 tp_nm tp_by tp_ml tp_rtt 119 [o_ild (.iload 7) 7, o_ild (.iload_n 1) 1, o_int (.bipush 10) 10, o_isub, o_icmpge 63 188, o_ald (.aload_n 0) 0, o_ild (.iload 7) 7, o_ild (.iload 4) 4, o_ild (.iload 5) 5, o_ild (.iload 6) 6, o_cv (.invokevirtual 361) 3 kX3_bestOut 4 0, o_ist (.istore 8) 8, o_ild (.iload 5) 5, o_ald (.aload_n 0) 0, o_ild (.iload 7) 7, o_ild (.iload 4) 4, o_ild (.iload 5) 5, o_ild (.iload 6) 6, o_ild (.iload 8) 8, o_cv (.invokevirtual 345) 3 kX3_costAhead 5 0, o_isub, o_ist (.istore 5) 5, o_ald (.aload_n 0) 0, o_ild (.iload 7) 7, o_ild (.iload 4) 4, o_ild (.iload 8) 8, o_cv (.invokevirtual 349) 3 kX3_cellAhead 3 0, o_ist (.istore 4) 4, o_ild (.iload 8) 8, o_ild (.iload 6) 6, o_cs (.invokestatic 322) kX3_firesBehind 2 0, o_ist (.istore 6) 6, o_inc 7 1, o_goto (-66) 119] :=
  fG mo_ild (sim_ild dX3_soonest_119) <|
  fG mo_ild (sim_ild_n dX3_soonest_121 rfl) <|
  fG mo_int (sim_bipush dX3_soonest_122 (by decide)) <|
  fG mo_isub (sim_isub dX3_soonest_124) <|
  fG mo_icmpge (sim_icmpge dX3_soonest_125 rfl) <|
  fG mo_ald (sim_ald_n dX3_soonest_128 rfl) <|
  fG mo_ild (sim_ild dX3_soonest_129) <|
  fG mo_ild (sim_ild dX3_soonest_131) <|
  fG mo_ild (sim_ild dX3_soonest_133) <|
  fG mo_ild (sim_ild dX3_soonest_135) <|
  fC (ic_cv (Or.inl rfl)) (sim_cv hG dX3_soonest_137 (hG.2.1 3 _ hc_3).2.1 M_X3_bestOut (by rw [nm_X3_bestOut]; rfl) (by rw [nm_X3_bestOut]; exact q1712) (by rw [nm_X3_bestOut]; exact q1714) (by rw [nm_X3_bestOut]; exact qs96)) <|
  fG mo_ist (sim_ist dX3_soonest_140) <|
  fG mo_ild (sim_ild dX3_soonest_142) <|
  fG mo_ald (sim_ald_n dX3_soonest_144 rfl) <|
  fG mo_ild (sim_ild dX3_soonest_145) <|
  fG mo_ild (sim_ild dX3_soonest_147) <|
  fG mo_ild (sim_ild dX3_soonest_149) <|
  fG mo_ild (sim_ild dX3_soonest_151) <|
  fG mo_ild (sim_ild dX3_soonest_153) <|
  fC (ic_cv (Or.inl rfl)) (sim_cv hG dX3_soonest_155 (hG.2.1 3 _ hc_3).2.1 M_X3_costAhead (by rw [nm_X3_costAhead]; rfl) (by rw [nm_X3_costAhead]; exact q1720) (by rw [nm_X3_costAhead]; exact q1722) (by rw [nm_X3_costAhead]; exact qs98)) <|
  fG mo_isub (sim_isub dX3_soonest_158) <|
  fG mo_ist (sim_ist dX3_soonest_159) <|
  fG mo_ald (sim_ald_n dX3_soonest_161 rfl) <|
  fG mo_ild (sim_ild dX3_soonest_162) <|
  fG mo_ild (sim_ild dX3_soonest_164) <|
  fG mo_ild (sim_ild dX3_soonest_166) <|
  fC (ic_cv (Or.inl rfl)) (sim_cv hG dX3_soonest_168 (hG.2.1 3 _ hc_3).2.1 M_X3_cellAhead (by rw [nm_X3_cellAhead]; rfl) (by rw [nm_X3_cellAhead]; exact q1724) (by rw [nm_X3_cellAhead]; exact q1726) (by rw [nm_X3_cellAhead]; exact qs99)) <|
  fG mo_ist (sim_ist dX3_soonest_171) <|
  fG mo_ild (sim_ild dX3_soonest_173) <|
  fG mo_ild (sim_ild dX3_soonest_175) <|
  fC (ic_cs (Or.inl rfl)) (sim_cs hG dX3_soonest_177 M_X3_firesBehind (by rw [nm_X3_firesBehind]; rfl) (by rw [nm_X3_firesBehind]; exact q1658) (by rw [nm_X3_firesBehind]; exact q1659)) <|
  fG mo_ist (sim_ist dX3_soonest_180) <|
  fG mo_inc (sim_inc dX3_soonest_182 (by decide)) <|
  fG mo_goto (sim_goto dX3_soonest_185 rfl) <|
  trivial
theorem fX3_soonest_188 {X : tp_X} {az : Array Value} (hG : tp_Good X az) (hSt : tp_Stat X) : tp_Fit X yX3_soonest cX3_soonest (some .int) 9 tp_nm tp_by tp_ml tp_rtt 188 [o_ald (.aload_n 0) 0, o_ild (.iload_n 1) 1, o_int (.bipush 10) 10, o_isub, o_ild (.iload 4) 4, o_ild (.iload 5) 5, o_ild (.iload 6) 6, o_cv (.invokevirtual 361) 3 kX3_bestOut 4 0, o_iret 0] :=
  fG mo_ald (sim_ald_n dX3_soonest_188 rfl) <|
  fG mo_ild (sim_ild_n dX3_soonest_189 rfl) <|
  fG mo_int (sim_bipush dX3_soonest_190 (by decide)) <|
  fG mo_isub (sim_isub dX3_soonest_192) <|
  fG mo_ild (sim_ild dX3_soonest_193) <|
  fG mo_ild (sim_ild dX3_soonest_195) <|
  fG mo_ild (sim_ild dX3_soonest_197) <|
  fC (ic_cv (Or.inl rfl)) (sim_cv hG dX3_soonest_199 (hG.2.1 3 _ hc_3).2.1 M_X3_bestOut (by rw [nm_X3_bestOut]; rfl) (by rw [nm_X3_bestOut]; exact q1712) (by rw [nm_X3_bestOut]; exact q1714) (by rw [nm_X3_bestOut]; exact qs96)) <|
  fE ie_iret (sim_iret dX3_soonest_202 rfl (Or.inl ⟨rfl, rfl⟩))
theorem F_X3_soonest {X : tp_X} {az : Array Value} (hG : tp_Good X az) (hSt : tp_Stat X) (pc : Nat) : tp_Fit X yX3_soonest cX3_soonest (some .int) 9 tp_nm tp_by tp_ml tp_rtt pc (mX3_soonest pc) :=
  fI (fX3_soonest_0 hG hSt) <| fI (fX3_soonest_28 hG hSt) <| fI (fX3_soonest_30 hG hSt) <| fI (fX3_soonest_62 hG hSt) <| fI (fX3_soonest_80 hG hSt) <| fI (fX3_soonest_87 hG hSt) <| fI (fX3_soonest_88 hG hSt) <| fI (fX3_soonest_98 hG hSt) <| fI (fX3_soonest_119 hG hSt) <| fI (fX3_soonest_188 hG hSt) <| trivial
theorem fX3_findOut_0 {X : tp_X} {az : Array Value} (hG : tp_Good X az) (hSt : tp_Stat X) : tp_Fit X yX3_findOut cX3_findOut none 6 tp_nm tp_by tp_ml tp_rtt 0 [o_ald (.aload_n 0) 0, o_cv (.invokevirtual 358) 3 kX3_look 0 0, o_ald (.aload_n 0) 0, o_getf (.getfield 7) 3 3, o_int (.iconst 4) 4, o_lda .iaload [0, 20], o_ist (.istore_n 1) 1, o_ild (.iload_n 1) 1, o_int (.iconst 0) 0, o_int (.iconst 0) 0, o_int (.iconst 0) 0, o_cs (.invokestatic 352) kX3_stateAt 4 0, o_ist (.istore_n 2) 2, o_fall 19] :=
  fG mo_ald (sim_ald_n dX3_findOut_0 rfl) <|
  fC (ic_cv (Or.inl rfl)) (sim_cv hG dX3_findOut_1 (hG.2.1 3 _ hc_3).2.1 M_X3_look (by rw [nm_X3_look]; rfl) (by rw [nm_X3_look]; exact q1701) (by rw [nm_X3_look]; exact q1703) (by rw [nm_X3_look]; exact qs94)) <|
  fG mo_ald (sim_ald_n dX3_findOut_4 rfl) <|
  fG mo_getf (sim_getfG hG dX3_findOut_5 hc_3 (by decide) rfl in_X3 (fun _ _ _ h => h) (Or.inl q1255)) <|
  fG mo_int (sim_iconst dX3_findOut_8 (by decide)) <|
  fG mo_lda (sim_iald dX3_findOut_9) <|
  fG mo_ist (sim_ist_n dX3_findOut_10 rfl) <|
  fG mo_ild (sim_ild_n dX3_findOut_11 rfl) <|
  fG mo_int (sim_iconst dX3_findOut_12 (by decide)) <|
  fG mo_int (sim_iconst dX3_findOut_13 (by decide)) <|
  fG mo_int (sim_iconst dX3_findOut_14 (by decide)) <|
  fC (ic_cs (Or.inl rfl)) (sim_cs hG dX3_findOut_15 M_X3_stateAt (by rw [nm_X3_stateAt]; rfl) (by rw [nm_X3_stateAt]; exact q1709) (by rw [nm_X3_stateAt]; exact q1710)) <|
  fG mo_ist (sim_ist_n dX3_findOut_18 rfl) <|
  fF
theorem fX3_findOut_19 {X : tp_X} {az : Array Value} (hG : tp_Good X az) (hSt : tp_Stat X) : tp_Fit X yX3_findOut cX3_findOut none 6 tp_nm tp_by tp_ml tp_rtt 19 [o_ild (.iload_n 2) 2, o_ild (.iload_n 1) 1, o_int (.iconst 1) 1, o_iadd, o_int (.iconst 0) 0, o_int (.iconst 0) 0, o_int (.iconst 0) 0, o_cs (.invokestatic 352) kX3_stateAt 4 0, o_icmpge 16 45, o_ald (.aload_n 0) 0, o_getf (.getfield 53) 3 31, o_ild (.iload_n 2) 2, o_int (.iconst (-1)) (-1), o_sta .iastore [0], o_inc 2 1, o_goto (-23) 19] :=
  fG mo_ild (sim_ild_n dX3_findOut_19 rfl) <|
  fG mo_ild (sim_ild_n dX3_findOut_20 rfl) <|
  fG mo_int (sim_iconst dX3_findOut_21 (by decide)) <|
  fG mo_iadd (sim_iadd dX3_findOut_22) <|
  fG mo_int (sim_iconst dX3_findOut_23 (by decide)) <|
  fG mo_int (sim_iconst dX3_findOut_24 (by decide)) <|
  fG mo_int (sim_iconst dX3_findOut_25 (by decide)) <|
  fC (ic_cs (Or.inl rfl)) (sim_cs hG dX3_findOut_26 M_X3_stateAt (by rw [nm_X3_stateAt]; rfl) (by rw [nm_X3_stateAt]; exact q1709) (by rw [nm_X3_stateAt]; exact q1710)) <|
  fG mo_icmpge (sim_icmpge dX3_findOut_29 rfl) <|
  fG mo_ald (sim_ald_n dX3_findOut_32 rfl) <|
  fG mo_getf (sim_getfG hG dX3_findOut_33 hc_3 (by decide) rfl in_X3 (fun _ _ _ h => h) (Or.inl q1281)) <|
  fG mo_ild (sim_ild_n dX3_findOut_36 rfl) <|
  fG mo_int (sim_iconst dX3_findOut_37 (by decide)) <|
  fG mo_sta (sim_iast dX3_findOut_38) <|
  fG mo_inc (sim_inc dX3_findOut_39 (by decide)) <|
  fG mo_goto (sim_goto dX3_findOut_42 rfl) <|
  trivial
theorem fX3_findOut_45 {X : tp_X} {az : Array Value} (hG : tp_Good X az) (hSt : tp_Stat X) : tp_Fit X yX3_findOut cX3_findOut none 6 tp_nm tp_by tp_ml tp_rtt 45 [o_ild (.iload_n 1) 1, o_int (.iconst 1) 1, o_isub, o_ist (.istore_n 2) 2, o_fall 49] :=
  fG mo_ild (sim_ild_n dX3_findOut_45 rfl) <|
  fG mo_int (sim_iconst dX3_findOut_46 (by decide)) <|
  fG mo_isub (sim_isub dX3_findOut_47) <|
  fG mo_ist (sim_ist_n dX3_findOut_48 rfl) <|
  fF
theorem fX3_findOut_49 {X : tp_X} {az : Array Value} (hG : tp_Good X az) (hSt : tp_Stat X) : tp_Fit X yX3_findOut cX3_findOut none 6 tp_nm tp_by tp_ml tp_rtt 49 [o_ild (.iload_n 2) 2, o_iflt 67 117, o_int (.iconst 0) 0, o_ist (.istore_n 3) 3, o_fall 55] :=
  fG mo_ild (sim_ild_n dX3_findOut_49 rfl) <|
  fG mo_iflt (sim_iflt dX3_findOut_50 rfl) <|
  fG mo_int (sim_iconst dX3_findOut_53 (by decide)) <|
  fG mo_ist (sim_ist_n dX3_findOut_54 rfl) <|
  fF
theorem fX3_findOut_55 {X : tp_X} {az : Array Value} (hG : tp_Good X az) (hSt : tp_Stat X) : tp_Fit X yX3_findOut cX3_findOut none 6 tp_nm tp_by tp_ml tp_rtt 55 [o_ild (.iload_n 3) 3, o_ald (.aload_n 0) 0, o_getf (.getfield 83) 3 2, o_icmpge 51 111, o_int (.iconst 0) 0, o_ist (.istore 4) 4, o_fall 66] :=
  fG mo_ild (sim_ild_n dX3_findOut_55 rfl) <|
  fG mo_ald (sim_ald_n dX3_findOut_56 rfl) <|
  fG mo_getf (sim_getfG hG dX3_findOut_57 hc_3 (by decide) rfl in_X3 (fun _ _ _ h => h) (Or.inl q1254)) <|
  fG mo_icmpge (sim_icmpge dX3_findOut_60 rfl) <|
  fG mo_int (sim_iconst dX3_findOut_63 (by decide)) <|
  fG mo_ist (sim_ist dX3_findOut_64) <|
  fF
theorem fX3_findOut_66 {X : tp_X} {az : Array Value} (hG : tp_Good X az) (hSt : tp_Stat X) : tp_Fit X yX3_findOut cX3_findOut none 6 tp_nm tp_by tp_ml tp_rtt 66 [o_ild (.iload 4) 4, o_int (.bipush 100) 100, o_icmpge 35 105, o_int (.iconst 0) 0, o_ist (.istore 5) 5, o_fall 76] :=
  fG mo_ild (sim_ild dX3_findOut_66) <|
  fG mo_int (sim_bipush dX3_findOut_68 (by decide)) <|
  fG mo_icmpge (sim_icmpge dX3_findOut_70 rfl) <|
  fG mo_int (sim_iconst dX3_findOut_73 (by decide)) <|
  fG mo_ist (sim_ist dX3_findOut_74) <|
  fF
theorem fX3_findOut_76 {X : tp_X} {az : Array Value} (hG : tp_Good X az) (hSt : tp_Stat X) : tp_Fit X yX3_findOut cX3_findOut none 6 tp_nm tp_by tp_ml tp_rtt 76 [o_ild (.iload 5) 5, o_int (.iconst 2) 2, o_icmpge 20 99, o_ald (.aload_n 0) 0, o_ild (.iload_n 2) 2, o_ild (.iload_n 3) 3, o_ild (.iload 4) 4, o_ild (.iload 5) 5, o_cv (.invokevirtual 361) 3 kX3_bestOut 4 0, o_pop, o_inc 5 1, o_goto (-20) 76] :=
  fG mo_ild (sim_ild dX3_findOut_76) <|
  fG mo_int (sim_iconst dX3_findOut_78 (by decide)) <|
  fG mo_icmpge (sim_icmpge dX3_findOut_79 rfl) <|
  fG mo_ald (sim_ald_n dX3_findOut_82 rfl) <|
  fG mo_ild (sim_ild_n dX3_findOut_83 rfl) <|
  fG mo_ild (sim_ild_n dX3_findOut_84 rfl) <|
  fG mo_ild (sim_ild dX3_findOut_85) <|
  fG mo_ild (sim_ild dX3_findOut_87) <|
  fC (ic_cv (Or.inl rfl)) (sim_cv hG dX3_findOut_89 (hG.2.1 3 _ hc_3).2.1 M_X3_bestOut (by rw [nm_X3_bestOut]; rfl) (by rw [nm_X3_bestOut]; exact q1712) (by rw [nm_X3_bestOut]; exact q1714) (by rw [nm_X3_bestOut]; exact qs96)) <|
  fG mo_pop (sim_pop dX3_findOut_92) <|
  fG mo_inc (sim_inc dX3_findOut_93 (by decide)) <|
  fG mo_goto (sim_goto dX3_findOut_96 rfl) <|
  trivial
theorem fX3_findOut_99 {X : tp_X} {az : Array Value} (hG : tp_Good X az) (hSt : tp_Stat X) : tp_Fit X yX3_findOut cX3_findOut none 6 tp_nm tp_by tp_ml tp_rtt 99 [o_inc 4 1, o_goto (-36) 66] :=
  fG mo_inc (sim_inc dX3_findOut_99 (by decide)) <|
  fG mo_goto (sim_goto dX3_findOut_102 rfl) <|
  trivial
theorem fX3_findOut_105 {X : tp_X} {az : Array Value} (hG : tp_Good X az) (hSt : tp_Stat X) : tp_Fit X yX3_findOut cX3_findOut none 6 tp_nm tp_by tp_ml tp_rtt 105 [o_inc 3 1, o_goto (-53) 55] :=
  fG mo_inc (sim_inc dX3_findOut_105 (by decide)) <|
  fG mo_goto (sim_goto dX3_findOut_108 rfl) <|
  trivial
theorem fX3_findOut_111 {X : tp_X} {az : Array Value} (hG : tp_Good X az) (hSt : tp_Stat X) : tp_Fit X yX3_findOut cX3_findOut none 6 tp_nm tp_by tp_ml tp_rtt 111 [o_inc 2 (-1), o_goto (-65) 49] :=
  fG mo_inc (sim_inc dX3_findOut_111 (by decide)) <|
  fG mo_goto (sim_goto dX3_findOut_114 rfl) <|
  trivial
theorem fX3_findOut_117 {X : tp_X} {az : Array Value} (hG : tp_Good X az) (hSt : tp_Stat X) : tp_Fit X yX3_findOut cX3_findOut none 6 tp_nm tp_by tp_ml tp_rtt 117 [o_vret] :=
  fE ie_vret (sim_vret dX3_findOut_117 rfl)
theorem F_X3_findOut {X : tp_X} {az : Array Value} (hG : tp_Good X az) (hSt : tp_Stat X) (pc : Nat) : tp_Fit X yX3_findOut cX3_findOut none 6 tp_nm tp_by tp_ml tp_rtt pc (mX3_findOut pc) :=
  fI (fX3_findOut_0 hG hSt) <| fI (fX3_findOut_19 hG hSt) <| fI (fX3_findOut_45 hG hSt) <| fI (fX3_findOut_49 hG hSt) <| fI (fX3_findOut_55 hG hSt) <| fI (fX3_findOut_66 hG hSt) <| fI (fX3_findOut_76 hG hSt) <| fI (fX3_findOut_99 hG hSt) <| fI (fX3_findOut_105 hG hSt) <| fI (fX3_findOut_111 hG hSt) <| fI (fX3_findOut_117 hG hSt) <| trivial
theorem fX3_look_0 {X : tp_X} {az : Array Value} (hG : tp_Good X az) (hSt : tp_Stat X) : tp_Fit X yX3_look cX3_look none 4 tp_nm tp_by tp_ml tp_rtt 0 [o_ald (.aload_n 0) 0, o_int (.iconst 0) 0, o_cv (.invokevirtual 316) 3 kX3_layNow 1 0, o_ald (.aload_n 0) 0, o_getf (.getfield 7) 3 3, o_int (.iconst 4) 4, o_lda .iaload [0, 20], o_ist (.istore_n 1) 1, o_int (.iconst 0) 0, o_ist (.istore_n 2) 2, o_fall 14] :=
  fG mo_ald (sim_ald_n dX3_look_0 rfl) <|
  fG mo_int (sim_iconst dX3_look_1 (by decide)) <|
  fC (ic_cv (Or.inl rfl)) (sim_cv hG dX3_look_2 (hG.2.1 3 _ hc_3).2.1 M_X3_layNow (by rw [nm_X3_layNow]; rfl) (by rw [nm_X3_layNow]; exact q1586) (by rw [nm_X3_layNow]; exact q1588) (by rw [nm_X3_layNow]; exact qs74)) <|
  fG mo_ald (sim_ald_n dX3_look_5 rfl) <|
  fG mo_getf (sim_getfG hG dX3_look_6 hc_3 (by decide) rfl in_X3 (fun _ _ _ h => h) (Or.inl q1255)) <|
  fG mo_int (sim_iconst dX3_look_9 (by decide)) <|
  fG mo_lda (sim_iald dX3_look_10) <|
  fG mo_ist (sim_ist_n dX3_look_11 rfl) <|
  fG mo_int (sim_iconst dX3_look_12 (by decide)) <|
  fG mo_ist (sim_ist_n dX3_look_13 rfl) <|
  fF
theorem fX3_look_14 {X : tp_X} {az : Array Value} (hG : tp_Good X az) (hSt : tp_Stat X) : tp_Fit X yX3_look cX3_look none 4 tp_nm tp_by tp_ml tp_rtt 14 [o_ild (.iload_n 2) 2, o_ild (.iload_n 1) 1, o_icmpge 146 162, o_int (.iconst 0) 0, o_ist (.istore_n 3) 3, o_fall 21] :=
  fG mo_ild (sim_ild_n dX3_look_14 rfl) <|
  fG mo_ild (sim_ild_n dX3_look_15 rfl) <|
  fG mo_icmpge (sim_icmpge dX3_look_16 rfl) <|
  fG mo_int (sim_iconst dX3_look_19 (by decide)) <|
  fG mo_ist (sim_ist_n dX3_look_20 rfl) <|
  fF
theorem fX3_look_21 {X : tp_X} {az : Array Value} (hG : tp_Good X az) (hSt : tp_Stat X) : tp_Fit X yX3_look cX3_look none 4 tp_nm tp_by tp_ml tp_rtt 21 [o_ild (.iload_n 3) 3, o_ald (.aload_n 0) 0, o_getf (.getfield 83) 3 2, o_icmpge 42 68, o_ald (.aload_n 0) 0, o_getf (.getfield 46) 3 29, o_int (.bipush 36) 36, o_ild (.iload_n 2) 2, o_imul, o_ild (.iload_n 3) 3, o_iadd, o_ald (.aload_n 0) 0, o_int (.bipush 36) 36, o_ild (.iload_n 2) 2, o_imul, o_ild (.iload_n 3) 3, o_ald (.aload_n 0) 0, o_ild (.iload_n 2) 2, o_cv (.invokevirtual 342) 3 kX3_windBefore 1 0, o_ald (.aload_n 0) 0, o_getf (.getfield 7) 3 3, o_int (.iconst 0) 0, o_lda .iaload [0, 20], o_ild (.iload_n 2) 2, o_iadd, o_cv (.invokevirtual 302) 3 kX3_pushCost 4 0, o_sta .iastore [0], o_inc 3 1, o_goto (-44) 21] :=
  fG mo_ild (sim_ild_n dX3_look_21 rfl) <|
  fG mo_ald (sim_ald_n dX3_look_22 rfl) <|
  fG mo_getf (sim_getfG hG dX3_look_23 hc_3 (by decide) rfl in_X3 (fun _ _ _ h => h) (Or.inl q1254)) <|
  fG mo_icmpge (sim_icmpge dX3_look_26 rfl) <|
  fG mo_ald (sim_ald_n dX3_look_29 rfl) <|
  fG mo_getf (sim_getfG hG dX3_look_30 hc_3 (by decide) rfl in_X3 (fun _ _ _ h => h) (Or.inl q1279)) <|
  fG mo_int (sim_bipush dX3_look_33 (by decide)) <|
  fG mo_ild (sim_ild_n dX3_look_35 rfl) <|
  fG mo_imul (sim_imul dX3_look_36) <|
  fG mo_ild (sim_ild_n dX3_look_37 rfl) <|
  fG mo_iadd (sim_iadd dX3_look_38) <|
  fG mo_ald (sim_ald_n dX3_look_39 rfl) <|
  fG mo_int (sim_bipush dX3_look_40 (by decide)) <|
  fG mo_ild (sim_ild_n dX3_look_42 rfl) <|
  fG mo_imul (sim_imul dX3_look_43) <|
  fG mo_ild (sim_ild_n dX3_look_44 rfl) <|
  fG mo_ald (sim_ald_n dX3_look_45 rfl) <|
  fG mo_ild (sim_ild_n dX3_look_46 rfl) <|
  fC (ic_cv (Or.inl rfl)) (sim_cv hG dX3_look_47 (hG.2.1 3 _ hc_3).2.1 M_X3_windBefore (by rw [nm_X3_windBefore]; rfl) (by rw [nm_X3_windBefore]; exact q1705) (by rw [nm_X3_windBefore]; exact q1707) (by rw [nm_X3_windBefore]; exact qs95)) <|
  fG mo_ald (sim_ald_n dX3_look_50 rfl) <|
  fG mo_getf (sim_getfG hG dX3_look_51 hc_3 (by decide) rfl in_X3 (fun _ _ _ h => h) (Or.inl q1255)) <|
  fG mo_int (sim_iconst dX3_look_54 (by decide)) <|
  fG mo_lda (sim_iald dX3_look_55) <|
  fG mo_ild (sim_ild_n dX3_look_56 rfl) <|
  fG mo_iadd (sim_iadd dX3_look_57) <|
  fC (ic_cv (Or.inl rfl)) (sim_cv hG dX3_look_58 (hG.2.1 3 _ hc_3).2.1 M_X3_pushCost (by rw [nm_X3_pushCost]; rfl) (by rw [nm_X3_pushCost]; exact q1606) (by rw [nm_X3_pushCost]; exact q1608) (by rw [nm_X3_pushCost]; exact qs79)) <|
  fG mo_sta (sim_iast dX3_look_61) <|
  fG mo_inc (sim_inc dX3_look_62 (by decide)) <|
  fG mo_goto (sim_goto dX3_look_65 rfl) <|
  trivial
theorem fX3_look_68 {X : tp_X} {az : Array Value} (hG : tp_Good X az) (hSt : tp_Stat X) : tp_Fit X yX3_look cX3_look none 4 tp_nm tp_by tp_ml tp_rtt 68 [o_ald (.aload_n 0) 0, o_int (.bipush 36) 36, o_ild (.iload_n 2) 2, o_imul, o_int (.bipush 36) 36, o_ild (.iload_n 2) 2, o_int (.iconst 1) 1, o_iadd, o_imul, o_ald (.aload_n 0) 0, o_getf (.getfield 7) 3 3, o_int (.sipush 180) 180, o_ild (.iload_n 2) 2, o_iadd, o_lda .iaload [0, 20], o_ald (.aload_n 0) 0, o_getf (.getfield 7) 3 3, o_int (.iconst 0) 0, o_lda .iaload [0, 20], o_ild (.iload_n 2) 2, o_iadd, o_cv (.invokevirtual 335) 3 kX3_go 4 0, o_int (.iconst 0) 0, o_ist (.istore_n 3) 3, o_fall 102] :=
  fG mo_ald (sim_ald_n dX3_look_68 rfl) <|
  fG mo_int (sim_bipush dX3_look_69 (by decide)) <|
  fG mo_ild (sim_ild_n dX3_look_71 rfl) <|
  fG mo_imul (sim_imul dX3_look_72) <|
  fG mo_int (sim_bipush dX3_look_73 (by decide)) <|
  fG mo_ild (sim_ild_n dX3_look_75 rfl) <|
  fG mo_int (sim_iconst dX3_look_76 (by decide)) <|
  fG mo_iadd (sim_iadd dX3_look_77) <|
  fG mo_imul (sim_imul dX3_look_78) <|
  fG mo_ald (sim_ald_n dX3_look_79 rfl) <|
  fG mo_getf (sim_getfG hG dX3_look_80 hc_3 (by decide) rfl in_X3 (fun _ _ _ h => h) (Or.inl q1255)) <|
  fG mo_int (sim_sipush dX3_look_83 (by decide)) <|
  fG mo_ild (sim_ild_n dX3_look_86 rfl) <|
  fG mo_iadd (sim_iadd dX3_look_87) <|
  fG mo_lda (sim_iald dX3_look_88) <|
  fG mo_ald (sim_ald_n dX3_look_89 rfl) <|
  fG mo_getf (sim_getfG hG dX3_look_90 hc_3 (by decide) rfl in_X3 (fun _ _ _ h => h) (Or.inl q1255)) <|
  fG mo_int (sim_iconst dX3_look_93 (by decide)) <|
  fG mo_lda (sim_iald dX3_look_94) <|
  fG mo_ild (sim_ild_n dX3_look_95 rfl) <|
  fG mo_iadd (sim_iadd dX3_look_96) <|
  fC (ic_cv (Or.inl rfl)) (sim_cv hG dX3_look_97 (hG.2.1 3 _ hc_3).2.1 M_X3_go (by rw [nm_X3_go]; rfl) (by rw [nm_X3_go]; exact q1661) (by rw [nm_X3_go]; exact q1663) (by rw [nm_X3_go]; exact qs88)) <|
  fG mo_int (sim_iconst dX3_look_100 (by decide)) <|
  fG mo_ist (sim_ist_n dX3_look_101 rfl) <|
  fF
theorem fX3_look_102 {X : tp_X} {az : Array Value} (hG : tp_Good X az) (hSt : tp_Stat X) : tp_Fit X yX3_look cX3_look none 4 tp_nm tp_by tp_ml tp_rtt 102 [o_ild (.iload_n 3) 3, o_ald (.aload_n 0) 0, o_getf (.getfield 83) 3 2, o_icmpge 49 156, o_ald (.aload_n 0) 0, o_getf (.getfield 49) 3 30, o_int (.bipush 36) 36, o_ild (.iload_n 2) 2, o_imul, o_ild (.iload_n 3) 3, o_iadd, o_ald (.aload_n 0) 0, o_int (.bipush 36) 36, o_ild (.iload_n 2) 2, o_int (.iconst 1) 1, o_iadd, o_imul, o_ild (.iload_n 3) 3, o_ald (.aload_n 0) 0, o_getf (.getfield 7) 3 3, o_int (.sipush 180) 180, o_ild (.iload_n 2) 2, o_iadd, o_lda .iaload [0, 20], o_ald (.aload_n 0) 0, o_getf (.getfield 7) 3 3, o_int (.iconst 0) 0, o_lda .iaload [0, 20], o_ild (.iload_n 2) 2, o_iadd, o_cv (.invokevirtual 328) 3 kX3_nips 4 0, o_sta .bastore [1, 2], o_inc 3 1, o_goto (-51) 102] :=
  fG mo_ild (sim_ild_n dX3_look_102 rfl) <|
  fG mo_ald (sim_ald_n dX3_look_103 rfl) <|
  fG mo_getf (sim_getfG hG dX3_look_104 hc_3 (by decide) rfl in_X3 (fun _ _ _ h => h) (Or.inl q1254)) <|
  fG mo_icmpge (sim_icmpge dX3_look_107 rfl) <|
  fG mo_ald (sim_ald_n dX3_look_110 rfl) <|
  fG mo_getf (sim_getfG hG dX3_look_111 hc_3 (by decide) rfl in_X3 (fun _ _ _ h => h) (Or.inl q1280)) <|
  fG mo_int (sim_bipush dX3_look_114 (by decide)) <|
  fG mo_ild (sim_ild_n dX3_look_116 rfl) <|
  fG mo_imul (sim_imul dX3_look_117) <|
  fG mo_ild (sim_ild_n dX3_look_118 rfl) <|
  fG mo_iadd (sim_iadd dX3_look_119) <|
  fG mo_ald (sim_ald_n dX3_look_120 rfl) <|
  fG mo_int (sim_bipush dX3_look_121 (by decide)) <|
  fG mo_ild (sim_ild_n dX3_look_123 rfl) <|
  fG mo_int (sim_iconst dX3_look_124 (by decide)) <|
  fG mo_iadd (sim_iadd dX3_look_125) <|
  fG mo_imul (sim_imul dX3_look_126) <|
  fG mo_ild (sim_ild_n dX3_look_127 rfl) <|
  fG mo_ald (sim_ald_n dX3_look_128 rfl) <|
  fG mo_getf (sim_getfG hG dX3_look_129 hc_3 (by decide) rfl in_X3 (fun _ _ _ h => h) (Or.inl q1255)) <|
  fG mo_int (sim_sipush dX3_look_132 (by decide)) <|
  fG mo_ild (sim_ild_n dX3_look_135 rfl) <|
  fG mo_iadd (sim_iadd dX3_look_136) <|
  fG mo_lda (sim_iald dX3_look_137) <|
  fG mo_ald (sim_ald_n dX3_look_138 rfl) <|
  fG mo_getf (sim_getfG hG dX3_look_139 hc_3 (by decide) rfl in_X3 (fun _ _ _ h => h) (Or.inl q1255)) <|
  fG mo_int (sim_iconst dX3_look_142 (by decide)) <|
  fG mo_lda (sim_iald dX3_look_143) <|
  fG mo_ild (sim_ild_n dX3_look_144 rfl) <|
  fG mo_iadd (sim_iadd dX3_look_145) <|
  fC (ic_cv (Or.inl rfl)) (sim_cv hG dX3_look_146 (hG.2.1 3 _ hc_3).2.1 M_X3_nips (by rw [nm_X3_nips]; rfl) (by rw [nm_X3_nips]; exact q1677) (by rw [nm_X3_nips]; exact q1679) (by rw [nm_X3_nips]; exact qs92)) <|
  fG mo_sta (sim_bast dX3_look_149) <|
  fG mo_inc (sim_inc dX3_look_150 (by decide)) <|
  fG mo_goto (sim_goto dX3_look_153 rfl) <|
  trivial
theorem fX3_look_156 {X : tp_X} {az : Array Value} (hG : tp_Good X az) (hSt : tp_Stat X) : tp_Fit X yX3_look cX3_look none 4 tp_nm tp_by tp_ml tp_rtt 156 [o_inc 2 1, o_goto (-145) 14] :=
  fG mo_inc (sim_inc dX3_look_156 (by decide)) <|
  fG mo_goto (sim_goto dX3_look_159 rfl) <|
  trivial
theorem fX3_look_162 {X : tp_X} {az : Array Value} (hG : tp_Good X az) (hSt : tp_Stat X) : tp_Fit X yX3_look cX3_look none 4 tp_nm tp_by tp_ml tp_rtt 162 [o_vret] :=
  fE ie_vret (sim_vret dX3_look_162 rfl)
theorem F_X3_look {X : tp_X} {az : Array Value} (hG : tp_Good X az) (hSt : tp_Stat X) (pc : Nat) : tp_Fit X yX3_look cX3_look none 4 tp_nm tp_by tp_ml tp_rtt pc (mX3_look pc) :=
  fI (fX3_look_0 hG hSt) <| fI (fX3_look_14 hG hSt) <| fI (fX3_look_21 hG hSt) <| fI (fX3_look_68 hG hSt) <| fI (fX3_look_102 hG hSt) <| fI (fX3_look_156 hG hSt) <| fI (fX3_look_162 hG hSt) <| trivial
theorem fX3_windBefore_0 {X : tp_X} {az : Array Value} (hG : tp_Good X az) (hSt : tp_Stat X) : tp_Fit X yX3_windBefore cX3_windBefore (some .int) 2 tp_nm tp_by tp_ml tp_rtt 0 [o_ild (.iload_n 1) 1, o_ifne 12 13, o_ald (.aload_n 0) 0, o_getf (.getfield 7) 3 3, o_int (.iconst 1) 1, o_lda .iaload [0, 20], o_goto 15 25] :=
  fG mo_ild (sim_ild_n dX3_windBefore_0 rfl) <|
  fG mo_ifne (sim_ifne dX3_windBefore_1 rfl) <|
  fG mo_ald (sim_ald_n dX3_windBefore_4 rfl) <|
  fG mo_getf (sim_getfG hG dX3_windBefore_5 hc_3 (by decide) rfl in_X3 (fun _ _ _ h => h) (Or.inl q1255)) <|
  fG mo_int (sim_iconst dX3_windBefore_8 (by decide)) <|
  fG mo_lda (sim_iald dX3_windBefore_9) <|
  fG mo_goto (sim_goto dX3_windBefore_10 rfl) <|
  trivial
theorem fX3_windBefore_13 {X : tp_X} {az : Array Value} (hG : tp_Good X az) (hSt : tp_Stat X) : tp_Fit X yX3_windBefore cX3_windBefore (some .int) 2 tp_nm tp_by tp_ml tp_rtt 13 [o_ald (.aload_n 0) 0, o_getf (.getfield 7) 3 3, o_int (.sipush 180) 180, o_ild (.iload_n 1) 1, o_iadd, o_int (.iconst 1) 1, o_isub, o_lda .iaload [0, 20], o_fall 25] :=
  fG mo_ald (sim_ald_n dX3_windBefore_13 rfl) <|
  fG mo_getf (sim_getfG hG dX3_windBefore_14 hc_3 (by decide) rfl in_X3 (fun _ _ _ h => h) (Or.inl q1255)) <|
  fG mo_int (sim_sipush dX3_windBefore_17 (by decide)) <|
  fG mo_ild (sim_ild_n dX3_windBefore_20 rfl) <|
  fG mo_iadd (sim_iadd dX3_windBefore_21) <|
  fG mo_int (sim_iconst dX3_windBefore_22 (by decide)) <|
  fG mo_isub (sim_isub dX3_windBefore_23) <|
  fG mo_lda (sim_iald dX3_windBefore_24) <|
  fF
theorem fX3_windBefore_25 {X : tp_X} {az : Array Value} (hG : tp_Good X az) (hSt : tp_Stat X) : tp_Fit X yX3_windBefore cX3_windBefore (some .int) 2 tp_nm tp_by tp_ml tp_rtt 25 [o_iret 0] :=
  fE ie_iret (sim_iret dX3_windBefore_25 rfl (Or.inl ⟨rfl, rfl⟩))
theorem F_X3_windBefore {X : tp_X} {az : Array Value} (hG : tp_Good X az) (hSt : tp_Stat X) (pc : Nat) : tp_Fit X yX3_windBefore cX3_windBefore (some .int) 2 tp_nm tp_by tp_ml tp_rtt pc (mX3_windBefore pc) :=
  fI (fX3_windBefore_0 hG hSt) <| fI (fX3_windBefore_13 hG hSt) <| fI (fX3_windBefore_25 hG hSt) <| trivial
theorem fX3_stateAt_0 {X : tp_X} {az : Array Value} (hG : tp_Good X az) (hSt : tp_Stat X) : tp_Fit X yX3_stateAt cX3_stateAt (some .int) 4 tp_nm tp_by tp_ml tp_rtt 0 [o_ild (.iload_n 0) 0, o_int (.bipush 36) 36, o_imul, o_ild (.iload_n 1) 1, o_iadd, o_int (.bipush 100) 100, o_imul, o_ild (.iload_n 2) 2, o_iadd, o_int (.iconst 2) 2, o_imul, o_ild (.iload_n 3) 3, o_iadd, o_iret 0] :=
  fG mo_ild (sim_ild_n dX3_stateAt_0 rfl) <|
  fG mo_int (sim_bipush dX3_stateAt_1 (by decide)) <|
  fG mo_imul (sim_imul dX3_stateAt_3) <|
  fG mo_ild (sim_ild_n dX3_stateAt_4 rfl) <|
  fG mo_iadd (sim_iadd dX3_stateAt_5) <|
  fG mo_int (sim_bipush dX3_stateAt_6 (by decide)) <|
  fG mo_imul (sim_imul dX3_stateAt_8) <|
  fG mo_ild (sim_ild_n dX3_stateAt_9 rfl) <|
  fG mo_iadd (sim_iadd dX3_stateAt_10) <|
  fG mo_int (sim_iconst dX3_stateAt_11 (by decide)) <|
  fG mo_imul (sim_imul dX3_stateAt_12) <|
  fG mo_ild (sim_ild_n dX3_stateAt_13 rfl) <|
  fG mo_iadd (sim_iadd dX3_stateAt_14) <|
  fE ie_iret (sim_iret dX3_stateAt_15 rfl (Or.inl ⟨rfl, rfl⟩))
theorem F_X3_stateAt {X : tp_X} {az : Array Value} (hG : tp_Good X az) (hSt : tp_Stat X) (pc : Nat) : tp_Fit X yX3_stateAt cX3_stateAt (some .int) 4 tp_nm tp_by tp_ml tp_rtt pc (mX3_stateAt pc) :=
  fI (fX3_stateAt_0 hG hSt) <| trivial
theorem fX3_bestOut_0 {X : tp_X} {az : Array Value} (hG : tp_Good X az) (hSt : tp_Stat X) : tp_Fit X yX3_bestOut cX3_bestOut (some .int) 9 tp_nm tp_by tp_ml tp_rtt 0 [o_int (.iconst (-1)) (-1), o_ist (.istore 5) 5, o_int (.iconst (-1)) (-1), o_ist (.istore 6) 6, o_int (.iconst 0) 0, o_ist (.istore 7) 7, o_fall 9] :=
  fG mo_int (sim_iconst dX3_bestOut_0 (by decide)) <|
  fG mo_ist (sim_ist dX3_bestOut_1) <|
  fG mo_int (sim_iconst dX3_bestOut_3 (by decide)) <|
  fG mo_ist (sim_ist dX3_bestOut_4) <|
  fG mo_int (sim_iconst dX3_bestOut_6 (by decide)) <|
  fG mo_ist (sim_ist dX3_bestOut_7) <|
  fF
theorem fX3_bestOut_9 {X : tp_X} {az : Array Value} (hG : tp_Good X az) (hSt : tp_Stat X) : tp_Fit X yX3_bestOut cX3_bestOut (some .int) 9 tp_nm tp_by tp_ml tp_rtt 9 [o_ild (.iload 7) 7, o_int (.bipush 8) 8, o_icmpge 50 63, o_ald (.aload_n 0) 0, o_ild (.iload_n 1) 1, o_ild (.iload_n 2) 2, o_ild (.iload_n 3) 3, o_ild (.iload 4) 4, o_ild (.iload 7) 7, o_cv (.invokevirtual 355) 3 kX3_outBy 5 0, o_ist (.istore 8) 8, o_ild (.iload 8) 8, o_iflt 26 57, o_ild (.iload 6) 6, o_iflt 13 49, o_ild (.iload 8) 8, o_ild (.iload 6) 6, o_icmplt 6 49, o_goto 11 57] :=
  fG mo_ild (sim_ild dX3_bestOut_9) <|
  fG mo_int (sim_bipush dX3_bestOut_11 (by decide)) <|
  fG mo_icmpge (sim_icmpge dX3_bestOut_13 rfl) <|
  fG mo_ald (sim_ald_n dX3_bestOut_16 rfl) <|
  fG mo_ild (sim_ild_n dX3_bestOut_17 rfl) <|
  fG mo_ild (sim_ild_n dX3_bestOut_18 rfl) <|
  fG mo_ild (sim_ild_n dX3_bestOut_19 rfl) <|
  fG mo_ild (sim_ild dX3_bestOut_20) <|
  fG mo_ild (sim_ild dX3_bestOut_22) <|
  fC (ic_cv (Or.inl rfl)) (sim_cv hG dX3_bestOut_24 (hG.2.1 3 _ hc_3).2.1 M_X3_outBy (by rw [nm_X3_outBy]; rfl) (by rw [nm_X3_outBy]; exact q1716) (by rw [nm_X3_outBy]; exact q1718) (by rw [nm_X3_outBy]; exact qs97)) <|
  fG mo_ist (sim_ist dX3_bestOut_27) <|
  fG mo_ild (sim_ild dX3_bestOut_29) <|
  fG mo_iflt (sim_iflt dX3_bestOut_31 rfl) <|
  fG mo_ild (sim_ild dX3_bestOut_34) <|
  fG mo_iflt (sim_iflt dX3_bestOut_36 rfl) <|
  fG mo_ild (sim_ild dX3_bestOut_39) <|
  fG mo_ild (sim_ild dX3_bestOut_41) <|
  fG mo_icmplt (sim_icmplt dX3_bestOut_43 rfl) <|
  fG mo_goto (sim_goto dX3_bestOut_46 rfl) <|
  trivial
theorem fX3_bestOut_49 {X : tp_X} {az : Array Value} (hG : tp_Good X az) (hSt : tp_Stat X) : tp_Fit X yX3_bestOut cX3_bestOut (some .int) 9 tp_nm tp_by tp_ml tp_rtt 49 [o_ild (.iload 7) 7, o_ist (.istore 5) 5, o_ild (.iload 8) 8, o_ist (.istore 6) 6, o_fall 57] :=
  fG mo_ild (sim_ild dX3_bestOut_49) <|
  fG mo_ist (sim_ist dX3_bestOut_51) <|
  fG mo_ild (sim_ild dX3_bestOut_53) <|
  fG mo_ist (sim_ist dX3_bestOut_55) <|
  fF
theorem fX3_bestOut_57 {X : tp_X} {az : Array Value} (hG : tp_Good X az) (hSt : tp_Stat X) : tp_Fit X yX3_bestOut cX3_bestOut (some .int) 9 tp_nm tp_by tp_ml tp_rtt 57 [o_inc 7 1, o_goto (-51) 9] :=
  fG mo_inc (sim_inc dX3_bestOut_57 (by decide)) <|
  fG mo_goto (sim_goto dX3_bestOut_60 rfl) <|
  trivial
theorem fX3_bestOut_63 {X : tp_X} {az : Array Value} (hG : tp_Good X az) (hSt : tp_Stat X) : tp_Fit X yX3_bestOut cX3_bestOut (some .int) 9 tp_nm tp_by tp_ml tp_rtt 63 [o_ald (.aload_n 0) 0, o_getf (.getfield 53) 3 31, o_ild (.iload_n 1) 1, o_ild (.iload_n 2) 2, o_ild (.iload_n 3) 3, o_ild (.iload 4) 4, o_cs (.invokestatic 352) kX3_stateAt 4 0, o_ild (.iload 6) 6, o_sta .iastore [0], o_ild (.iload 5) 5, o_iret 0] :=
  fG mo_ald (sim_ald_n dX3_bestOut_63 rfl) <|
  fG mo_getf (sim_getfG hG dX3_bestOut_64 hc_3 (by decide) rfl in_X3 (fun _ _ _ h => h) (Or.inl q1281)) <|
  fG mo_ild (sim_ild_n dX3_bestOut_67 rfl) <|
  fG mo_ild (sim_ild_n dX3_bestOut_68 rfl) <|
  fG mo_ild (sim_ild_n dX3_bestOut_69 rfl) <|
  fG mo_ild (sim_ild dX3_bestOut_70) <|
  fC (ic_cs (Or.inl rfl)) (sim_cs hG dX3_bestOut_72 M_X3_stateAt (by rw [nm_X3_stateAt]; rfl) (by rw [nm_X3_stateAt]; exact q1709) (by rw [nm_X3_stateAt]; exact q1710)) <|
  fG mo_ild (sim_ild dX3_bestOut_75) <|
  fG mo_sta (sim_iast dX3_bestOut_77) <|
  fG mo_ild (sim_ild dX3_bestOut_78) <|
  fE ie_iret (sim_iret dX3_bestOut_80 rfl (Or.inl ⟨rfl, rfl⟩))
theorem F_X3_bestOut {X : tp_X} {az : Array Value} (hG : tp_Good X az) (hSt : tp_Stat X) (pc : Nat) : tp_Fit X yX3_bestOut cX3_bestOut (some .int) 9 tp_nm tp_by tp_ml tp_rtt pc (mX3_bestOut pc) :=
  fI (fX3_bestOut_0 hG hSt) <| fI (fX3_bestOut_9 hG hSt) <| fI (fX3_bestOut_49 hG hSt) <| fI (fX3_bestOut_57 hG hSt) <| fI (fX3_bestOut_63 hG hSt) <| trivial
theorem fX3_outBy_0 {X : tp_X} {az : Array Value} (hG : tp_Good X az) (hSt : tp_Stat X) : tp_Fit X yX3_outBy cX3_outBy (some .int) 9 tp_nm tp_by tp_ml tp_rtt 0 [o_ald (.aload_n 0) 0, o_ild (.iload_n 1) 1, o_ild (.iload_n 2) 2, o_ild (.iload_n 3) 3, o_ild (.iload 4) 4, o_ild (.iload 5) 5, o_cv (.invokevirtual 345) 3 kX3_costAhead 5 0, o_ist (.istore 6) 6, o_ild (.iload 6) 6, o_ifge 5 20, o_int (.iconst (-1)) (-1), o_iret 0] :=
  fG mo_ald (sim_ald_n dX3_outBy_0 rfl) <|
  fG mo_ild (sim_ild_n dX3_outBy_1 rfl) <|
  fG mo_ild (sim_ild_n dX3_outBy_2 rfl) <|
  fG mo_ild (sim_ild_n dX3_outBy_3 rfl) <|
  fG mo_ild (sim_ild dX3_outBy_4) <|
  fG mo_ild (sim_ild dX3_outBy_6) <|
  fC (ic_cv (Or.inl rfl)) (sim_cv hG dX3_outBy_8 (hG.2.1 3 _ hc_3).2.1 M_X3_costAhead (by rw [nm_X3_costAhead]; rfl) (by rw [nm_X3_costAhead]; exact q1720) (by rw [nm_X3_costAhead]; exact q1722) (by rw [nm_X3_costAhead]; exact qs98)) <|
  fG mo_ist (sim_ist dX3_outBy_11) <|
  fG mo_ild (sim_ild dX3_outBy_13) <|
  fG mo_ifge (sim_ifge dX3_outBy_15 rfl) <|
  fG mo_int (sim_iconst dX3_outBy_18 (by decide)) <|
  fE ie_iret (sim_iret dX3_outBy_19 rfl (Or.inl ⟨rfl, rfl⟩))
theorem fX3_outBy_20 {X : tp_X} {az : Array Value} (hG : tp_Good X az) (hSt : tp_Stat X) : tp_Fit X yX3_outBy cX3_outBy (some .int) 9 tp_nm tp_by tp_ml tp_rtt 20 [o_ald (.aload_n 0) 0, o_ild (.iload_n 1) 1, o_ild (.iload_n 2) 2, o_ild (.iload 5) 5, o_cv (.invokevirtual 349) 3 kX3_cellAhead 3 0, o_ist (.istore 7) 7, o_ild (.iload 5) 5, o_int (.iconst 4) 4, o_icmpge 26 59, o_ald (.aload_n 0) 0, o_getf (.getfield 7) 3 3, o_int (.bipush 70) 70, o_ild (.iload 7) 7, o_iadd, o_lda .iaload [0, 20], o_int (.iconst 1) 1, o_icmpne 12 59, o_int (.sipush 199) 199, o_ild (.iload_n 3) 3, o_ild (.iload 6) 6, o_isub, o_isub, o_iret 0] :=
  fG mo_ald (sim_ald_n dX3_outBy_20 rfl) <|
  fG mo_ild (sim_ild_n dX3_outBy_21 rfl) <|
  fG mo_ild (sim_ild_n dX3_outBy_22 rfl) <|
  fG mo_ild (sim_ild dX3_outBy_23) <|
  fC (ic_cv (Or.inl rfl)) (sim_cv hG dX3_outBy_25 (hG.2.1 3 _ hc_3).2.1 M_X3_cellAhead (by rw [nm_X3_cellAhead]; rfl) (by rw [nm_X3_cellAhead]; exact q1724) (by rw [nm_X3_cellAhead]; exact q1726) (by rw [nm_X3_cellAhead]; exact qs99)) <|
  fG mo_ist (sim_ist dX3_outBy_28) <|
  fG mo_ild (sim_ild dX3_outBy_30) <|
  fG mo_int (sim_iconst dX3_outBy_32 (by decide)) <|
  fG mo_icmpge (sim_icmpge dX3_outBy_33 rfl) <|
  fG mo_ald (sim_ald_n dX3_outBy_36 rfl) <|
  fG mo_getf (sim_getfG hG dX3_outBy_37 hc_3 (by decide) rfl in_X3 (fun _ _ _ h => h) (Or.inl q1255)) <|
  fG mo_int (sim_bipush dX3_outBy_40 (by decide)) <|
  fG mo_ild (sim_ild dX3_outBy_42) <|
  fG mo_iadd (sim_iadd dX3_outBy_44) <|
  fG mo_lda (sim_iald dX3_outBy_45) <|
  fG mo_int (sim_iconst dX3_outBy_46 (by decide)) <|
  fG mo_icmpne (sim_icmpne dX3_outBy_47 rfl) <|
  fG mo_int (sim_sipush dX3_outBy_50 (by decide)) <|
  fG mo_ild (sim_ild_n dX3_outBy_53 rfl) <|
  fG mo_ild (sim_ild dX3_outBy_54) <|
  fG mo_isub (sim_isub dX3_outBy_56) <|
  fG mo_isub (sim_isub dX3_outBy_57) <|
  fE ie_iret (sim_iret dX3_outBy_58 rfl (Or.inl ⟨rfl, rfl⟩))
theorem fX3_outBy_59 {X : tp_X} {az : Array Value} (hG : tp_Good X az) (hSt : tp_Stat X) : tp_Fit X yX3_outBy cX3_outBy (some .int) 9 tp_nm tp_by tp_ml tp_rtt 59 [o_ald (.aload_n 0) 0, o_getf (.getfield 49) 3 30, o_int (.bipush 36) 36, o_ild (.iload_n 1) 1, o_imul, o_ild (.iload 7) 7, o_iadd, o_lda .baload [1, 2, 22], o_ifeq 5 76, o_int (.iconst (-1)) (-1), o_iret 0] :=
  fG mo_ald (sim_ald_n dX3_outBy_59 rfl) <|
  fG mo_getf (sim_getfG hG dX3_outBy_60 hc_3 (by decide) rfl in_X3 (fun _ _ _ h => h) (Or.inl q1280)) <|
  fG mo_int (sim_bipush dX3_outBy_63 (by decide)) <|
  fG mo_ild (sim_ild_n dX3_outBy_65 rfl) <|
  fG mo_imul (sim_imul dX3_outBy_66) <|
  fG mo_ild (sim_ild dX3_outBy_67) <|
  fG mo_iadd (sim_iadd dX3_outBy_69) <|
  fG mo_lda (sim_bald dX3_outBy_70) <|
  fG mo_ifeq (sim_ifeq dX3_outBy_71 rfl) <|
  fG mo_int (sim_iconst dX3_outBy_74 (by decide)) <|
  fE ie_iret (sim_iret dX3_outBy_75 rfl (Or.inl ⟨rfl, rfl⟩))
theorem fX3_outBy_76 {X : tp_X} {az : Array Value} (hG : tp_Good X az) (hSt : tp_Stat X) : tp_Fit X yX3_outBy cX3_outBy (some .int) 9 tp_nm tp_by tp_ml tp_rtt 76 [o_ald (.aload_n 0) 0, o_getf (.getfield 53) 3 31, o_ild (.iload_n 1) 1, o_int (.iconst 1) 1, o_iadd, o_ild (.iload 7) 7, o_ild (.iload_n 3) 3, o_ild (.iload 6) 6, o_isub, o_ild (.iload 5) 5, o_ild (.iload 4) 4, o_cs (.invokestatic 322) kX3_firesBehind 2 0, o_cs (.invokestatic 352) kX3_stateAt 4 0, o_lda .iaload [0, 20], o_ist (.istore 8) 8, o_ild (.iload 8) 8, o_ifge 7 111, o_int (.iconst (-1)) (-1), o_goto 8 116] :=
  fG mo_ald (sim_ald_n dX3_outBy_76 rfl) <|
  fG mo_getf (sim_getfG hG dX3_outBy_77 hc_3 (by decide) rfl in_X3 (fun _ _ _ h => h) (Or.inl q1281)) <|
  fG mo_ild (sim_ild_n dX3_outBy_80 rfl) <|
  fG mo_int (sim_iconst dX3_outBy_81 (by decide)) <|
  fG mo_iadd (sim_iadd dX3_outBy_82) <|
  fG mo_ild (sim_ild dX3_outBy_83) <|
  fG mo_ild (sim_ild_n dX3_outBy_85 rfl) <|
  fG mo_ild (sim_ild dX3_outBy_86) <|
  fG mo_isub (sim_isub dX3_outBy_88) <|
  fG mo_ild (sim_ild dX3_outBy_89) <|
  fG mo_ild (sim_ild dX3_outBy_91) <|
  fC (ic_cs (Or.inl rfl)) (sim_cs hG dX3_outBy_93 M_X3_firesBehind (by rw [nm_X3_firesBehind]; rfl) (by rw [nm_X3_firesBehind]; exact q1658) (by rw [nm_X3_firesBehind]; exact q1659)) <|
  fC (ic_cs (Or.inl rfl)) (sim_cs hG dX3_outBy_96 M_X3_stateAt (by rw [nm_X3_stateAt]; rfl) (by rw [nm_X3_stateAt]; exact q1709) (by rw [nm_X3_stateAt]; exact q1710)) <|
  fG mo_lda (sim_iald dX3_outBy_99) <|
  fG mo_ist (sim_ist dX3_outBy_100) <|
  fG mo_ild (sim_ild dX3_outBy_102) <|
  fG mo_ifge (sim_ifge dX3_outBy_104 rfl) <|
  fG mo_int (sim_iconst dX3_outBy_107 (by decide)) <|
  fG mo_goto (sim_goto dX3_outBy_108 rfl) <|
  trivial
theorem fX3_outBy_111 {X : tp_X} {az : Array Value} (hG : tp_Good X az) (hSt : tp_Stat X) : tp_Fit X yX3_outBy cX3_outBy (some .int) 9 tp_nm tp_by tp_ml tp_rtt 111 [o_ild (.iload 8) 8, o_int (.bipush 100) 100, o_iadd, o_fall 116] :=
  fG mo_ild (sim_ild dX3_outBy_111) <|
  fG mo_int (sim_bipush dX3_outBy_113 (by decide)) <|
  fG mo_iadd (sim_iadd dX3_outBy_115) <|
  fF
theorem fX3_outBy_116 {X : tp_X} {az : Array Value} (hG : tp_Good X az) (hSt : tp_Stat X) : tp_Fit X yX3_outBy cX3_outBy (some .int) 9 tp_nm tp_by tp_ml tp_rtt 116 [o_iret 0] :=
  fE ie_iret (sim_iret dX3_outBy_116 rfl (Or.inl ⟨rfl, rfl⟩))
theorem F_X3_outBy {X : tp_X} {az : Array Value} (hG : tp_Good X az) (hSt : tp_Stat X) (pc : Nat) : tp_Fit X yX3_outBy cX3_outBy (some .int) 9 tp_nm tp_by tp_ml tp_rtt pc (mX3_outBy pc) :=
  fI (fX3_outBy_0 hG hSt) <| fI (fX3_outBy_20 hG hSt) <| fI (fX3_outBy_59 hG hSt) <| fI (fX3_outBy_76 hG hSt) <| fI (fX3_outBy_111 hG hSt) <| fI (fX3_outBy_116 hG hSt) <| trivial
theorem fX3_costAhead_0 {X : tp_X} {az : Array Value} (hG : tp_Good X az) (hSt : tp_Stat X) : tp_Fit X yX3_costAhead cX3_costAhead (some .int) 8 tp_nm tp_by tp_ml tp_rtt 0 [o_ild (.iload 5) 5, o_int (.bipush 6) 6, o_icmpne 5 9, o_int (.iconst 0) 0, o_iret 0] :=
  fG mo_ild (sim_ild dX3_costAhead_0) <|
  fG mo_int (sim_bipush dX3_costAhead_2 (by decide)) <|
  fG mo_icmpne (sim_icmpne dX3_costAhead_4 rfl) <|
  fG mo_int (sim_iconst dX3_costAhead_7 (by decide)) <|
  fE ie_iret (sim_iret dX3_costAhead_8 rfl (Or.inl ⟨rfl, rfl⟩))
theorem fX3_costAhead_9 {X : tp_X} {az : Array Value} (hG : tp_Good X az) (hSt : tp_Stat X) : tp_Fit X yX3_costAhead cX3_costAhead (some .int) 8 tp_nm tp_by tp_ml tp_rtt 9 [o_ild (.iload 5) 5, o_int (.bipush 7) 7, o_icmpne 32 45, o_ild (.iload 4) 4, o_int (.iconst 1) 1, o_icmpne 24 43, o_ild (.iload_n 3) 3, o_ald (.aload_n 0) 0, o_getf (.getfield 7) 3 3, o_int (.bipush 11) 11, o_lda .iaload [0, 20], o_icmplt 13 43, o_ald (.aload_n 0) 0, o_getf (.getfield 7) 3 3, o_int (.bipush 11) 11, o_lda .iaload [0, 20], o_goto 4 44] :=
  fG mo_ild (sim_ild dX3_costAhead_9) <|
  fG mo_int (sim_bipush dX3_costAhead_11 (by decide)) <|
  fG mo_icmpne (sim_icmpne dX3_costAhead_13 rfl) <|
  fG mo_ild (sim_ild dX3_costAhead_16) <|
  fG mo_int (sim_iconst dX3_costAhead_18 (by decide)) <|
  fG mo_icmpne (sim_icmpne dX3_costAhead_19 rfl) <|
  fG mo_ild (sim_ild_n dX3_costAhead_22 rfl) <|
  fG mo_ald (sim_ald_n dX3_costAhead_23 rfl) <|
  fG mo_getf (sim_getfG hG dX3_costAhead_24 hc_3 (by decide) rfl in_X3 (fun _ _ _ h => h) (Or.inl q1255)) <|
  fG mo_int (sim_bipush dX3_costAhead_27 (by decide)) <|
  fG mo_lda (sim_iald dX3_costAhead_29) <|
  fG mo_icmplt (sim_icmplt dX3_costAhead_30 rfl) <|
  fG mo_ald (sim_ald_n dX3_costAhead_33 rfl) <|
  fG mo_getf (sim_getfG hG dX3_costAhead_34 hc_3 (by decide) rfl in_X3 (fun _ _ _ h => h) (Or.inl q1255)) <|
  fG mo_int (sim_bipush dX3_costAhead_37 (by decide)) <|
  fG mo_lda (sim_iald dX3_costAhead_39) <|
  fG mo_goto (sim_goto dX3_costAhead_40 rfl) <|
  trivial
theorem fX3_costAhead_43 {X : tp_X} {az : Array Value} (hG : tp_Good X az) (hSt : tp_Stat X) : tp_Fit X yX3_costAhead cX3_costAhead (some .int) 8 tp_nm tp_by tp_ml tp_rtt 43 [o_int (.iconst (-1)) (-1), o_fall 44] :=
  fG mo_int (sim_iconst dX3_costAhead_43 (by decide)) <|
  fF
theorem fX3_costAhead_44 {X : tp_X} {az : Array Value} (hG : tp_Good X az) (hSt : tp_Stat X) : tp_Fit X yX3_costAhead cX3_costAhead (some .int) 8 tp_nm tp_by tp_ml tp_rtt 44 [o_iret 0] :=
  fE ie_iret (sim_iret dX3_costAhead_44 rfl (Or.inl ⟨rfl, rfl⟩))
theorem fX3_costAhead_45 {X : tp_X} {az : Array Value} (hG : tp_Good X az) (hSt : tp_Stat X) : tp_Fit X yX3_costAhead cX3_costAhead (some .int) 8 tp_nm tp_by tp_ml tp_rtt 45 [o_ild (.iload 4) 4, o_int (.iconst 1) 1, o_icmpne 5 53, o_int (.iconst (-1)) (-1), o_iret 0] :=
  fG mo_ild (sim_ild dX3_costAhead_45) <|
  fG mo_int (sim_iconst dX3_costAhead_47 (by decide)) <|
  fG mo_icmpne (sim_icmpne dX3_costAhead_48 rfl) <|
  fG mo_int (sim_iconst dX3_costAhead_51 (by decide)) <|
  fE ie_iret (sim_iret dX3_costAhead_52 rfl (Or.inl ⟨rfl, rfl⟩))
theorem fX3_costAhead_53 {X : tp_X} {az : Array Value} (hG : tp_Good X az) (hSt : tp_Stat X) : tp_Fit X yX3_costAhead cX3_costAhead (some .int) 8 tp_nm tp_by tp_ml tp_rtt 53 [o_ild (.iload 5) 5, o_int (.iconst 4) 4, o_icmpge 13 69, o_ald (.aload_n 0) 0, o_ild (.iload_n 2) 2, o_ild (.iload 5) 5, o_cv (.invokevirtual 271) 3 kX3_pushed 2 0, o_goto 4 70] :=
  fG mo_ild (sim_ild dX3_costAhead_53) <|
  fG mo_int (sim_iconst dX3_costAhead_55 (by decide)) <|
  fG mo_icmpge (sim_icmpge dX3_costAhead_56 rfl) <|
  fG mo_ald (sim_ald_n dX3_costAhead_59 rfl) <|
  fG mo_ild (sim_ild_n dX3_costAhead_60 rfl) <|
  fG mo_ild (sim_ild dX3_costAhead_61) <|
  fC (ic_cv (Or.inl rfl)) (sim_cv hG dX3_costAhead_63 (hG.2.1 3 _ hc_3).2.1 M_X3_pushed (by rw [nm_X3_pushed]; rfl) (by rw [nm_X3_pushed]; exact q1598) (by rw [nm_X3_pushed]; exact q1600) (by rw [nm_X3_pushed]; exact qs77)) <|
  fG mo_goto (sim_goto dX3_costAhead_66 rfl) <|
  trivial
theorem fX3_costAhead_69 {X : tp_X} {az : Array Value} (hG : tp_Good X az) (hSt : tp_Stat X) : tp_Fit X yX3_costAhead cX3_costAhead (some .int) 8 tp_nm tp_by tp_ml tp_rtt 69 [o_int (.iconst (-1)) (-1), o_fall 70] :=
  fG mo_int (sim_iconst dX3_costAhead_69 (by decide)) <|
  fF
theorem fX3_costAhead_70 {X : tp_X} {az : Array Value} (hG : tp_Good X az) (hSt : tp_Stat X) : tp_Fit X yX3_costAhead cX3_costAhead (some .int) 8 tp_nm tp_by tp_ml tp_rtt 70 [o_ist (.istore 6) 6, o_ild (.iload 5) 5, o_int (.iconst 4) 4, o_icmpne 13 88, o_ald (.aload_n 0) 0, o_getf (.getfield 7) 3 3, o_int (.bipush 9) 9, o_lda .iaload [0, 20], o_goto 40 125] :=
  fG mo_ist (sim_ist dX3_costAhead_70) <|
  fG mo_ild (sim_ild dX3_costAhead_72) <|
  fG mo_int (sim_iconst dX3_costAhead_74 (by decide)) <|
  fG mo_icmpne (sim_icmpne dX3_costAhead_75 rfl) <|
  fG mo_ald (sim_ald_n dX3_costAhead_78 rfl) <|
  fG mo_getf (sim_getfG hG dX3_costAhead_79 hc_3 (by decide) rfl in_X3 (fun _ _ _ h => h) (Or.inl q1255)) <|
  fG mo_int (sim_bipush dX3_costAhead_82 (by decide)) <|
  fG mo_lda (sim_iald dX3_costAhead_84) <|
  fG mo_goto (sim_goto dX3_costAhead_85 rfl) <|
  trivial
theorem fX3_costAhead_88 {X : tp_X} {az : Array Value} (hG : tp_Good X az) (hSt : tp_Stat X) : tp_Fit X yX3_costAhead cX3_costAhead (some .int) 8 tp_nm tp_by tp_ml tp_rtt 88 [o_ild (.iload 5) 5, o_int (.iconst 5) 5, o_icmpne 13 104, o_ald (.aload_n 0) 0, o_getf (.getfield 7) 3 3, o_int (.bipush 10) 10, o_lda .iaload [0, 20], o_goto 24 125] :=
  fG mo_ild (sim_ild dX3_costAhead_88) <|
  fG mo_int (sim_iconst dX3_costAhead_90 (by decide)) <|
  fG mo_icmpne (sim_icmpne dX3_costAhead_91 rfl) <|
  fG mo_ald (sim_ald_n dX3_costAhead_94 rfl) <|
  fG mo_getf (sim_getfG hG dX3_costAhead_95 hc_3 (by decide) rfl in_X3 (fun _ _ _ h => h) (Or.inl q1255)) <|
  fG mo_int (sim_bipush dX3_costAhead_98 (by decide)) <|
  fG mo_lda (sim_iald dX3_costAhead_100) <|
  fG mo_goto (sim_goto dX3_costAhead_101 rfl) <|
  trivial
theorem fX3_costAhead_104 {X : tp_X} {az : Array Value} (hG : tp_Good X az) (hSt : tp_Stat X) : tp_Fit X yX3_costAhead cX3_costAhead (some .int) 8 tp_nm tp_by tp_ml tp_rtt 104 [o_ild (.iload 6) 6, o_ifge 7 113, o_int (.iconst (-1)) (-1), o_goto 15 125] :=
  fG mo_ild (sim_ild dX3_costAhead_104) <|
  fG mo_ifge (sim_ifge dX3_costAhead_106 rfl) <|
  fG mo_int (sim_iconst dX3_costAhead_109 (by decide)) <|
  fG mo_goto (sim_goto dX3_costAhead_110 rfl) <|
  trivial
theorem fX3_costAhead_113 {X : tp_X} {az : Array Value} (hG : tp_Good X az) (hSt : tp_Stat X) : tp_Fit X yX3_costAhead cX3_costAhead (some .int) 8 tp_nm tp_by tp_ml tp_rtt 113 [o_ald (.aload_n 0) 0, o_getf (.getfield 46) 3 29, o_int (.bipush 36) 36, o_ild (.iload_n 1) 1, o_imul, o_ild (.iload 6) 6, o_iadd, o_lda .iaload [0, 20], o_fall 125] :=
  fG mo_ald (sim_ald_n dX3_costAhead_113 rfl) <|
  fG mo_getf (sim_getfG hG dX3_costAhead_114 hc_3 (by decide) rfl in_X3 (fun _ _ _ h => h) (Or.inl q1279)) <|
  fG mo_int (sim_bipush dX3_costAhead_117 (by decide)) <|
  fG mo_ild (sim_ild_n dX3_costAhead_119 rfl) <|
  fG mo_imul (sim_imul dX3_costAhead_120) <|
  fG mo_ild (sim_ild dX3_costAhead_121) <|
  fG mo_iadd (sim_iadd dX3_costAhead_123) <|
  fG mo_lda (sim_iald dX3_costAhead_124) <|
  fF
theorem fX3_costAhead_125 {X : tp_X} {az : Array Value} (hG : tp_Good X az) (hSt : tp_Stat X) : tp_Fit X yX3_costAhead cX3_costAhead (some .int) 8 tp_nm tp_by tp_ml tp_rtt 125 [o_ist (.istore 7) 7, o_ild (.iload 7) 7, o_ild (.iload_n 3) 3, o_icmpgt 8 138, o_ild (.iload 7) 7, o_goto 4 139] :=
  fG mo_ist (sim_ist dX3_costAhead_125) <|
  fG mo_ild (sim_ild dX3_costAhead_127) <|
  fG mo_ild (sim_ild_n dX3_costAhead_129 rfl) <|
  fG mo_icmpgt (sim_icmpgt dX3_costAhead_130 rfl) <|
  fG mo_ild (sim_ild dX3_costAhead_133) <|
  fG mo_goto (sim_goto dX3_costAhead_135 rfl) <|
  trivial
theorem fX3_costAhead_138 {X : tp_X} {az : Array Value} (hG : tp_Good X az) (hSt : tp_Stat X) : tp_Fit X yX3_costAhead cX3_costAhead (some .int) 8 tp_nm tp_by tp_ml tp_rtt 138 [o_int (.iconst (-1)) (-1), o_fall 139] :=
  fG mo_int (sim_iconst dX3_costAhead_138 (by decide)) <|
  fF
theorem fX3_costAhead_139 {X : tp_X} {az : Array Value} (hG : tp_Good X az) (hSt : tp_Stat X) : tp_Fit X yX3_costAhead cX3_costAhead (some .int) 8 tp_nm tp_by tp_ml tp_rtt 139 [o_iret 0] :=
  fE ie_iret (sim_iret dX3_costAhead_139 rfl (Or.inl ⟨rfl, rfl⟩))
theorem F_X3_costAhead {X : tp_X} {az : Array Value} (hG : tp_Good X az) (hSt : tp_Stat X) (pc : Nat) : tp_Fit X yX3_costAhead cX3_costAhead (some .int) 8 tp_nm tp_by tp_ml tp_rtt pc (mX3_costAhead pc) :=
  fI (fX3_costAhead_0 hG hSt) <| fI (fX3_costAhead_9 hG hSt) <| fI (fX3_costAhead_43 hG hSt) <| fI (fX3_costAhead_44 hG hSt) <| fI (fX3_costAhead_45 hG hSt) <| fI (fX3_costAhead_53 hG hSt) <| fI (fX3_costAhead_69 hG hSt) <| fI (fX3_costAhead_70 hG hSt) <| fI (fX3_costAhead_88 hG hSt) <| fI (fX3_costAhead_104 hG hSt) <| fI (fX3_costAhead_113 hG hSt) <| fI (fX3_costAhead_125 hG hSt) <| fI (fX3_costAhead_138 hG hSt) <| fI (fX3_costAhead_139 hG hSt) <| trivial
theorem fX3_cellAhead_0 {X : tp_X} {az : Array Value} (hG : tp_Good X az) (hSt : tp_Stat X) : tp_Fit X yX3_cellAhead cX3_cellAhead (some .int) 4 tp_nm tp_by tp_ml tp_rtt 0 [o_ild (.iload_n 3) 3, o_int (.iconst 4) 4, o_icmpge 12 14, o_ald (.aload_n 0) 0, o_ild (.iload_n 2) 2, o_ild (.iload_n 3) 3, o_cv (.invokevirtual 271) 3 kX3_pushed 2 0, o_goto 27 38] :=
  fG mo_ild (sim_ild_n dX3_cellAhead_0 rfl) <|
  fG mo_int (sim_iconst dX3_cellAhead_1 (by decide)) <|
  fG mo_icmpge (sim_icmpge dX3_cellAhead_2 rfl) <|
  fG mo_ald (sim_ald_n dX3_cellAhead_5 rfl) <|
  fG mo_ild (sim_ild_n dX3_cellAhead_6 rfl) <|
  fG mo_ild (sim_ild_n dX3_cellAhead_7 rfl) <|
  fC (ic_cv (Or.inl rfl)) (sim_cv hG dX3_cellAhead_8 (hG.2.1 3 _ hc_3).2.1 M_X3_pushed (by rw [nm_X3_pushed]; rfl) (by rw [nm_X3_pushed]; exact q1598) (by rw [nm_X3_pushed]; exact q1600) (by rw [nm_X3_pushed]; exact qs77)) <|
  fG mo_goto (sim_goto dX3_cellAhead_11 rfl) <|
  trivial
theorem fX3_cellAhead_14 {X : tp_X} {az : Array Value} (hG : tp_Good X az) (hSt : tp_Stat X) : tp_Fit X yX3_cellAhead cX3_cellAhead (some .int) 4 tp_nm tp_by tp_ml tp_rtt 14 [o_ild (.iload_n 3) 3, o_int (.iconst 5) 5, o_icmpne 7 23, o_ild (.iload_n 2) 2, o_goto 18 38] :=
  fG mo_ild (sim_ild_n dX3_cellAhead_14 rfl) <|
  fG mo_int (sim_iconst dX3_cellAhead_15 (by decide)) <|
  fG mo_icmpne (sim_icmpne dX3_cellAhead_16 rfl) <|
  fG mo_ild (sim_ild_n dX3_cellAhead_19 rfl) <|
  fG mo_goto (sim_goto dX3_cellAhead_20 rfl) <|
  trivial
theorem fX3_cellAhead_23 {X : tp_X} {az : Array Value} (hG : tp_Good X az) (hSt : tp_Stat X) : tp_Fit X yX3_cellAhead cX3_cellAhead (some .int) 4 tp_nm tp_by tp_ml tp_rtt 23 [o_ald (.aload_n 0) 0, o_ild (.iload_n 2) 2, o_ald (.aload_n 0) 0, o_getf (.getfield 7) 3 3, o_int (.sipush 180) 180, o_ild (.iload_n 1) 1, o_iadd, o_lda .iaload [0, 20], o_cv (.invokevirtual 325) 3 kX3_drifted 2 0, o_fall 38] :=
  fG mo_ald (sim_ald_n dX3_cellAhead_23 rfl) <|
  fG mo_ild (sim_ild_n dX3_cellAhead_24 rfl) <|
  fG mo_ald (sim_ald_n dX3_cellAhead_25 rfl) <|
  fG mo_getf (sim_getfG hG dX3_cellAhead_26 hc_3 (by decide) rfl in_X3 (fun _ _ _ h => h) (Or.inl q1255)) <|
  fG mo_int (sim_sipush dX3_cellAhead_29 (by decide)) <|
  fG mo_ild (sim_ild_n dX3_cellAhead_32 rfl) <|
  fG mo_iadd (sim_iadd dX3_cellAhead_33) <|
  fG mo_lda (sim_iald dX3_cellAhead_34) <|
  fC (ic_cv (Or.inl rfl)) (sim_cv hG dX3_cellAhead_35 (hG.2.1 3 _ hc_3).2.1 M_X3_drifted (by rw [nm_X3_drifted]; rfl) (by rw [nm_X3_drifted]; exact q1673) (by rw [nm_X3_drifted]; exact q1675) (by rw [nm_X3_drifted]; exact qs91)) <|
  fF
theorem fX3_cellAhead_38 {X : tp_X} {az : Array Value} (hG : tp_Good X az) (hSt : tp_Stat X) : tp_Fit X yX3_cellAhead cX3_cellAhead (some .int) 4 tp_nm tp_by tp_ml tp_rtt 38 [o_iret 0] :=
  fE ie_iret (sim_iret dX3_cellAhead_38 rfl (Or.inl ⟨rfl, rfl⟩))
theorem F_X3_cellAhead {X : tp_X} {az : Array Value} (hG : tp_Good X az) (hSt : tp_Stat X) (pc : Nat) : tp_Fit X yX3_cellAhead cX3_cellAhead (some .int) 4 tp_nm tp_by tp_ml tp_rtt pc (mX3_cellAhead pc) :=
  fI (fX3_cellAhead_0 hG hSt) <| fI (fX3_cellAhead_14 hG hSt) <| fI (fX3_cellAhead_23 hG hSt) <| fI (fX3_cellAhead_38 hG hSt) <| trivial
theorem fX3_shipCell_0 {X : tp_X} {az : Array Value} (hG : tp_Good X az) (hSt : tp_Stat X) : tp_Fit X yX3_shipCell cX3_shipCell (some .int) 1 tp_nm tp_by tp_ml tp_rtt 0 [o_ald (.aload_n 0) 0, o_getf (.getfield 7) 3 3, o_int (.iconst 0) 0, o_int (.iconst 0) 0, o_cs (.invokestatic 108) kX3_ofShip 2 0, o_lda .iaload [0, 20], o_iret 0] :=
  fG mo_ald (sim_ald_n dX3_shipCell_0 rfl) <|
  fG mo_getf (sim_getfG hG dX3_shipCell_1 hc_3 (by decide) rfl in_X3 (fun _ _ _ h => h) (Or.inl q1255)) <|
  fG mo_int (sim_iconst dX3_shipCell_4 (by decide)) <|
  fG mo_int (sim_iconst dX3_shipCell_5 (by decide)) <|
  fC (ic_cs (Or.inl rfl)) (sim_cs hG dX3_shipCell_6 M_X3_ofShip (by rw [nm_X3_ofShip]; rfl) (by rw [nm_X3_ofShip]; exact q1433) (by rw [nm_X3_ofShip]; exact q1434)) <|
  fG mo_lda (sim_iald dX3_shipCell_9) <|
  fE ie_iret (sim_iret dX3_shipCell_10 rfl (Or.inl ⟨rfl, rfl⟩))
theorem F_X3_shipCell {X : tp_X} {az : Array Value} (hG : tp_Good X az) (hSt : tp_Stat X) (pc : Nat) : tp_Fit X yX3_shipCell cX3_shipCell (some .int) 1 tp_nm tp_by tp_ml tp_rtt pc (mX3_shipCell pc) :=
  fI (fX3_shipCell_0 hG hSt) <| trivial
theorem fX3_shipCoal_0 {X : tp_X} {az : Array Value} (hG : tp_Good X az) (hSt : tp_Stat X) : tp_Fit X yX3_shipCoal cX3_shipCoal (some .int) 1 tp_nm tp_by tp_ml tp_rtt 0 [o_ald (.aload_n 0) 0, o_getf (.getfield 7) 3 3, o_int (.iconst 0) 0, o_int (.iconst 1) 1, o_cs (.invokestatic 108) kX3_ofShip 2 0, o_lda .iaload [0, 20], o_iret 0] :=
  fG mo_ald (sim_ald_n dX3_shipCoal_0 rfl) <|
  fG mo_getf (sim_getfG hG dX3_shipCoal_1 hc_3 (by decide) rfl in_X3 (fun _ _ _ h => h) (Or.inl q1255)) <|
  fG mo_int (sim_iconst dX3_shipCoal_4 (by decide)) <|
  fG mo_int (sim_iconst dX3_shipCoal_5 (by decide)) <|
  fC (ic_cs (Or.inl rfl)) (sim_cs hG dX3_shipCoal_6 M_X3_ofShip (by rw [nm_X3_ofShip]; rfl) (by rw [nm_X3_ofShip]; exact q1433) (by rw [nm_X3_ofShip]; exact q1434)) <|
  fG mo_lda (sim_iald dX3_shipCoal_9) <|
  fE ie_iret (sim_iret dX3_shipCoal_10 rfl (Or.inl ⟨rfl, rfl⟩))
theorem F_X3_shipCoal {X : tp_X} {az : Array Value} (hG : tp_Good X az) (hSt : tp_Stat X) (pc : Nat) : tp_Fit X yX3_shipCoal cX3_shipCoal (some .int) 1 tp_nm tp_by tp_ml tp_rtt pc (mX3_shipCoal pc) :=
  fI (fX3_shipCoal_0 hG hSt) <| trivial
theorem fX3_shipBanked_0 {X : tp_X} {az : Array Value} (hG : tp_Good X az) (hSt : tp_Stat X) : tp_Fit X yX3_shipBanked cX3_shipBanked (some .int) 1 tp_nm tp_by tp_ml tp_rtt 0 [o_ald (.aload_n 0) 0, o_getf (.getfield 7) 3 3, o_int (.iconst 0) 0, o_int (.iconst 2) 2, o_cs (.invokestatic 108) kX3_ofShip 2 0, o_lda .iaload [0, 20], o_iret 0] :=
  fG mo_ald (sim_ald_n dX3_shipBanked_0 rfl) <|
  fG mo_getf (sim_getfG hG dX3_shipBanked_1 hc_3 (by decide) rfl in_X3 (fun _ _ _ h => h) (Or.inl q1255)) <|
  fG mo_int (sim_iconst dX3_shipBanked_4 (by decide)) <|
  fG mo_int (sim_iconst dX3_shipBanked_5 (by decide)) <|
  fC (ic_cs (Or.inl rfl)) (sim_cs hG dX3_shipBanked_6 M_X3_ofShip (by rw [nm_X3_ofShip]; rfl) (by rw [nm_X3_ofShip]; exact q1433) (by rw [nm_X3_ofShip]; exact q1434)) <|
  fG mo_lda (sim_iald dX3_shipBanked_9) <|
  fE ie_iret (sim_iret dX3_shipBanked_10 rfl (Or.inl ⟨rfl, rfl⟩))
theorem F_X3_shipBanked {X : tp_X} {az : Array Value} (hG : tp_Good X az) (hSt : tp_Stat X) (pc : Nat) : tp_Fit X yX3_shipBanked cX3_shipBanked (some .int) 1 tp_nm tp_by tp_ml tp_rtt pc (mX3_shipBanked pc) :=
  fI (fX3_shipBanked_0 hG hSt) <| trivial
theorem fX3_least_0 {X : tp_X} {az : Array Value} (hG : tp_Good X az) (hSt : tp_Stat X) : tp_Fit X yX3_least cX3_least (some .int) 2 tp_nm tp_by tp_ml tp_rtt 0 [o_ald (.aload_n 0) 0, o_int (.iconst 0) 0, o_cv (.invokevirtual 313) 3 kX3_isFree 1 0, o_ifne 5 10, o_int (.iconst (-1)) (-1), o_iret 0] :=
  fG mo_ald (sim_ald_n dX3_least_0 rfl) <|
  fG mo_int (sim_iconst dX3_least_1 (by decide)) <|
  fC (ic_cv (Or.inl rfl)) (sim_cv hG dX3_least_2 (hG.2.1 3 _ hc_3).2.1 M_X3_isFree (by rw [nm_X3_isFree]; rfl) (by rw [nm_X3_isFree]; exact q1582) (by rw [nm_X3_isFree]; exact q1584) (by rw [nm_X3_isFree]; exact qs73)) <|
  fG mo_ifne (sim_ifne dX3_least_5 rfl) <|
  fG mo_int (sim_iconst dX3_least_8 (by decide)) <|
  fE ie_iret (sim_iret dX3_least_9 rfl (Or.inl ⟨rfl, rfl⟩))
theorem fX3_least_10 {X : tp_X} {az : Array Value} (hG : tp_Good X az) (hSt : tp_Stat X) : tp_Fit X yX3_least cX3_least (some .int) 2 tp_nm tp_by tp_ml tp_rtt 10 [o_ald (.aload_n 0) 0, o_cv (.invokevirtual 364) 3 kX3_findOut 0 0, o_int (.iconst 0) 0, o_ist (.istore_n 1) 1, o_fall 16] :=
  fG mo_ald (sim_ald_n dX3_least_10 rfl) <|
  fC (ic_cv (Or.inl rfl)) (sim_cv hG dX3_least_11 (hG.2.1 3 _ hc_3).2.1 M_X3_findOut (by rw [nm_X3_findOut]; rfl) (by rw [nm_X3_findOut]; exact q1697) (by rw [nm_X3_findOut]; exact q1699) (by rw [nm_X3_findOut]; exact qs93)) <|
  fG mo_int (sim_iconst dX3_least_14 (by decide)) <|
  fG mo_ist (sim_ist_n dX3_least_15 rfl) <|
  fF
theorem fX3_least_16 {X : tp_X} {az : Array Value} (hG : tp_Good X az) (hSt : tp_Stat X) : tp_Fit X yX3_least cX3_least (some .int) 2 tp_nm tp_by tp_ml tp_rtt 16 [o_ild (.iload_n 1) 1, o_int (.bipush 100) 100, o_icmpge 32 51, o_ald (.aload_n 0) 0, o_getf (.getfield 53) 3 31, o_int (.iconst 0) 0, o_ald (.aload_n 0) 0, o_cv (.invokevirtual 367) 3 kX3_shipCell 0 0, o_ild (.iload_n 1) 1, o_ald (.aload_n 0) 0, o_cv (.invokevirtual 373) 3 kX3_shipBanked 0 0, o_cs (.invokestatic 352) kX3_stateAt 4 0, o_lda .iaload [0, 20], o_iflt 5 45, o_ild (.iload_n 1) 1, o_iret 0] :=
  fG mo_ild (sim_ild_n dX3_least_16 rfl) <|
  fG mo_int (sim_bipush dX3_least_17 (by decide)) <|
  fG mo_icmpge (sim_icmpge dX3_least_19 rfl) <|
  fG mo_ald (sim_ald_n dX3_least_22 rfl) <|
  fG mo_getf (sim_getfG hG dX3_least_23 hc_3 (by decide) rfl in_X3 (fun _ _ _ h => h) (Or.inl q1281)) <|
  fG mo_int (sim_iconst dX3_least_26 (by decide)) <|
  fG mo_ald (sim_ald_n dX3_least_27 rfl) <|
  fC (ic_cv (Or.inl rfl)) (sim_cv hG dX3_least_28 (hG.2.1 3 _ hc_3).2.1 M_X3_shipCell (by rw [nm_X3_shipCell]; rfl) (by rw [nm_X3_shipCell]; exact q1728) (by rw [nm_X3_shipCell]; exact q1730) (by rw [nm_X3_shipCell]; exact qs100)) <|
  fG mo_ild (sim_ild_n dX3_least_31 rfl) <|
  fG mo_ald (sim_ald_n dX3_least_32 rfl) <|
  fC (ic_cv (Or.inl rfl)) (sim_cv hG dX3_least_33 (hG.2.1 3 _ hc_3).2.1 M_X3_shipBanked (by rw [nm_X3_shipBanked]; rfl) (by rw [nm_X3_shipBanked]; exact q1736) (by rw [nm_X3_shipBanked]; exact q1738) (by rw [nm_X3_shipBanked]; exact qs102)) <|
  fC (ic_cs (Or.inl rfl)) (sim_cs hG dX3_least_36 M_X3_stateAt (by rw [nm_X3_stateAt]; rfl) (by rw [nm_X3_stateAt]; exact q1709) (by rw [nm_X3_stateAt]; exact q1710)) <|
  fG mo_lda (sim_iald dX3_least_39) <|
  fG mo_iflt (sim_iflt dX3_least_40 rfl) <|
  fG mo_ild (sim_ild_n dX3_least_43 rfl) <|
  fE ie_iret (sim_iret dX3_least_44 rfl (Or.inl ⟨rfl, rfl⟩))
theorem fX3_least_45 {X : tp_X} {az : Array Value} (hG : tp_Good X az) (hSt : tp_Stat X) : tp_Fit X yX3_least cX3_least (some .int) 2 tp_nm tp_by tp_ml tp_rtt 45 [o_inc 1 1, o_goto (-32) 16] :=
  fG mo_inc (sim_inc dX3_least_45 (by decide)) <|
  fG mo_goto (sim_goto dX3_least_48 rfl) <|
  trivial
theorem fX3_least_51 {X : tp_X} {az : Array Value} (hG : tp_Good X az) (hSt : tp_Stat X) : tp_Fit X yX3_least cX3_least (some .int) 2 tp_nm tp_by tp_ml tp_rtt 51 [o_int (.iconst (-1)) (-1), o_iret 0] :=
  fG mo_int (sim_iconst dX3_least_51 (by decide)) <|
  fE ie_iret (sim_iret dX3_least_52 rfl (Or.inl ⟨rfl, rfl⟩))
theorem F_X3_least {X : tp_X} {az : Array Value} (hG : tp_Good X az) (hSt : tp_Stat X) (pc : Nat) : tp_Fit X yX3_least cX3_least (some .int) 2 tp_nm tp_by tp_ml tp_rtt pc (mX3_least pc) :=
  fI (fX3_least_0 hG hSt) <| fI (fX3_least_10 hG hSt) <| fI (fX3_least_16 hG hSt) <| fI (fX3_least_45 hG hSt) <| fI (fX3_least_51 hG hSt) <| trivial
theorem fX3_order_0 {X : tp_X} {az : Array Value} (hG : tp_Good X az) (hSt : tp_Stat X) : tp_Fit X yX3_order cX3_order (some .int) 3 tp_nm tp_by tp_ml tp_rtt 0 [o_ild (.iload_n 1) 1, o_int (.iconst 0) 0, o_ald (.aload_n 0) 0, o_getf (.getfield 7) 3 3, o_int (.iconst 4) 4, o_lda .iaload [0, 20], o_int (.iconst 1) 1, o_isub, o_cs (.invokestatic 90) kX3_isIn 3 0, o_ifeq 10 23, o_ild (.iload_n 2) 2, o_cs (.invokestatic 310) kX3_isOrder 1 0, o_ifne 5 25, o_fall 23] :=
  fG mo_ild (sim_ild_n dX3_order_0 rfl) <|
  fG mo_int (sim_iconst dX3_order_1 (by decide)) <|
  fG mo_ald (sim_ald_n dX3_order_2 rfl) <|
  fG mo_getf (sim_getfG hG dX3_order_3 hc_3 (by decide) rfl in_X3 (fun _ _ _ h => h) (Or.inl q1255)) <|
  fG mo_int (sim_iconst dX3_order_6 (by decide)) <|
  fG mo_lda (sim_iald dX3_order_7) <|
  fG mo_int (sim_iconst dX3_order_8 (by decide)) <|
  fG mo_isub (sim_isub dX3_order_9) <|
  fC (ic_cs (Or.inl rfl)) (sim_cs hG dX3_order_10 M_X3_isIn (by rw [nm_X3_isIn]; rfl) (by rw [nm_X3_isIn]; exact q1400) (by rw [nm_X3_isIn]; exact q1401)) <|
  fG mo_ifeq (sim_ifeq dX3_order_13 rfl) <|
  fG mo_ild (sim_ild_n dX3_order_16 rfl) <|
  fC (ic_cs (Or.inl rfl)) (sim_cs hG dX3_order_17 M_X3_isOrder (by rw [nm_X3_isOrder]; rfl) (by rw [nm_X3_isOrder]; exact q1579) (by rw [nm_X3_isOrder]; exact q1580)) <|
  fG mo_ifne (sim_ifne dX3_order_20 rfl) <|
  fF
theorem fX3_order_23 {X : tp_X} {az : Array Value} (hG : tp_Good X az) (hSt : tp_Stat X) : tp_Fit X yX3_order cX3_order (some .int) 3 tp_nm tp_by tp_ml tp_rtt 23 [o_int (.iconst (-1)) (-1), o_iret 0] :=
  fG mo_int (sim_iconst dX3_order_23 (by decide)) <|
  fE ie_iret (sim_iret dX3_order_24 rfl (Or.inl ⟨rfl, rfl⟩))
theorem fX3_order_25 {X : tp_X} {az : Array Value} (hG : tp_Good X az) (hSt : tp_Stat X) : tp_Fit X yX3_order cX3_order (some .int) 3 tp_nm tp_by tp_ml tp_rtt 25 [o_ald (.aload_n 0) 0, o_getf (.getfield 7) 3 3, o_int (.sipush 195) 195, o_ild (.iload_n 1) 1, o_iadd, o_ild (.iload_n 2) 2, o_sta .iastore [0], o_ald (.aload_n 0) 0, o_getf (.getfield 7) 3 3, o_int (.iconst 5) 5, o_ild (.iload_n 1) 1, o_int (.iconst 1) 1, o_iadd, o_ald (.aload_n 0) 0, o_getf (.getfield 7) 3 3, o_int (.iconst 5) 5, o_lda .iaload [0, 20], o_icmple 9 59, o_ild (.iload_n 1) 1, o_int (.iconst 1) 1, o_iadd, o_goto 9 65] :=
  fG mo_ald (sim_ald_n dX3_order_25 rfl) <|
  fG mo_getf (sim_getfG hG dX3_order_26 hc_3 (by decide) rfl in_X3 (fun _ _ _ h => h) (Or.inl q1255)) <|
  fG mo_int (sim_sipush dX3_order_29 (by decide)) <|
  fG mo_ild (sim_ild_n dX3_order_32 rfl) <|
  fG mo_iadd (sim_iadd dX3_order_33) <|
  fG mo_ild (sim_ild_n dX3_order_34 rfl) <|
  fG mo_sta (sim_iast dX3_order_35) <|
  fG mo_ald (sim_ald_n dX3_order_36 rfl) <|
  fG mo_getf (sim_getfG hG dX3_order_37 hc_3 (by decide) rfl in_X3 (fun _ _ _ h => h) (Or.inl q1255)) <|
  fG mo_int (sim_iconst dX3_order_40 (by decide)) <|
  fG mo_ild (sim_ild_n dX3_order_41 rfl) <|
  fG mo_int (sim_iconst dX3_order_42 (by decide)) <|
  fG mo_iadd (sim_iadd dX3_order_43) <|
  fG mo_ald (sim_ald_n dX3_order_44 rfl) <|
  fG mo_getf (sim_getfG hG dX3_order_45 hc_3 (by decide) rfl in_X3 (fun _ _ _ h => h) (Or.inl q1255)) <|
  fG mo_int (sim_iconst dX3_order_48 (by decide)) <|
  fG mo_lda (sim_iald dX3_order_49) <|
  fG mo_icmple (sim_icmple dX3_order_50 rfl) <|
  fG mo_ild (sim_ild_n dX3_order_53 rfl) <|
  fG mo_int (sim_iconst dX3_order_54 (by decide)) <|
  fG mo_iadd (sim_iadd dX3_order_55) <|
  fG mo_goto (sim_goto dX3_order_56 rfl) <|
  trivial
theorem fX3_order_59 {X : tp_X} {az : Array Value} (hG : tp_Good X az) (hSt : tp_Stat X) : tp_Fit X yX3_order cX3_order (some .int) 3 tp_nm tp_by tp_ml tp_rtt 59 [o_ald (.aload_n 0) 0, o_getf (.getfield 7) 3 3, o_int (.iconst 5) 5, o_lda .iaload [0, 20], o_fall 65] :=
  fG mo_ald (sim_ald_n dX3_order_59 rfl) <|
  fG mo_getf (sim_getfG hG dX3_order_60 hc_3 (by decide) rfl in_X3 (fun _ _ _ h => h) (Or.inl q1255)) <|
  fG mo_int (sim_iconst dX3_order_63 (by decide)) <|
  fG mo_lda (sim_iald dX3_order_64) <|
  fF
theorem fX3_order_65 {X : tp_X} {az : Array Value} (hG : tp_Good X az) (hSt : tp_Stat X) : tp_Fit X yX3_order cX3_order (some .int) 3 tp_nm tp_by tp_ml tp_rtt 65 [o_sta .iastore [0], o_ald (.aload_n 0) 0, o_getf (.getfield 7) 3 3, o_int (.iconst 5) 5, o_lda .iaload [0, 20], o_iret 0] :=
  fG mo_sta (sim_iast dX3_order_65) <|
  fG mo_ald (sim_ald_n dX3_order_66 rfl) <|
  fG mo_getf (sim_getfG hG dX3_order_67 hc_3 (by decide) rfl in_X3 (fun _ _ _ h => h) (Or.inl q1255)) <|
  fG mo_int (sim_iconst dX3_order_70 (by decide)) <|
  fG mo_lda (sim_iald dX3_order_71) <|
  fE ie_iret (sim_iret dX3_order_72 rfl (Or.inl ⟨rfl, rfl⟩))
theorem F_X3_order {X : tp_X} {az : Array Value} (hG : tp_Good X az) (hSt : tp_Stat X) (pc : Nat) : tp_Fit X yX3_order cX3_order (some .int) 3 tp_nm tp_by tp_ml tp_rtt pc (mX3_order pc) :=
  fI (fX3_order_0 hG hSt) <| fI (fX3_order_23 hG hSt) <| fI (fX3_order_25 hG hSt) <| fI (fX3_order_59 hG hSt) <| fI (fX3_order_65 hG hSt) <| trivial
