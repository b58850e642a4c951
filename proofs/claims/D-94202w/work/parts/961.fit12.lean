/-! FITS 12 -/
set_option maxRecDepth 100000
theorem fX8_of_0 {X : tp_X} {az : Array Value} (hG : tp_Good X az) (hSt : tp_Stat X) : tp_Fit X yX8_of cX8_of (some .long) 10 tp_nm tp_by tp_ml tp_rtt 0 [o_ald (.aload_n 0) 0, o_getf (.getfield 21) 8 0, o_ald (.aload_n 1) 1, o_ci (.invokeinterface 39 2) [(8, kX8_of), (9, kX9_of), (10, kX10_of), (11, kX11_of)] 1 0, o_lst (.lstore_n 2) 2, o_int (.iconst 0) 0, o_ist (.istore 4) 4, o_fall 14] :=
  fG mo_ald (sim_ald_n dX8_of_0 rfl) <|
  fG mo_getf (sim_getfG hG dX8_of_1 hc_8 (by decide) rfl in_X8 (fun _ _ _ h => h) (Or.inl q718)) <|
  fG mo_ald (sim_ald_n dX8_of_4 rfl) <|
  fC (ic_ci (Or.inl rfl)) (sim_ci hG dX8_of_5 q961 q953 q952 (by decide +kernel) (fun q hq => by
    simp only [List.mem_cons, List.not_mem_nil, or_false] at hq
    rcases hq with rfl | rfl | rfl | rfl
    · exact ⟨_, _, _, hc_8, M_X8_of, by rw [nm_X8_of]; rfl, by rw [nm_X8_of]; exact q955, by rw [nm_X8_of]; exact q957, by rw [nm_X8_of]; exact q958, q956, q954, by rw [nm_X8_of]; rfl⟩
    · exact ⟨_, _, _, hc_9, M_X9_of, by rw [nm_X9_of]; rfl, by rw [nm_X9_of]; exact q977, by rw [nm_X9_of]; exact q979, by rw [nm_X9_of]; exact q980, q978, q976, by rw [nm_X9_of]; rfl⟩
    · exact ⟨_, _, _, hc_10, M_X10_of, by rw [nm_X10_of]; rfl, by rw [nm_X10_of]; exact q971, by rw [nm_X10_of]; exact q973, by rw [nm_X10_of]; exact q974, q972, q970, by rw [nm_X10_of]; rfl⟩
    · exact ⟨_, _, _, hc_11, M_X11_of, by rw [nm_X11_of]; rfl, by rw [nm_X11_of]; exact q963, by rw [nm_X11_of]; exact q965, by rw [nm_X11_of]; exact q966, q964, q962, by rw [nm_X11_of]; rfl⟩
    )) <|
  fG mo_lst (sim_lst_n dX8_of_10 rfl) <|
  fG mo_int (sim_iconst dX8_of_11 (by decide)) <|
  fG mo_ist (sim_ist dX8_of_12) <|
  fF
theorem fX8_of_14 {X : tp_X} {az : Array Value} (hG : tp_Good X az) (hSt : tp_Stat X) : tp_Fit X yX8_of cX8_of (some .long) 10 tp_nm tp_by tp_ml tp_rtt 14 [o_ild (.iload 4) 4, o_ald (.aload_n 0) 0, o_getf (.getfield 12) 8 1, o_cv (.invokevirtual 45) 15 kJ4_size 0 0, o_icmpge 120 143, o_ald (.aload_n 0) 0, o_getf (.getfield 12) 8 1, o_ild (.iload 4) 4, o_cv (.invokevirtual 49) 15 kJ4_get 1 0, o_cast (.checkcast 40) [8, 9, 10, 11], o_ald (.aload_n 1) 1, o_ci (.invokeinterface 39 2) [(8, kX8_of), (9, kX9_of), (10, kX10_of), (11, kX11_of)] 1 0, o_lst (.lstore 5) 5, o_ald (.aload_n 0) 0, o_getf (.getfield 18) 8 2, o_ild (.iload 4) 4, o_cv (.invokevirtual 49) 15 kJ4_get 1 0, o_cast (.checkcast 26) [16], o_cv (.invokevirtual 53) 16 kJ13_intValue 0 0, o_ist (.istore 7) 7, o_ild (.iload 7) 7, o_int (.bipush 43) 43, o_icmpne 10 77, o_lld (.lload_n 2) 2, o_lld (.lload 5) 5, o_ladd, o_goto 46 120] :=
  fG mo_ild (sim_ild dX8_of_14) <|
  fG mo_ald (sim_ald_n dX8_of_16 rfl) <|
  fG mo_getf (sim_getfG hG dX8_of_17 hc_8 (by decide) rfl in_X8 (fun _ _ _ h => h) (Or.inl q719)) <|
  fC (ic_cv (Or.inl rfl)) (sim_cv hG dX8_of_20 (hG.2.1 15 _ hc_15).2.1 M_J4_size (by rw [nm_J4_size]; rfl) (by rw [nm_J4_size]; exact q982) (by rw [nm_J4_size]; exact q835) (by rw [nm_J4_size]; exact q836)) <|
  fG mo_icmpge (sim_icmpge dX8_of_23 rfl) <|
  fG mo_ald (sim_ald_n dX8_of_26 rfl) <|
  fG mo_getf (sim_getfG hG dX8_of_27 hc_8 (by decide) rfl in_X8 (fun _ _ _ h => h) (Or.inl q719)) <|
  fG mo_ild (sim_ild dX8_of_30) <|
  fC (ic_cv (Or.inl rfl)) (sim_cv hG dX8_of_32 (hG.2.1 15 _ hc_15).2.1 M_J4_get (by rw [nm_J4_get]; rfl) (by rw [nm_J4_get]; exact q983) (by rw [nm_J4_get]; exact q839) (by rw [nm_J4_get]; exact q840)) <|
  fG mo_cast (sim_cast hG dX8_of_35 q984 (fun c hc => by
    simp only [List.mem_cons, List.not_mem_nil, or_false] at hc
    rcases hc with rfl | rfl | rfl | rfl
    · exact ⟨_, rfl, Or.inr q954⟩
    · exact ⟨_, rfl, Or.inr q976⟩
    · exact ⟨_, rfl, Or.inr q970⟩
    · exact ⟨_, rfl, Or.inr q962⟩
    )) <|
  fG mo_ald (sim_ald_n dX8_of_38 rfl) <|
  fC (ic_ci (Or.inl rfl)) (sim_ci hG dX8_of_39 q961 q953 q952 (by decide +kernel) (fun q hq => by
    simp only [List.mem_cons, List.not_mem_nil, or_false] at hq
    rcases hq with rfl | rfl | rfl | rfl
    · exact ⟨_, _, _, hc_8, M_X8_of, by rw [nm_X8_of]; rfl, by rw [nm_X8_of]; exact q955, by rw [nm_X8_of]; exact q957, by rw [nm_X8_of]; exact q958, q956, q954, by rw [nm_X8_of]; rfl⟩
    · exact ⟨_, _, _, hc_9, M_X9_of, by rw [nm_X9_of]; rfl, by rw [nm_X9_of]; exact q977, by rw [nm_X9_of]; exact q979, by rw [nm_X9_of]; exact q980, q978, q976, by rw [nm_X9_of]; rfl⟩
    · exact ⟨_, _, _, hc_10, M_X10_of, by rw [nm_X10_of]; rfl, by rw [nm_X10_of]; exact q971, by rw [nm_X10_of]; exact q973, by rw [nm_X10_of]; exact q974, q972, q970, by rw [nm_X10_of]; rfl⟩
    · exact ⟨_, _, _, hc_11, M_X11_of, by rw [nm_X11_of]; rfl, by rw [nm_X11_of]; exact q963, by rw [nm_X11_of]; exact q965, by rw [nm_X11_of]; exact q966, q964, q962, by rw [nm_X11_of]; rfl⟩
    )) <|
  fG mo_lst (sim_lst dX8_of_44) <|
  fG mo_ald (sim_ald_n dX8_of_46 rfl) <|
  fG mo_getf (sim_getfG hG dX8_of_47 hc_8 (by decide) rfl in_X8 (fun _ _ _ h => h) (Or.inl q720)) <|
  fG mo_ild (sim_ild dX8_of_50) <|
  fC (ic_cv (Or.inl rfl)) (sim_cv hG dX8_of_52 (hG.2.1 15 _ hc_15).2.1 M_J4_get (by rw [nm_J4_get]; rfl) (by rw [nm_J4_get]; exact q983) (by rw [nm_J4_get]; exact q839) (by rw [nm_J4_get]; exact q840)) <|
  fG mo_cast (sim_cast hG dX8_of_55 q985 (fun c hc => by
    simp only [List.mem_cons, List.not_mem_nil, or_false] at hc
    obtain rfl := hc
    · exact ⟨_, rfl, Or.inl rfl⟩
    )) <|
  fC (ic_cv (Or.inl rfl)) (sim_cv hG dX8_of_58 (hG.2.1 16 _ hc_16).2.1 M_J13_intValue (by rw [nm_J13_intValue]; rfl) (by rw [nm_J13_intValue]; exact q986) (by rw [nm_J13_intValue]; exact q987) (by rw [nm_J13_intValue]; exact q988)) <|
  fG mo_ist (sim_ist dX8_of_61) <|
  fG mo_ild (sim_ild dX8_of_63) <|
  fG mo_int (sim_bipush dX8_of_65 (by decide)) <|
  fG mo_icmpne (sim_icmpne dX8_of_67 rfl) <|
  fG mo_lld (sim_lld_n dX8_of_70 rfl) <|
  fG mo_lld (sim_lld dX8_of_71) <|
  fG mo_ladd (sim_ladd dX8_of_73) <|
  fG mo_goto (sim_goto dX8_of_74 rfl) <|
  trivial
theorem fX8_of_77 {X : tp_X} {az : Array Value} (hG : tp_Good X az) (hSt : tp_Stat X) : tp_Fit X yX8_of cX8_of (some .long) 10 tp_nm tp_by tp_ml tp_rtt 77 [o_ild (.iload 7) 7, o_int (.bipush 45) 45, o_icmpne 10 91, o_lld (.lload_n 2) 2, o_lld (.lload 5) 5, o_lsub, o_goto 32 120] :=
  fG mo_ild (sim_ild dX8_of_77) <|
  fG mo_int (sim_bipush dX8_of_79 (by decide)) <|
  fG mo_icmpne (sim_icmpne dX8_of_81 rfl) <|
  fG mo_lld (sim_lld_n dX8_of_84 rfl) <|
  fG mo_lld (sim_lld dX8_of_85) <|
  fG mo_lsub (sim_lsub dX8_of_87) <|
  fG mo_goto (sim_goto dX8_of_88 rfl) <|
  trivial
theorem fX8_of_91 {X : tp_X} {az : Array Value} (hG : tp_Good X az) (hSt : tp_Stat X) : tp_Fit X yX8_of cX8_of (some .long) 10 tp_nm tp_by tp_ml tp_rtt 91 [o_ild (.iload 7) 7, o_int (.bipush 42) 42, o_icmpne 10 105, o_lld (.lload_n 2) 2, o_lld (.lload 5) 5, o_lmul, o_goto 18 120] :=
  fG mo_ild (sim_ild dX8_of_91) <|
  fG mo_int (sim_bipush dX8_of_93 (by decide)) <|
  fG mo_icmpne (sim_icmpne dX8_of_95 rfl) <|
  fG mo_lld (sim_lld_n dX8_of_98 rfl) <|
  fG mo_lld (sim_lld dX8_of_99) <|
  fG mo_lmul (sim_lmul dX8_of_101) <|
  fG mo_goto (sim_goto dX8_of_102 rfl) <|
  trivial
theorem fX8_of_105 {X : tp_X} {az : Array Value} (hG : tp_Good X az) (hSt : tp_Stat X) : tp_Fit X yX8_of cX8_of (some .long) 10 tp_nm tp_by tp_ml tp_rtt 105 [o_lld (.lload 5) 5, o_lng (.lconst 0) 0, o_lcmp, o_ifne 7 116, o_lng (.lconst 0) 0, o_goto 7 120] :=
  fG mo_lld (sim_lld dX8_of_105) <|
  fG mo_lng (sim_lconst0 dX8_of_107) <|
  fG mo_lcmp (sim_lcmp dX8_of_108) <|
  fG mo_ifne (sim_ifne dX8_of_109 rfl) <|
  fG mo_lng (sim_lconst0 dX8_of_112) <|
  fG mo_goto (sim_goto dX8_of_113 rfl) <|
  trivial
theorem fX8_of_116 {X : tp_X} {az : Array Value} (hG : tp_Good X az) (hSt : tp_Stat X) : tp_Fit X yX8_of cX8_of (some .long) 10 tp_nm tp_by tp_ml tp_rtt 116 [o_lld (.lload_n 2) 2, o_lld (.lload 5) 5, o_ldiv, o_fall 120] :=
  fG mo_lld (sim_lld_n dX8_of_116 rfl) <|
  fG mo_lld (sim_lld dX8_of_117) <|
  fG mo_ldiv (sim_ldiv dX8_of_119) <|
  fF
theorem fX8_of_120 {X : tp_X} {az : Array Value} (hG : tp_Good X az) (hSt : tp_Stat X) : tp_Fit X yX8_of cX8_of (some .long) 10 tp_nm tp_by tp_ml tp_rtt 120 [o_lst (.lstore 8) 8, o_lng (.ldc2_w 56) (-1000000), o_lng (.ldc2_w 58) 1000000, o_lld (.lload 8) 8, o_lmin (.invokestatic 60), o_lmax (.invokestatic 66), o_lst (.lstore_n 2) 2, o_inc 4 1, o_goto (-126) 14] :=
  fG mo_lst (sim_lst dX8_of_120) <|
  fG mo_lng (sim_ldc2 hG dX8_of_122 q990 rfl) <|
  fG mo_lng (sim_ldc2 hG dX8_of_125 q991 rfl) <|
  fG mo_lld (sim_lld dX8_of_128) <|
  fG mo_lmin (sim_lmin hG dX8_of_130 q992 q993 q128 q994) <|
  fG mo_lmax (sim_lmax hG dX8_of_133 q995 q996 q128 q997) <|
  fG mo_lst (sim_lst_n dX8_of_136 rfl) <|
  fG mo_inc (sim_inc dX8_of_137 (by decide)) <|
  fG mo_goto (sim_goto dX8_of_140 rfl) <|
  trivial
theorem fX8_of_143 {X : tp_X} {az : Array Value} (hG : tp_Good X az) (hSt : tp_Stat X) : tp_Fit X yX8_of cX8_of (some .long) 10 tp_nm tp_by tp_ml tp_rtt 143 [o_lld (.lload_n 2) 2, o_lret] :=
  fG mo_lld (sim_lld_n dX8_of_143 rfl) <|
  fE ie_lret (sim_lret dX8_of_144 rfl)
theorem F_X8_of {X : tp_X} {az : Array Value} (hG : tp_Good X az) (hSt : tp_Stat X) (pc : Nat) : tp_Fit X yX8_of cX8_of (some .long) 10 tp_nm tp_by tp_ml tp_rtt pc (mX8_of pc) :=
  fI (fX8_of_0 hG hSt) <| fI (fX8_of_14 hG hSt) <| fI (fX8_of_77 hG hSt) <| fI (fX8_of_91 hG hSt) <| fI (fX8_of_105 hG hSt) <| fI (fX8_of_116 hG hSt) <| fI (fX8_of_120 hG hSt) <| fI (fX8_of_143 hG hSt) <| trivial
theorem fX9_init_0 {X : tp_X} {az : Array Value} (hG : tp_Good X az) (hSt : tp_Stat X) : tp_Fit X yX9_init cX9_init none 2 tp_nm tp_by tp_ml tp_rtt 0 [o_ald (.aload_n 0) 0, o_cp (.invokespecial 1) kJ11_init 0 0, o_ald (.aload_n 0) 0, o_ild (.iload_n 1) 1, o_putf (.putfield 7) 9 0 0, o_vret] :=
  fG mo_ald (sim_ald_n dX9_init_0 rfl) <|
  fC (ic_cp (Or.inl rfl)) (sim_cp hG dX9_init_1 M_J11_init (by rw [nm_J11_init]; rfl) rt_J11_init (by rw [nm_J11_init]; rfl) (by rw [nm_J11_init]; exact q683) (by rw [nm_J11_init]; exact q653)) <|
  fG mo_ald (sim_ald_n dX9_init_4 rfl) <|
  fG mo_ild (sim_ild_n dX9_init_5 rfl) <|
  fG mo_putf (sim_putfF hG dX9_init_6 hc_9 (by decide) rfl (by decide) in_X9 tyX9_ok nmX9 (Or.inl ⟨rfl, rfl⟩) (fun _ _ _ h => h) rfl rfl rfl q684) <|
  fE ie_vret (sim_vret dX9_init_9 rfl)
theorem F_X9_init {X : tp_X} {az : Array Value} (hG : tp_Good X az) (hSt : tp_Stat X) (pc : Nat) : tp_Fit X yX9_init cX9_init none 2 tp_nm tp_by tp_ml tp_rtt pc (mX9_init pc) :=
  fI (fX9_init_0 hG hSt) <| trivial
theorem fX9_of_0 {X : tp_X} {az : Array Value} (hG : tp_Good X az) (hSt : tp_Stat X) : tp_Fit X yX9_of cX9_of (some .long) 2 tp_nm tp_by tp_ml tp_rtt 0 [o_ald (.aload_n 0) 0, o_getf (.getfield 7) 9 0, o_i2l, o_lret] :=
  fG mo_ald (sim_ald_n dX9_of_0 rfl) <|
  fG mo_getf (sim_getfG hG dX9_of_1 hc_9 (by decide) rfl in_X9 (fun _ _ _ h => h) (Or.inl q684)) <|
  fG mo_i2l (sim_i2l dX9_of_4) <|
  fE ie_lret (sim_lret dX9_of_5 rfl)
theorem F_X9_of {X : tp_X} {az : Array Value} (hG : tp_Good X az) (hSt : tp_Stat X) (pc : Nat) : tp_Fit X yX9_of cX9_of (some .long) 2 tp_nm tp_by tp_ml tp_rtt pc (mX9_of pc) :=
  fI (fX9_of_0 hG hSt) <| trivial
