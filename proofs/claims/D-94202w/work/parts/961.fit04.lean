/-! FITS 4 -/
set_option maxRecDepth 100000
theorem fX1_prior_0 {X : tp_X} {az : Array Value} (hG : tp_Good X az) (hSt : tp_Stat X) : tp_Fit X yX1_prior cX1_prior (some .boolean) 3 tp_nm tp_by tp_ml tp_rtt 0 [o_ild (.iload_n 1) 1, o_cs (.invokestatic 337) kX1_isClass 1 0, o_ifeq 13 17, o_ild (.iload_n 2) 2, o_int (.iconst 0) 0, o_int (.bipush 9) 9, o_cs (.invokestatic 94) kX1_in 3 0, o_ifne 5 19, o_fall 17] :=
  fG mo_ild (sim_ild_n dX1_prior_0 rfl) <|
  fC (ic_cs (Or.inl rfl)) (sim_cs hG dX1_prior_1 M_X1_isClass (by rw [nm_X1_isClass]; rfl) (by rw [nm_X1_isClass]; exact q1177) (by rw [nm_X1_isClass]; exact q1178)) <|
  fG mo_ifeq (sim_ifeq dX1_prior_4 rfl) <|
  fG mo_ild (sim_ild_n dX1_prior_7 rfl) <|
  fG mo_int (sim_iconst dX1_prior_8 (by decide)) <|
  fG mo_int (sim_bipush dX1_prior_9 (by decide)) <|
  fC (ic_cs (Or.inl rfl)) (sim_cs hG dX1_prior_11 M_X1_in (by rw [nm_X1_in]; rfl) (by rw [nm_X1_in]; exact q335) (by rw [nm_X1_in]; exact q336)) <|
  fG mo_ifne (sim_ifne dX1_prior_14 rfl) <|
  fF
theorem fX1_prior_17 {X : tp_X} {az : Array Value} (hG : tp_Good X az) (hSt : tp_Stat X) : tp_Fit X yX1_prior cX1_prior (some .boolean) 3 tp_nm tp_by tp_ml tp_rtt 17 [o_int (.iconst 0) 0, o_iret 1] :=
  fG mo_int (sim_iconst dX1_prior_17 (by decide)) <|
  fE ie_iret (sim_iret dX1_prior_18 rfl (Or.inr (Or.inl ⟨rfl, rfl⟩)))
theorem fX1_prior_19 {X : tp_X} {az : Array Value} (hG : tp_Good X az) (hSt : tp_Stat X) : tp_Fit X yX1_prior cX1_prior (some .boolean) 3 tp_nm tp_by tp_ml tp_rtt 19 [o_ald (.aload_n 0) 0, o_getf (.getfield 12) 1 0, o_getf (.getfield 340) 2 5, o_ild (.iload_n 1) 1, o_ild (.iload_n 2) 2, o_sta .iastore [0], o_int (.iconst 1) 1, o_iret 1] :=
  fG mo_ald (sim_ald_n dX1_prior_19 rfl) <|
  fG mo_getf (sim_getfG hG dX1_prior_20 hc_1 (by decide) rfl in_X1 (fun _ _ _ h => h) (Or.inl q256)) <|
  fG mo_getf (sim_getfG hG dX1_prior_23 hc_2 (by decide) rfl in_X2 (fun _ _ _ h => h) (Or.inr ⟨_, q189⟩)) <|
  fG mo_ild (sim_ild_n dX1_prior_26 rfl) <|
  fG mo_ild (sim_ild_n dX1_prior_27 rfl) <|
  fG mo_sta (sim_iast dX1_prior_28) <|
  fG mo_int (sim_iconst dX1_prior_29 (by decide)) <|
  fE ie_iret (sim_iret dX1_prior_30 rfl (Or.inr (Or.inl ⟨rfl, rfl⟩)))
theorem F_X1_prior {X : tp_X} {az : Array Value} (hG : tp_Good X az) (hSt : tp_Stat X) (pc : Nat) : tp_Fit X yX1_prior cX1_prior (some .boolean) 3 tp_nm tp_by tp_ml tp_rtt pc (mX1_prior pc) :=
  fI (fX1_prior_0 hG hSt) <| fI (fX1_prior_17 hG hSt) <| fI (fX1_prior_19 hG hSt) <| trivial
theorem fX1_isClass_0 {X : tp_X} {az : Array Value} (hG : tp_Good X az) (hSt : tp_Stat X) : tp_Fit X yX1_isClass cX1_isClass (some .boolean) 1 tp_nm tp_by tp_ml tp_rtt 0 [o_ild (.iload_n 0) 0, o_int (.iconst 0) 0, o_int (.iconst 5) 5, o_cs (.invokestatic 94) kX1_in 3 0, o_iret 1] :=
  fG mo_ild (sim_ild_n dX1_isClass_0 rfl) <|
  fG mo_int (sim_iconst dX1_isClass_1 (by decide)) <|
  fG mo_int (sim_iconst dX1_isClass_2 (by decide)) <|
  fC (ic_cs (Or.inl rfl)) (sim_cs hG dX1_isClass_3 M_X1_in (by rw [nm_X1_in]; rfl) (by rw [nm_X1_in]; exact q335) (by rw [nm_X1_in]; exact q336)) <|
  fE ie_iret (sim_iret dX1_isClass_6 rfl (Or.inr (Or.inl ⟨rfl, rfl⟩)))
theorem F_X1_isClass {X : tp_X} {az : Array Value} (hG : tp_Good X az) (hSt : tp_Stat X) (pc : Nat) : tp_Fit X yX1_isClass cX1_isClass (some .boolean) 1 tp_nm tp_by tp_ml tp_rtt pc (mX1_isClass pc) :=
  fI (fX1_isClass_0 hG hSt) <| trivial
theorem fX1_look_0 {X : tp_X} {az : Array Value} (hG : tp_Good X az) (hSt : tp_Stat X) : tp_Fit X yX1_look cX1_look (some .int) 3 tp_nm tp_by tp_ml tp_rtt 0 [o_ald (.aload_n 0) 0, o_ild (.iload_n 1) 1, o_cv (.invokevirtual 98) 1 kX1_isCell 1 0, o_ifeq 25 30, o_ild (.iload_n 2) 2, o_cs (.invokestatic 337) kX1_isClass 1 0, o_ifeq 18 30, o_ald (.aload_n 0) 0, o_getf (.getfield 12) 1 0, o_getf (.getfield 112) 2 0, o_int (.bipush 7) 7, o_lda .iaload [0, 20], o_int (.bipush 30) 30, o_icmpne 5 32, o_fall 30] :=
  fG mo_ald (sim_ald_n dX1_look_0 rfl) <|
  fG mo_ild (sim_ild_n dX1_look_1 rfl) <|
  fC (ic_cv (Or.inl rfl)) (sim_cv hG dX1_look_2 (hG.2.1 1 _ hc_1).2.1 M_X1_isCell (by rw [nm_X1_isCell]; rfl) (by rw [nm_X1_isCell]; exact q331) (by rw [nm_X1_isCell]; exact q333) (by rw [nm_X1_isCell]; exact qs0)) <|
  fG mo_ifeq (sim_ifeq dX1_look_5 rfl) <|
  fG mo_ild (sim_ild_n dX1_look_8 rfl) <|
  fC (ic_cs (Or.inl rfl)) (sim_cs hG dX1_look_9 M_X1_isClass (by rw [nm_X1_isClass]; rfl) (by rw [nm_X1_isClass]; exact q1177) (by rw [nm_X1_isClass]; exact q1178)) <|
  fG mo_ifeq (sim_ifeq dX1_look_12 rfl) <|
  fG mo_ald (sim_ald_n dX1_look_15 rfl) <|
  fG mo_getf (sim_getfG hG dX1_look_16 hc_1 (by decide) rfl in_X1 (fun _ _ _ h => h) (Or.inl q256)) <|
  fG mo_getf (sim_getfG hG dX1_look_19 hc_2 (by decide) rfl in_X2 (fun _ _ _ h => h) (Or.inr ⟨_, q179⟩)) <|
  fG mo_int (sim_bipush dX1_look_22 (by decide)) <|
  fG mo_lda (sim_iald dX1_look_24) <|
  fG mo_int (sim_bipush dX1_look_25 (by decide)) <|
  fG mo_icmpne (sim_icmpne dX1_look_27 rfl) <|
  fF
theorem fX1_look_30 {X : tp_X} {az : Array Value} (hG : tp_Good X az) (hSt : tp_Stat X) : tp_Fit X yX1_look cX1_look (some .int) 3 tp_nm tp_by tp_ml tp_rtt 30 [o_int (.iconst (-1)) (-1), o_iret 0] :=
  fG mo_int (sim_iconst dX1_look_30 (by decide)) <|
  fE ie_iret (sim_iret dX1_look_31 rfl (Or.inl ⟨rfl, rfl⟩))
theorem fX1_look_32 {X : tp_X} {az : Array Value} (hG : tp_Good X az) (hSt : tp_Stat X) : tp_Fit X yX1_look cX1_look (some .int) 3 tp_nm tp_by tp_ml tp_rtt 32 [o_ald (.aload_n 0) 0, o_getf (.getfield 12) 1 0, o_getf (.getfield 251) 2 11, o_ald (.aload_n 0) 0, o_getf (.getfield 12) 1 0, o_getf (.getfield 112) 2 0, o_int (.bipush 7) 7, o_lda .iaload [0, 20], o_lda .aaload [4, 5, 6, 7, 28, 29], o_int (.iconst 0) 0, o_ild (.iload_n 1) 1, o_sta .iastore [0], o_ald (.aload_n 0) 0, o_getf (.getfield 12) 1 0, o_getf (.getfield 251) 2 11, o_ald (.aload_n 0) 0, o_getf (.getfield 12) 1 0, o_getf (.getfield 112) 2 0, o_int (.bipush 7) 7, o_lda .iaload [0, 20], o_lda .aaload [4, 5, 6, 7, 28, 29], o_int (.iconst 1) 1, o_ild (.iload_n 2) 2, o_sta .iastore [0], o_ald (.aload_n 0) 0, o_getf (.getfield 12) 1 0, o_getf (.getfield 112) 2 0, o_int (.bipush 7) 7, o_dup2, o_lda .iaload [0, 20], o_int (.iconst 1) 1, o_iadd, o_sta .iastore [0], o_ald (.aload_n 0) 0, o_getf (.getfield 12) 1 0, o_getf (.getfield 112) 2 0, o_int (.bipush 7) 7, o_lda .iaload [0, 20], o_iret 0] :=
  fG mo_ald (sim_ald_n dX1_look_32 rfl) <|
  fG mo_getf (sim_getfG hG dX1_look_33 hc_1 (by decide) rfl in_X1 (fun _ _ _ h => h) (Or.inl q256)) <|
  fG mo_getf (sim_getfG hG dX1_look_36 hc_2 (by decide) rfl in_X2 (fun _ _ _ h => h) (Or.inr ⟨_, q201⟩)) <|
  fG mo_ald (sim_ald_n dX1_look_39 rfl) <|
  fG mo_getf (sim_getfG hG dX1_look_40 hc_1 (by decide) rfl in_X1 (fun _ _ _ h => h) (Or.inl q256)) <|
  fG mo_getf (sim_getfG hG dX1_look_43 hc_2 (by decide) rfl in_X2 (fun _ _ _ h => h) (Or.inr ⟨_, q179⟩)) <|
  fG mo_int (sim_bipush dX1_look_46 (by decide)) <|
  fG mo_lda (sim_iald dX1_look_48) <|
  fG mo_lda (sim_aald dX1_look_49) <|
  fG mo_int (sim_iconst dX1_look_50 (by decide)) <|
  fG mo_ild (sim_ild_n dX1_look_51 rfl) <|
  fG mo_sta (sim_iast dX1_look_52) <|
  fG mo_ald (sim_ald_n dX1_look_53 rfl) <|
  fG mo_getf (sim_getfG hG dX1_look_54 hc_1 (by decide) rfl in_X1 (fun _ _ _ h => h) (Or.inl q256)) <|
  fG mo_getf (sim_getfG hG dX1_look_57 hc_2 (by decide) rfl in_X2 (fun _ _ _ h => h) (Or.inr ⟨_, q201⟩)) <|
  fG mo_ald (sim_ald_n dX1_look_60 rfl) <|
  fG mo_getf (sim_getfG hG dX1_look_61 hc_1 (by decide) rfl in_X1 (fun _ _ _ h => h) (Or.inl q256)) <|
  fG mo_getf (sim_getfG hG dX1_look_64 hc_2 (by decide) rfl in_X2 (fun _ _ _ h => h) (Or.inr ⟨_, q179⟩)) <|
  fG mo_int (sim_bipush dX1_look_67 (by decide)) <|
  fG mo_lda (sim_iald dX1_look_69) <|
  fG mo_lda (sim_aald dX1_look_70) <|
  fG mo_int (sim_iconst dX1_look_71 (by decide)) <|
  fG mo_ild (sim_ild_n dX1_look_72 rfl) <|
  fG mo_sta (sim_iast dX1_look_73) <|
  fG mo_ald (sim_ald_n dX1_look_74 rfl) <|
  fG mo_getf (sim_getfG hG dX1_look_75 hc_1 (by decide) rfl in_X1 (fun _ _ _ h => h) (Or.inl q256)) <|
  fG mo_getf (sim_getfG hG dX1_look_78 hc_2 (by decide) rfl in_X2 (fun _ _ _ h => h) (Or.inr ⟨_, q179⟩)) <|
  fG mo_int (sim_bipush dX1_look_81 (by decide)) <|
  fG mo_dup2 (sim_dup2 dX1_look_83) <|
  fG mo_lda (sim_iald dX1_look_84) <|
  fG mo_int (sim_iconst dX1_look_85 (by decide)) <|
  fG mo_iadd (sim_iadd dX1_look_86) <|
  fG mo_sta (sim_iast dX1_look_87) <|
  fG mo_ald (sim_ald_n dX1_look_88 rfl) <|
  fG mo_getf (sim_getfG hG dX1_look_89 hc_1 (by decide) rfl in_X1 (fun _ _ _ h => h) (Or.inl q256)) <|
  fG mo_getf (sim_getfG hG dX1_look_92 hc_2 (by decide) rfl in_X2 (fun _ _ _ h => h) (Or.inr ⟨_, q179⟩)) <|
  fG mo_int (sim_bipush dX1_look_95 (by decide)) <|
  fG mo_lda (sim_iald dX1_look_97) <|
  fE ie_iret (sim_iret dX1_look_98 rfl (Or.inl ⟨rfl, rfl⟩))
theorem F_X1_look {X : tp_X} {az : Array Value} (hG : tp_Good X az) (hSt : tp_Stat X) (pc : Nat) : tp_Fit X yX1_look cX1_look (some .int) 3 tp_nm tp_by tp_ml tp_rtt pc (mX1_look pc) :=
  fI (fX1_look_0 hG hSt) <| fI (fX1_look_30 hG hSt) <| fI (fX1_look_32 hG hSt) <| trivial
theorem fX1_think_0 {X : tp_X} {az : Array Value} (hG : tp_Good X az) (hSt : tp_Stat X) : tp_Fit X yX1_think cX1_think (some .int) 8 tp_nm tp_by tp_ml tp_rtt 0 [o_ald (.aload_n 0) 0, o_ild (.iload_n 1) 1, o_cv (.invokevirtual 98) 1 kX1_isCell 1 0, o_ifeq 15 20, o_ild (.iload_n 2) 2, o_int (.iconst (-1)) (-1), o_icmpeq 12 22, o_ild (.iload_n 2) 2, o_cs (.invokestatic 337) kX1_isClass 1 0, o_ifne 5 22, o_fall 20] :=
  fG mo_ald (sim_ald_n dX1_think_0 rfl) <|
  fG mo_ild (sim_ild_n dX1_think_1 rfl) <|
  fC (ic_cv (Or.inl rfl)) (sim_cv hG dX1_think_2 (hG.2.1 1 _ hc_1).2.1 M_X1_isCell (by rw [nm_X1_isCell]; rfl) (by rw [nm_X1_isCell]; exact q331) (by rw [nm_X1_isCell]; exact q333) (by rw [nm_X1_isCell]; exact qs0)) <|
  fG mo_ifeq (sim_ifeq dX1_think_5 rfl) <|
  fG mo_ild (sim_ild_n dX1_think_8 rfl) <|
  fG mo_int (sim_iconst dX1_think_9 (by decide)) <|
  fG mo_icmpeq (sim_icmpeq dX1_think_10 rfl) <|
  fG mo_ild (sim_ild_n dX1_think_13 rfl) <|
  fC (ic_cs (Or.inl rfl)) (sim_cs hG dX1_think_14 M_X1_isClass (by rw [nm_X1_isClass]; rfl) (by rw [nm_X1_isClass]; exact q1177) (by rw [nm_X1_isClass]; exact q1178)) <|
  fG mo_ifne (sim_ifne dX1_think_17 rfl) <|
  fF
theorem fX1_think_20 {X : tp_X} {az : Array Value} (hG : tp_Good X az) (hSt : tp_Stat X) : tp_Fit X yX1_think cX1_think (some .int) 8 tp_nm tp_by tp_ml tp_rtt 20 [o_int (.iconst (-1)) (-1), o_iret 0] :=
  fG mo_int (sim_iconst dX1_think_20 (by decide)) <|
  fE ie_iret (sim_iret dX1_think_21 rfl (Or.inl ⟨rfl, rfl⟩))
theorem fX1_think_22 {X : tp_X} {az : Array Value} (hG : tp_Good X az) (hSt : tp_Stat X) : tp_Fit X yX1_think cX1_think (some .int) 8 tp_nm tp_by tp_ml tp_rtt 22 [o_int (.bipush 6) 6, o_newa (.newarray .long) 3, o_ast (.astore_n 3) 3, o_int (.iconst 0) 0, o_ist (.istore 4) 4, o_fall 30] :=
  fG mo_int (sim_bipush dX1_think_22 (by decide)) <|
  fG mo_newa (sim_newa hG dX1_think_24 q1193 ⟨rfl, by decide⟩) <|
  fG mo_ast (sim_ast_n dX1_think_26 rfl) <|
  fG mo_int (sim_iconst dX1_think_27 (by decide)) <|
  fG mo_ist (sim_ist dX1_think_28) <|
  fF
theorem fX1_think_30 {X : tp_X} {az : Array Value} (hG : tp_Good X az) (hSt : tp_Stat X) : tp_Fit X yX1_think cX1_think (some .int) 8 tp_nm tp_by tp_ml tp_rtt 30 [o_ild (.iload 4) 4, o_int (.bipush 6) 6, o_icmpge 24 58, o_ald (.aload_n 3) 3, o_ild (.iload 4) 4, o_ald (.aload_n 0) 0, o_getf (.getfield 12) 1 0, o_getf (.getfield 340) 2 5, o_ild (.iload 4) 4, o_lda .iaload [0, 20], o_i2l, o_sta .lastore [3], o_inc 4 1, o_goto (-25) 30] :=
  fG mo_ild (sim_ild dX1_think_30) <|
  fG mo_int (sim_bipush dX1_think_32 (by decide)) <|
  fG mo_icmpge (sim_icmpge dX1_think_34 rfl) <|
  fG mo_ald (sim_ald_n dX1_think_37 rfl) <|
  fG mo_ild (sim_ild dX1_think_38) <|
  fG mo_ald (sim_ald_n dX1_think_40 rfl) <|
  fG mo_getf (sim_getfG hG dX1_think_41 hc_1 (by decide) rfl in_X1 (fun _ _ _ h => h) (Or.inl q256)) <|
  fG mo_getf (sim_getfG hG dX1_think_44 hc_2 (by decide) rfl in_X2 (fun _ _ _ h => h) (Or.inr ⟨_, q189⟩)) <|
  fG mo_ild (sim_ild dX1_think_47) <|
  fG mo_lda (sim_iald dX1_think_49) <|
  fG mo_i2l (sim_i2l dX1_think_50) <|
  fG mo_sta (sim_last dX1_think_51) <|
  fG mo_inc (sim_inc dX1_think_52 (by decide)) <|
  fG mo_goto (sim_goto dX1_think_55 rfl) <|
  trivial
theorem fX1_think_58 {X : tp_X} {az : Array Value} (hG : tp_Good X az) (hSt : tp_Stat X) : tp_Fit X yX1_think cX1_think (some .int) 8 tp_nm tp_by tp_ml tp_rtt 58 [o_int (.iconst 0) 0, o_ist (.istore 4) 4, o_ald (.aload_n 0) 0, o_getf (.getfield 12) 1 0, o_getf (.getfield 112) 2 0, o_int (.bipush 7) 7, o_lda .iaload [0, 20], o_int (.iconst 1) 1, o_isub, o_ist (.istore 5) 5, o_fall 75] :=
  fG mo_int (sim_iconst dX1_think_58 (by decide)) <|
  fG mo_ist (sim_ist dX1_think_59) <|
  fG mo_ald (sim_ald_n dX1_think_61 rfl) <|
  fG mo_getf (sim_getfG hG dX1_think_62 hc_1 (by decide) rfl in_X1 (fun _ _ _ h => h) (Or.inl q256)) <|
  fG mo_getf (sim_getfG hG dX1_think_65 hc_2 (by decide) rfl in_X2 (fun _ _ _ h => h) (Or.inr ⟨_, q179⟩)) <|
  fG mo_int (sim_bipush dX1_think_68 (by decide)) <|
  fG mo_lda (sim_iald dX1_think_70) <|
  fG mo_int (sim_iconst dX1_think_71 (by decide)) <|
  fG mo_isub (sim_isub dX1_think_72) <|
  fG mo_ist (sim_ist dX1_think_73) <|
  fF
theorem fX1_think_75 {X : tp_X} {az : Array Value} (hG : tp_Good X az) (hSt : tp_Stat X) : tp_Fit X yX1_think cX1_think (some .int) 8 tp_nm tp_by tp_ml tp_rtt 75 [o_ild (.iload 5) 5, o_iflt 103 180, o_ald (.aload_n 0) 0, o_getf (.getfield 12) 1 0, o_getf (.getfield 251) 2 11, o_ild (.iload 5) 5, o_lda .aaload [4, 5, 6, 7, 28, 29], o_int (.iconst 0) 0, o_lda .iaload [0, 20], o_ild (.iload_n 1) 1, o_icmpeq 6 99, o_goto 78 174] :=
  fG mo_ild (sim_ild dX1_think_75) <|
  fG mo_iflt (sim_iflt dX1_think_77 rfl) <|
  fG mo_ald (sim_ald_n dX1_think_80 rfl) <|
  fG mo_getf (sim_getfG hG dX1_think_81 hc_1 (by decide) rfl in_X1 (fun _ _ _ h => h) (Or.inl q256)) <|
  fG mo_getf (sim_getfG hG dX1_think_84 hc_2 (by decide) rfl in_X2 (fun _ _ _ h => h) (Or.inr ⟨_, q201⟩)) <|
  fG mo_ild (sim_ild dX1_think_87) <|
  fG mo_lda (sim_aald dX1_think_89) <|
  fG mo_int (sim_iconst dX1_think_90 (by decide)) <|
  fG mo_lda (sim_iald dX1_think_91) <|
  fG mo_ild (sim_ild_n dX1_think_92 rfl) <|
  fG mo_icmpeq (sim_icmpeq dX1_think_93 rfl) <|
  fG mo_goto (sim_goto dX1_think_96 rfl) <|
  trivial
theorem fX1_think_99 {X : tp_X} {az : Array Value} (hG : tp_Good X az) (hSt : tp_Stat X) : tp_Fit X yX1_think cX1_think (some .int) 8 tp_nm tp_by tp_ml tp_rtt 99 [o_inc 4 1, o_int (.iconst 0) 0, o_ist (.istore 6) 6, o_fall 105] :=
  fG mo_inc (sim_inc dX1_think_99 (by decide)) <|
  fG mo_int (sim_iconst dX1_think_102 (by decide)) <|
  fG mo_ist (sim_ist dX1_think_103) <|
  fF
theorem fX1_think_105 {X : tp_X} {az : Array Value} (hG : tp_Good X az) (hSt : tp_Stat X) : tp_Fit X yX1_think cX1_think (some .int) 8 tp_nm tp_by tp_ml tp_rtt 105 [o_ild (.iload 6) 6, o_int (.bipush 6) 6, o_icmpge 65 174, o_ild (.iload 4) 4, o_int (.bipush 12) 12, o_icmpgt 58 174, o_ild (.iload 6) 6, o_ald (.aload_n 0) 0, o_getf (.getfield 12) 1 0, o_getf (.getfield 251) 2 11, o_ild (.iload 5) 5, o_lda .aaload [4, 5, 6, 7, 28, 29], o_int (.iconst 1) 1, o_lda .iaload [0, 20], o_isub, o_mabs (.invokestatic 343), o_ist (.istore 7) 7, o_ald (.aload_n 3) 3, o_ild (.iload 6) 6, o_dup2, o_lda .laload [3], o_ild (.iload 7) 7, o_ifne 9 155, o_lng (.ldc2_w 346) 8, o_goto 14 166] :=
  fG mo_ild (sim_ild dX1_think_105) <|
  fG mo_int (sim_bipush dX1_think_107 (by decide)) <|
  fG mo_icmpge (sim_icmpge dX1_think_109 rfl) <|
  fG mo_ild (sim_ild dX1_think_112) <|
  fG mo_int (sim_bipush dX1_think_114 (by decide)) <|
  fG mo_icmpgt (sim_icmpgt dX1_think_116 rfl) <|
  fG mo_ild (sim_ild dX1_think_119) <|
  fG mo_ald (sim_ald_n dX1_think_121 rfl) <|
  fG mo_getf (sim_getfG hG dX1_think_122 hc_1 (by decide) rfl in_X1 (fun _ _ _ h => h) (Or.inl q256)) <|
  fG mo_getf (sim_getfG hG dX1_think_125 hc_2 (by decide) rfl in_X2 (fun _ _ _ h => h) (Or.inr ⟨_, q201⟩)) <|
  fG mo_ild (sim_ild dX1_think_128) <|
  fG mo_lda (sim_aald dX1_think_130) <|
  fG mo_int (sim_iconst dX1_think_131 (by decide)) <|
  fG mo_lda (sim_iald dX1_think_132) <|
  fG mo_isub (sim_isub dX1_think_133) <|
  fG mo_mabs (sim_mabs hG dX1_think_134 q1188 q1189 q128 q1190) <|
  fG mo_ist (sim_ist dX1_think_137) <|
  fG mo_ald (sim_ald_n dX1_think_139 rfl) <|
  fG mo_ild (sim_ild dX1_think_140) <|
  fG mo_dup2 (sim_dup2 dX1_think_142) <|
  fG mo_lda (sim_lald dX1_think_143) <|
  fG mo_ild (sim_ild dX1_think_144) <|
  fG mo_ifne (sim_ifne dX1_think_146 rfl) <|
  fG mo_lng (sim_ldc2 hG dX1_think_149 q1191 rfl) <|
  fG mo_goto (sim_goto dX1_think_152 rfl) <|
  trivial
theorem fX1_think_155 {X : tp_X} {az : Array Value} (hG : tp_Good X az) (hSt : tp_Stat X) : tp_Fit X yX1_think cX1_think (some .int) 8 tp_nm tp_by tp_ml tp_rtt 155 [o_ild (.iload 7) 7, o_int (.iconst 1) 1, o_icmpne 7 165, o_lng (.lconst 1) 1, o_goto 4 166] :=
  fG mo_ild (sim_ild dX1_think_155) <|
  fG mo_int (sim_iconst dX1_think_157 (by decide)) <|
  fG mo_icmpne (sim_icmpne dX1_think_158 rfl) <|
  fG mo_lng (sim_lconst1 dX1_think_161) <|
  fG mo_goto (sim_goto dX1_think_162 rfl) <|
  trivial
theorem fX1_think_165 {X : tp_X} {az : Array Value} (hG : tp_Good X az) (hSt : tp_Stat X) : tp_Fit X yX1_think cX1_think (some .int) 8 tp_nm tp_by tp_ml tp_rtt 165 [o_lng (.lconst 0) 0, o_fall 166] :=
  fG mo_lng (sim_lconst0 dX1_think_165) <|
  fF
theorem fX1_think_166 {X : tp_X} {az : Array Value} (hG : tp_Good X az) (hSt : tp_Stat X) : tp_Fit X yX1_think cX1_think (some .int) 8 tp_nm tp_by tp_ml tp_rtt 166 [o_lmul, o_sta .lastore [3], o_inc 6 1, o_goto (-66) 105] :=
  fG mo_lmul (sim_lmul dX1_think_166) <|
  fG mo_sta (sim_last dX1_think_167) <|
  fG mo_inc (sim_inc dX1_think_168 (by decide)) <|
  fG mo_goto (sim_goto dX1_think_171 rfl) <|
  trivial
theorem fX1_think_174 {X : tp_X} {az : Array Value} (hG : tp_Good X az) (hSt : tp_Stat X) : tp_Fit X yX1_think cX1_think (some .int) 8 tp_nm tp_by tp_ml tp_rtt 174 [o_inc 5 (-1), o_goto (-102) 75] :=
  fG mo_inc (sim_inc dX1_think_174 (by decide)) <|
  fG mo_goto (sim_goto dX1_think_177 rfl) <|
  trivial
theorem fX1_think_180 {X : tp_X} {az : Array Value} (hG : tp_Good X az) (hSt : tp_Stat X) : tp_Fit X yX1_think cX1_think (some .int) 8 tp_nm tp_by tp_ml tp_rtt 180 [o_ild (.iload_n 2) 2, o_int (.iconst (-1)) (-1), o_icmpne 6 188, o_ild (.iload 4) 4, o_iret 0] :=
  fG mo_ild (sim_ild_n dX1_think_180 rfl) <|
  fG mo_int (sim_iconst dX1_think_181 (by decide)) <|
  fG mo_icmpne (sim_icmpne dX1_think_182 rfl) <|
  fG mo_ild (sim_ild dX1_think_185) <|
  fE ie_iret (sim_iret dX1_think_187 rfl (Or.inl ⟨rfl, rfl⟩))
theorem fX1_think_188 {X : tp_X} {az : Array Value} (hG : tp_Good X az) (hSt : tp_Stat X) : tp_Fit X yX1_think cX1_think (some .int) 8 tp_nm tp_by tp_ml tp_rtt 188 [o_lng (.lconst 0) 0, o_lst (.lstore 5) 5, o_int (.iconst 0) 0, o_ist (.istore 7) 7, o_fall 194] :=
  fG mo_lng (sim_lconst0 dX1_think_188) <|
  fG mo_lst (sim_lst dX1_think_189) <|
  fG mo_int (sim_iconst dX1_think_191 (by decide)) <|
  fG mo_ist (sim_ist dX1_think_192) <|
  fF
theorem fX1_think_194 {X : tp_X} {az : Array Value} (hG : tp_Good X az) (hSt : tp_Stat X) : tp_Fit X yX1_think cX1_think (some .int) 8 tp_nm tp_by tp_ml tp_rtt 194 [o_ild (.iload 7) 7, o_int (.bipush 6) 6, o_icmpge 18 216, o_lld (.lload 5) 5, o_ald (.aload_n 3) 3, o_ild (.iload 7) 7, o_lda .laload [3], o_ladd, o_lst (.lstore 5) 5, o_inc 7 1, o_goto (-19) 194] :=
  fG mo_ild (sim_ild dX1_think_194) <|
  fG mo_int (sim_bipush dX1_think_196 (by decide)) <|
  fG mo_icmpge (sim_icmpge dX1_think_198 rfl) <|
  fG mo_lld (sim_lld dX1_think_201) <|
  fG mo_ald (sim_ald_n dX1_think_203 rfl) <|
  fG mo_ild (sim_ild dX1_think_204) <|
  fG mo_lda (sim_lald dX1_think_206) <|
  fG mo_ladd (sim_ladd dX1_think_207) <|
  fG mo_lst (sim_lst dX1_think_208) <|
  fG mo_inc (sim_inc dX1_think_210 (by decide)) <|
  fG mo_goto (sim_goto dX1_think_213 rfl) <|
  trivial
theorem fX1_think_216 {X : tp_X} {az : Array Value} (hG : tp_Good X az) (hSt : tp_Stat X) : tp_Fit X yX1_think cX1_think (some .int) 8 tp_nm tp_by tp_ml tp_rtt 216 [o_lld (.lload 5) 5, o_lng (.lconst 0) 0, o_lcmp, o_ifne 7 227, o_int (.iconst (-1)) (-1), o_goto 14 238] :=
  fG mo_lld (sim_lld dX1_think_216) <|
  fG mo_lng (sim_lconst0 dX1_think_218) <|
  fG mo_lcmp (sim_lcmp dX1_think_219) <|
  fG mo_ifne (sim_ifne dX1_think_220 rfl) <|
  fG mo_int (sim_iconst dX1_think_223 (by decide)) <|
  fG mo_goto (sim_goto dX1_think_224 rfl) <|
  trivial
theorem fX1_think_227 {X : tp_X} {az : Array Value} (hG : tp_Good X az) (hSt : tp_Stat X) : tp_Fit X yX1_think cX1_think (some .int) 8 tp_nm tp_by tp_ml tp_rtt 227 [o_lng (.ldc2_w 348) 1000, o_ald (.aload_n 3) 3, o_ild (.iload_n 2) 2, o_lda .laload [3], o_lmul, o_lld (.lload 5) 5, o_ldiv, o_l2i, o_fall 238] :=
  fG mo_lng (sim_ldc2 hG dX1_think_227 q1192 rfl) <|
  fG mo_ald (sim_ald_n dX1_think_230 rfl) <|
  fG mo_ild (sim_ild_n dX1_think_231 rfl) <|
  fG mo_lda (sim_lald dX1_think_232) <|
  fG mo_lmul (sim_lmul dX1_think_233) <|
  fG mo_lld (sim_lld dX1_think_234) <|
  fG mo_ldiv (sim_ldiv dX1_think_236) <|
  fG mo_l2i (sim_l2i dX1_think_237) <|
  fF
theorem fX1_think_238 {X : tp_X} {az : Array Value} (hG : tp_Good X az) (hSt : tp_Stat X) : tp_Fit X yX1_think cX1_think (some .int) 8 tp_nm tp_by tp_ml tp_rtt 238 [o_iret 0] :=
  fE ie_iret (sim_iret dX1_think_238 rfl (Or.inl ⟨rfl, rfl⟩))
theorem F_X1_think {X : tp_X} {az : Array Value} (hG : tp_Good X az) (hSt : tp_Stat X) (pc : Nat) : tp_Fit X yX1_think cX1_think (some .int) 8 tp_nm tp_by tp_ml tp_rtt pc (mX1_think pc) :=
  fI (fX1_think_0 hG hSt) <| fI (fX1_think_20 hG hSt) <| fI (fX1_think_22 hG hSt) <| fI (fX1_think_30 hG hSt) <| fI (fX1_think_58 hG hSt) <| fI (fX1_think_75 hG hSt) <| fI (fX1_think_99 hG hSt) <| fI (fX1_think_105 hG hSt) <| fI (fX1_think_155 hG hSt) <| fI (fX1_think_165 hG hSt) <| fI (fX1_think_166 hG hSt) <| fI (fX1_think_174 hG hSt) <| fI (fX1_think_180 hG hSt) <| fI (fX1_think_188 hG hSt) <| fI (fX1_think_194 hG hSt) <| fI (fX1_think_216 hG hSt) <| fI (fX1_think_227 hG hSt) <| fI (fX1_think_238 hG hSt) <| trivial
theorem fX1_run_0 {X : tp_X} {az : Array Value} (hG : tp_Good X az) (hSt : tp_Stat X) : tp_Fit X yX1_run cX1_run (some .int) 5 tp_nm tp_by tp_ml tp_rtt 0 [o_ald (.aload_n 0) 0, o_ild (.iload_n 1) 1, o_ild (.iload_n 2) 2, o_ild (.iload_n 3) 3, o_cv (.invokevirtual 379) 1 kX1_isRun 3 0, o_ifeq 13 20, o_ild (.iload 4) 4, o_int (.iconst 0) 0, o_int (.iconst 3) 3, o_cs (.invokestatic 94) kX1_in 3 0, o_ifne 5 22, o_fall 20] :=
  fG mo_ald (sim_ald_n dX1_run_0 rfl) <|
  fG mo_ild (sim_ild_n dX1_run_1 rfl) <|
  fG mo_ild (sim_ild_n dX1_run_2 rfl) <|
  fG mo_ild (sim_ild_n dX1_run_3 rfl) <|
  fC (ic_cv (Or.inl rfl)) (sim_cv hG dX1_run_4 (hG.2.1 1 _ hc_1).2.1 M_X1_isRun (by rw [nm_X1_isRun]; rfl) (by rw [nm_X1_isRun]; exact q1198) (by rw [nm_X1_isRun]; exact q1200) (by rw [nm_X1_isRun]; exact qs47)) <|
  fG mo_ifeq (sim_ifeq dX1_run_7 rfl) <|
  fG mo_ild (sim_ild dX1_run_10) <|
  fG mo_int (sim_iconst dX1_run_12 (by decide)) <|
  fG mo_int (sim_iconst dX1_run_13 (by decide)) <|
  fC (ic_cs (Or.inl rfl)) (sim_cs hG dX1_run_14 M_X1_in (by rw [nm_X1_in]; rfl) (by rw [nm_X1_in]; exact q335) (by rw [nm_X1_in]; exact q336)) <|
  fG mo_ifne (sim_ifne dX1_run_17 rfl) <|
  fF
theorem fX1_run_20 {X : tp_X} {az : Array Value} (hG : tp_Good X az) (hSt : tp_Stat X) : tp_Fit X yX1_run cX1_run (some .int) 5 tp_nm tp_by tp_ml tp_rtt 20 [o_int (.iconst (-1)) (-1), o_iret 0] :=
  fG mo_int (sim_iconst dX1_run_20 (by decide)) <|
  fE ie_iret (sim_iret dX1_run_21 rfl (Or.inl ⟨rfl, rfl⟩))
theorem fX1_run_22 {X : tp_X} {az : Array Value} (hG : tp_Good X az) (hSt : tp_Stat X) : tp_Fit X yX1_run cX1_run (some .int) 5 tp_nm tp_by tp_ml tp_rtt 22 [o_ald (.aload_n 0) 0, o_ald (.aload_n 0) 0, o_getf (.getfield 12) 1 0, o_getf (.getfield 143) 2 12, o_ild (.iload_n 1) 1, o_lda .aaload [4, 5, 6, 7, 28, 29], o_ild (.iload_n 2) 2, o_ild (.iload_n 3) 3, o_cv (.invokevirtual 382) 1 kX1_runs 3 0, o_ald (.aload_n 0) 0, o_getf (.getfield 63) 1 20, o_ild (.iload 4) 4, o_lda .iaload [0, 20], o_iret 0] :=
  fG mo_ald (sim_ald_n dX1_run_22 rfl) <|
  fG mo_ald (sim_ald_n dX1_run_23 rfl) <|
  fG mo_getf (sim_getfG hG dX1_run_24 hc_1 (by decide) rfl in_X1 (fun _ _ _ h => h) (Or.inl q256)) <|
  fG mo_getf (sim_getfG hG dX1_run_27 hc_2 (by decide) rfl in_X2 (fun _ _ _ h => h) (Or.inr ⟨_, q203⟩)) <|
  fG mo_ild (sim_ild_n dX1_run_30 rfl) <|
  fG mo_lda (sim_aald dX1_run_31) <|
  fG mo_ild (sim_ild_n dX1_run_32 rfl) <|
  fG mo_ild (sim_ild_n dX1_run_33 rfl) <|
  fC (ic_cv (Or.inl rfl)) (sim_cv hG dX1_run_34 (hG.2.1 1 _ hc_1).2.1 M_X1_runs (by rw [nm_X1_runs]; rfl) (by rw [nm_X1_runs]; exact q1202) (by rw [nm_X1_runs]; exact q1204) (by rw [nm_X1_runs]; exact qs48)) <|
  fG mo_ald (sim_ald_n dX1_run_37 rfl) <|
  fG mo_getf (sim_getfG hG dX1_run_38 hc_1 (by decide) rfl in_X1 (fun _ _ _ h => h) (Or.inl q276)) <|
  fG mo_ild (sim_ild dX1_run_41) <|
  fG mo_lda (sim_iald dX1_run_43) <|
  fE ie_iret (sim_iret dX1_run_44 rfl (Or.inl ⟨rfl, rfl⟩))
theorem F_X1_run {X : tp_X} {az : Array Value} (hG : tp_Good X az) (hSt : tp_Stat X) (pc : Nat) : tp_Fit X yX1_run cX1_run (some .int) 5 tp_nm tp_by tp_ml tp_rtt pc (mX1_run pc) :=
  fI (fX1_run_0 hG hSt) <| fI (fX1_run_20 hG hSt) <| fI (fX1_run_22 hG hSt) <| trivial
theorem fX1_isRun_0 {X : tp_X} {az : Array Value} (hG : tp_Good X az) (hSt : tp_Stat X) : tp_Fit X yX1_isRun cX1_isRun (some .boolean) 4 tp_nm tp_by tp_ml tp_rtt 0 [o_ald (.aload_n 0) 0, o_ild (.iload_n 1) 1, o_cv (.invokevirtual 162) 1 kX1_isText 1 0, o_ifeq 37 42, o_ild (.iload_n 2) 2, o_int (.iconst 0) 0, o_int (.sipush 9999) 9999, o_cs (.invokestatic 94) kX1_in 3 0, o_ifeq 26 42, o_ild (.iload_n 3) 3, o_int (.iconst 1) 1, o_int (.bipush 40) 40, o_cs (.invokestatic 94) kX1_in 3 0, o_ifeq 16 42, o_ald (.aload_n 0) 0, o_cv (.invokevirtual 287) 1 kX1_ship_2 0 0, o_int (.iconst 3) 3, o_lda .iaload [0, 20], o_ifne 7 42, o_int (.iconst 1) 1, o_goto 4 43] :=
  fG mo_ald (sim_ald_n dX1_isRun_0 rfl) <|
  fG mo_ild (sim_ild_n dX1_isRun_1 rfl) <|
  fC (ic_cv (Or.inl rfl)) (sim_cv hG dX1_isRun_2 (hG.2.1 1 _ hc_1).2.1 M_X1_isText (by rw [nm_X1_isText]; rfl) (by rw [nm_X1_isText]; exact q885) (by rw [nm_X1_isText]; exact q887) (by rw [nm_X1_isText]; exact qs19)) <|
  fG mo_ifeq (sim_ifeq dX1_isRun_5 rfl) <|
  fG mo_ild (sim_ild_n dX1_isRun_8 rfl) <|
  fG mo_int (sim_iconst dX1_isRun_9 (by decide)) <|
  fG mo_int (sim_sipush dX1_isRun_10 (by decide)) <|
  fC (ic_cs (Or.inl rfl)) (sim_cs hG dX1_isRun_13 M_X1_in (by rw [nm_X1_in]; rfl) (by rw [nm_X1_in]; exact q335) (by rw [nm_X1_in]; exact q336)) <|
  fG mo_ifeq (sim_ifeq dX1_isRun_16 rfl) <|
  fG mo_ild (sim_ild_n dX1_isRun_19 rfl) <|
  fG mo_int (sim_iconst dX1_isRun_20 (by decide)) <|
  fG mo_int (sim_bipush dX1_isRun_21 (by decide)) <|
  fC (ic_cs (Or.inl rfl)) (sim_cs hG dX1_isRun_23 M_X1_in (by rw [nm_X1_in]; rfl) (by rw [nm_X1_in]; exact q335) (by rw [nm_X1_in]; exact q336)) <|
  fG mo_ifeq (sim_ifeq dX1_isRun_26 rfl) <|
  fG mo_ald (sim_ald_n dX1_isRun_29 rfl) <|
  fC (ic_cv (Or.inl rfl)) (sim_cv hG dX1_isRun_30 (hG.2.1 1 _ hc_1).2.1 M_X1_ship_2 (by rw [nm_X1_ship_2]; rfl) (by rw [nm_X1_ship_2]; exact q1044) (by rw [nm_X1_ship_2]; exact q1046) (by rw [nm_X1_ship_2]; exact qs30)) <|
  fG mo_int (sim_iconst dX1_isRun_33 (by decide)) <|
  fG mo_lda (sim_iald dX1_isRun_34) <|
  fG mo_ifne (sim_ifne dX1_isRun_35 rfl) <|
  fG mo_int (sim_iconst dX1_isRun_38 (by decide)) <|
  fG mo_goto (sim_goto dX1_isRun_39 rfl) <|
  trivial
theorem fX1_isRun_42 {X : tp_X} {az : Array Value} (hG : tp_Good X az) (hSt : tp_Stat X) : tp_Fit X yX1_isRun cX1_isRun (some .boolean) 4 tp_nm tp_by tp_ml tp_rtt 42 [o_int (.iconst 0) 0, o_fall 43] :=
  fG mo_int (sim_iconst dX1_isRun_42 (by decide)) <|
  fF
theorem fX1_isRun_43 {X : tp_X} {az : Array Value} (hG : tp_Good X az) (hSt : tp_Stat X) : tp_Fit X yX1_isRun cX1_isRun (some .boolean) 4 tp_nm tp_by tp_ml tp_rtt 43 [o_iret 1] :=
  fE ie_iret (sim_iret dX1_isRun_43 rfl (Or.inr (Or.inl ⟨rfl, rfl⟩)))
theorem F_X1_isRun {X : tp_X} {az : Array Value} (hG : tp_Good X az) (hSt : tp_Stat X) (pc : Nat) : tp_Fit X yX1_isRun cX1_isRun (some .boolean) 4 tp_nm tp_by tp_ml tp_rtt pc (mX1_isRun pc) :=
  fI (fX1_isRun_0 hG hSt) <| fI (fX1_isRun_42 hG hSt) <| fI (fX1_isRun_43 hG hSt) <| trivial
theorem fX1_runs_0 {X : tp_X} {az : Array Value} (hG : tp_Good X az) (hSt : tp_Stat X) : tp_Fit X yX1_runs cX1_runs none 14 tp_nm tp_by tp_ml tp_rtt 0 [o_ild (.iload_n 2) 2, o_int (.bipush 7) 7, o_imul, o_int (.iconst 3) 3, o_iadd, o_ist (.istore 4) 4, o_ald (.aload_n 0) 0, o_getf (.getfield 12) 1 0, o_getf (.getfield 112) 2 0, o_int (.iconst 1) 1, o_lda .iaload [0, 20], o_ist (.istore 5) 5, o_ald (.aload_n 0) 0, o_cv (.invokevirtual 287) 1 kX1_ship_2 0 0, o_int (.iconst 0) 0, o_lda .iaload [0, 20], o_ist (.istore 6) 6, o_ald (.aload_n 0) 0, o_cv (.invokevirtual 287) 1 kX1_ship_2 0 0, o_int (.iconst 1) 1, o_lda .iaload [0, 20], o_ist (.istore 7) 7, o_ald (.aload_n 0) 0, o_cv (.invokevirtual 287) 1 kX1_ship_2 0 0, o_int (.iconst 2) 2, o_lda .iaload [0, 20], o_ist (.istore 8) 8, o_ald (.aload_n 0) 0, o_getf (.getfield 12) 1 0, o_getf (.getfield 102) 2 1, o_int (.iconst 0) 0, o_ald (.aload_n 0) 0, o_getf (.getfield 66) 1 21, o_int (.iconst 0) 0, o_int (.bipush 36) 36, o_acopy (.invokestatic 124), o_ald (.aload_n 0) 0, o_getf (.getfield 63) 1 20, o_int (.iconst 0) 0, o_int (.iconst 0) 0, o_sta .iastore [0], o_int (.iconst 0) 0, o_ist (.istore 9) 9, o_fall 71] :=
  fG mo_ild (sim_ild_n dX1_runs_0 rfl) <|
  fG mo_int (sim_bipush dX1_runs_1 (by decide)) <|
  fG mo_imul (sim_imul dX1_runs_3) <|
  fG mo_int (sim_iconst dX1_runs_4 (by decide)) <|
  fG mo_iadd (sim_iadd dX1_runs_5) <|
  fG mo_ist (sim_ist dX1_runs_6) <|
  fG mo_ald (sim_ald_n dX1_runs_8 rfl) <|
  fG mo_getf (sim_getfG hG dX1_runs_9 hc_1 (by decide) rfl in_X1 (fun _ _ _ h => h) (Or.inl q256)) <|
  fG mo_getf (sim_getfG hG dX1_runs_12 hc_2 (by decide) rfl in_X2 (fun _ _ _ h => h) (Or.inr ⟨_, q179⟩)) <|
  fG mo_int (sim_iconst dX1_runs_15 (by decide)) <|
  fG mo_lda (sim_iald dX1_runs_16) <|
  fG mo_ist (sim_ist dX1_runs_17) <|
  fG mo_ald (sim_ald_n dX1_runs_19 rfl) <|
  fC (ic_cv (Or.inl rfl)) (sim_cv hG dX1_runs_20 (hG.2.1 1 _ hc_1).2.1 M_X1_ship_2 (by rw [nm_X1_ship_2]; rfl) (by rw [nm_X1_ship_2]; exact q1044) (by rw [nm_X1_ship_2]; exact q1046) (by rw [nm_X1_ship_2]; exact qs30)) <|
  fG mo_int (sim_iconst dX1_runs_23 (by decide)) <|
  fG mo_lda (sim_iald dX1_runs_24) <|
  fG mo_ist (sim_ist dX1_runs_25) <|
  fG mo_ald (sim_ald_n dX1_runs_27 rfl) <|
  fC (ic_cv (Or.inl rfl)) (sim_cv hG dX1_runs_28 (hG.2.1 1 _ hc_1).2.1 M_X1_ship_2 (by rw [nm_X1_ship_2]; rfl) (by rw [nm_X1_ship_2]; exact q1044) (by rw [nm_X1_ship_2]; exact q1046) (by rw [nm_X1_ship_2]; exact qs30)) <|
  fG mo_int (sim_iconst dX1_runs_31 (by decide)) <|
  fG mo_lda (sim_iald dX1_runs_32) <|
  fG mo_ist (sim_ist dX1_runs_33) <|
  fG mo_ald (sim_ald_n dX1_runs_35 rfl) <|
  fC (ic_cv (Or.inl rfl)) (sim_cv hG dX1_runs_36 (hG.2.1 1 _ hc_1).2.1 M_X1_ship_2 (by rw [nm_X1_ship_2]; rfl) (by rw [nm_X1_ship_2]; exact q1044) (by rw [nm_X1_ship_2]; exact q1046) (by rw [nm_X1_ship_2]; exact qs30)) <|
  fG mo_int (sim_iconst dX1_runs_39 (by decide)) <|
  fG mo_lda (sim_iald dX1_runs_40) <|
  fG mo_ist (sim_ist dX1_runs_41) <|
  fG mo_ald (sim_ald_n dX1_runs_43 rfl) <|
  fG mo_getf (sim_getfG hG dX1_runs_44 hc_1 (by decide) rfl in_X1 (fun _ _ _ h => h) (Or.inl q256)) <|
  fG mo_getf (sim_getfG hG dX1_runs_47 hc_2 (by decide) rfl in_X2 (fun _ _ _ h => h) (Or.inr ⟨_, q181⟩)) <|
  fG mo_int (sim_iconst dX1_runs_50 (by decide)) <|
  fG mo_ald (sim_ald_n dX1_runs_51 rfl) <|
  fG mo_getf (sim_getfG hG dX1_runs_52 hc_1 (by decide) rfl in_X1 (fun _ _ _ h => h) (Or.inl q277)) <|
  fG mo_int (sim_iconst dX1_runs_55 (by decide)) <|
  fG mo_int (sim_bipush dX1_runs_56 (by decide)) <|
  fG mo_acopy (sim_acopy hG dX1_runs_58 q361 q252 q251 q129) <|
  fG mo_ald (sim_ald_n dX1_runs_61 rfl) <|
  fG mo_getf (sim_getfG hG dX1_runs_62 hc_1 (by decide) rfl in_X1 (fun _ _ _ h => h) (Or.inl q276)) <|
  fG mo_int (sim_iconst dX1_runs_65 (by decide)) <|
  fG mo_int (sim_iconst dX1_runs_66 (by decide)) <|
  fG mo_sta (sim_iast dX1_runs_67) <|
  fG mo_int (sim_iconst dX1_runs_68 (by decide)) <|
  fG mo_ist (sim_ist dX1_runs_69) <|
  fF
theorem fX1_runs_71 {X : tp_X} {az : Array Value} (hG : tp_Good X az) (hSt : tp_Stat X) : tp_Fit X yX1_runs cX1_runs none 14 tp_nm tp_by tp_ml tp_rtt 71 [o_ild (.iload 9) 9, o_ild (.iload_n 3) 3, o_icmpge 287 361, o_ald (.aload_n 0) 0, o_getf (.getfield 63) 1 20, o_int (.iconst 0) 0, o_lda .iaload [0, 20], o_ifne 278 361, o_ald (.aload_n 0) 0, o_getf (.getfield 12) 1 0, o_getf (.getfield 112) 2 0, o_int (.iconst 0) 0, o_lda .iaload [0, 20], o_ild (.iload 9) 9, o_iadd, o_ist (.istore 10) 10, o_ald (.aload_n 0) 0, o_ald (.aload_n 1) 1, o_ild (.iload 6) 6, o_ild (.iload 7) 7, o_ild (.iload 8) 8, o_ild (.iload 5) 5, o_ild (.iload 10) 10, o_cv (.invokevirtual 350) 1 kX1_orderBy 6 0, o_ist (.istore 11) 11, o_int (.iconst 0) 0, o_ist (.istore 12) 12, o_ild (.iload 4) 4, o_int (.bipush 10) 10, o_irem, o_ist (.istore 13) 13, o_fall 127] :=
  fG mo_ild (sim_ild dX1_runs_71) <|
  fG mo_ild (sim_ild_n dX1_runs_73 rfl) <|
  fG mo_icmpge (sim_icmpge dX1_runs_74 rfl) <|
  fG mo_ald (sim_ald_n dX1_runs_77 rfl) <|
  fG mo_getf (sim_getfG hG dX1_runs_78 hc_1 (by decide) rfl in_X1 (fun _ _ _ h => h) (Or.inl q276)) <|
  fG mo_int (sim_iconst dX1_runs_81 (by decide)) <|
  fG mo_lda (sim_iald dX1_runs_82) <|
  fG mo_ifne (sim_ifne dX1_runs_83 rfl) <|
  fG mo_ald (sim_ald_n dX1_runs_86 rfl) <|
  fG mo_getf (sim_getfG hG dX1_runs_87 hc_1 (by decide) rfl in_X1 (fun _ _ _ h => h) (Or.inl q256)) <|
  fG mo_getf (sim_getfG hG dX1_runs_90 hc_2 (by decide) rfl in_X2 (fun _ _ _ h => h) (Or.inr ⟨_, q179⟩)) <|
  fG mo_int (sim_iconst dX1_runs_93 (by decide)) <|
  fG mo_lda (sim_iald dX1_runs_94) <|
  fG mo_ild (sim_ild dX1_runs_95) <|
  fG mo_iadd (sim_iadd dX1_runs_97) <|
  fG mo_ist (sim_ist dX1_runs_98) <|
  fG mo_ald (sim_ald_n dX1_runs_100 rfl) <|
  fG mo_ald (sim_ald_n dX1_runs_101 rfl) <|
  fG mo_ild (sim_ild dX1_runs_102) <|
  fG mo_ild (sim_ild dX1_runs_104) <|
  fG mo_ild (sim_ild dX1_runs_106) <|
  fG mo_ild (sim_ild dX1_runs_108) <|
  fG mo_ild (sim_ild dX1_runs_110) <|
  fC (ic_cv (Or.inl rfl)) (sim_cv hG dX1_runs_112 (hG.2.1 1 _ hc_1).2.1 M_X1_orderBy (by rw [nm_X1_orderBy]; rfl) (by rw [nm_X1_orderBy]; exact q1206) (by rw [nm_X1_orderBy]; exact q1208) (by rw [nm_X1_orderBy]; exact qs49)) <|
  fG mo_ist (sim_ist dX1_runs_115) <|
  fG mo_int (sim_iconst dX1_runs_117 (by decide)) <|
  fG mo_ist (sim_ist dX1_runs_118) <|
  fG mo_ild (sim_ild dX1_runs_120) <|
  fG mo_int (sim_bipush dX1_runs_122 (by decide)) <|
  fG mo_irem (sim_irem dX1_runs_124) <|
  fG mo_ist (sim_ist dX1_runs_125) <|
  fF
theorem fX1_runs_127 {X : tp_X} {az : Array Value} (hG : tp_Good X az) (hSt : tp_Stat X) : tp_Fit X yX1_runs cX1_runs none 14 tp_nm tp_by tp_ml tp_rtt 127 [o_ild (.iload 13) 13, o_ald (.aload_n 0) 0, o_getf (.getfield 12) 1 0, o_getf (.getfield 121) 2 9, o_ild (.iload 5) 5, o_lda .aaload [4, 5, 6, 7, 28, 29], o_ild (.iload 12) 12, o_lda .iaload [0, 20], o_icmplt 27 169, o_ild (.iload 13) 13, o_ald (.aload_n 0) 0, o_getf (.getfield 12) 1 0, o_getf (.getfield 121) 2 9, o_ild (.iload 5) 5, o_lda .aaload [4, 5, 6, 7, 28, 29], o_ild (.iload 12) 12, o_lda .iaload [0, 20], o_isub, o_ist (.istore 13) 13, o_inc 12 1, o_goto (-39) 127] :=
  fG mo_ild (sim_ild dX1_runs_127) <|
  fG mo_ald (sim_ald_n dX1_runs_129 rfl) <|
  fG mo_getf (sim_getfG hG dX1_runs_130 hc_1 (by decide) rfl in_X1 (fun _ _ _ h => h) (Or.inl q256)) <|
  fG mo_getf (sim_getfG hG dX1_runs_133 hc_2 (by decide) rfl in_X2 (fun _ _ _ h => h) (Or.inr ⟨_, q197⟩)) <|
  fG mo_ild (sim_ild dX1_runs_136) <|
  fG mo_lda (sim_aald dX1_runs_138) <|
  fG mo_ild (sim_ild dX1_runs_139) <|
  fG mo_lda (sim_iald dX1_runs_141) <|
  fG mo_icmplt (sim_icmplt dX1_runs_142 rfl) <|
  fG mo_ild (sim_ild dX1_runs_145) <|
  fG mo_ald (sim_ald_n dX1_runs_147 rfl) <|
  fG mo_getf (sim_getfG hG dX1_runs_148 hc_1 (by decide) rfl in_X1 (fun _ _ _ h => h) (Or.inl q256)) <|
  fG mo_getf (sim_getfG hG dX1_runs_151 hc_2 (by decide) rfl in_X2 (fun _ _ _ h => h) (Or.inr ⟨_, q197⟩)) <|
  fG mo_ild (sim_ild dX1_runs_154) <|
  fG mo_lda (sim_aald dX1_runs_156) <|
  fG mo_ild (sim_ild dX1_runs_157) <|
  fG mo_lda (sim_iald dX1_runs_159) <|
  fG mo_isub (sim_isub dX1_runs_160) <|
  fG mo_ist (sim_ist dX1_runs_161) <|
  fG mo_inc (sim_inc dX1_runs_163 (by decide)) <|
  fG mo_goto (sim_goto dX1_runs_166 rfl) <|
  trivial
theorem fX1_runs_169 {X : tp_X} {az : Array Value} (hG : tp_Good X az) (hSt : tp_Stat X) : tp_Fit X yX1_runs cX1_runs none 14 tp_nm tp_by tp_ml tp_rtt 169 [o_ild (.iload 4) 4, o_int (.sipush 173) 173, o_imul, o_int (.bipush 11) 11, o_iadd, o_int (.sipush 30103) 30103, o_irem, o_ist (.istore 4) 4, o_ild (.iload 7) 7, o_ald (.aload_n 0) 0, o_ild (.iload 11) 11, o_ild (.iload 6) 6, o_ild (.iload 7) 7, o_ild (.iload 8) 8, o_ald (.aload_n 0) 0, o_getf (.getfield 66) 1 21, o_ild (.iload 5) 5, o_ild (.iload 10) 10, o_cv (.invokevirtual 232) 1 kX1_costOf 7 0, o_isub, o_ist (.istore 7) 7, o_ild (.iload 11) 11, o_ild (.iload 8) 8, o_cs (.invokestatic 280) kX1_fires 2 0, o_ist (.istore 8) 8, o_ild (.iload 11) 11, o_int (.iconst 4) 4, o_icmpge 22 243, o_ald (.aload_n 0) 0, o_ild (.iload 6) 6, o_ild (.iload 11) 11, o_cs (.invokestatic 169) kX1_dx 1 0, o_ild (.iload 11) 11, o_cs (.invokestatic 173) kX1_dy 1 0, o_cv (.invokevirtual 165) 1 kX1_beside 3 0, o_goto 22 262] :=
  fG mo_ild (sim_ild dX1_runs_169) <|
  fG mo_int (sim_sipush dX1_runs_171 (by decide)) <|
  fG mo_imul (sim_imul dX1_runs_174) <|
  fG mo_int (sim_bipush dX1_runs_175 (by decide)) <|
  fG mo_iadd (sim_iadd dX1_runs_177) <|
  fG mo_int (sim_sipush dX1_runs_178 (by decide)) <|
  fG mo_irem (sim_irem dX1_runs_181) <|
  fG mo_ist (sim_ist dX1_runs_182) <|
  fG mo_ild (sim_ild dX1_runs_184) <|
  fG mo_ald (sim_ald_n dX1_runs_186 rfl) <|
  fG mo_ild (sim_ild dX1_runs_187) <|
  fG mo_ild (sim_ild dX1_runs_189) <|
  fG mo_ild (sim_ild dX1_runs_191) <|
  fG mo_ild (sim_ild dX1_runs_193) <|
  fG mo_ald (sim_ald_n dX1_runs_195 rfl) <|
  fG mo_getf (sim_getfG hG dX1_runs_196 hc_1 (by decide) rfl in_X1 (fun _ _ _ h => h) (Or.inl q277)) <|
  fG mo_ild (sim_ild dX1_runs_199) <|
  fG mo_ild (sim_ild dX1_runs_201) <|
  fC (ic_cv (Or.inl rfl)) (sim_cv hG dX1_runs_203 (hG.2.1 1 _ hc_1).2.1 M_X1_costOf (by rw [nm_X1_costOf]; rfl) (by rw [nm_X1_costOf]; exact q896) (by rw [nm_X1_costOf]; exact q898) (by rw [nm_X1_costOf]; exact qs20)) <|
  fG mo_isub (sim_isub dX1_runs_206) <|
  fG mo_ist (sim_ist dX1_runs_207) <|
  fG mo_ild (sim_ild dX1_runs_209) <|
  fG mo_ild (sim_ild dX1_runs_211) <|
  fC (ic_cs (Or.inl rfl)) (sim_cs hG dX1_runs_213 M_X1_fires (by rw [nm_X1_fires]; rfl) (by rw [nm_X1_fires]; exact q1082) (by rw [nm_X1_fires]; exact q1083)) <|
  fG mo_ist (sim_ist dX1_runs_216) <|
  fG mo_ild (sim_ild dX1_runs_218) <|
  fG mo_int (sim_iconst dX1_runs_220 (by decide)) <|
  fG mo_icmpge (sim_icmpge dX1_runs_221 rfl) <|
  fG mo_ald (sim_ald_n dX1_runs_224 rfl) <|
  fG mo_ild (sim_ild dX1_runs_225) <|
  fG mo_ild (sim_ild dX1_runs_227) <|
  fC (ic_cs (Or.inl rfl)) (sim_cs hG dX1_runs_229 M_X1_dx (by rw [nm_X1_dx]; rfl) (by rw [nm_X1_dx]; exact q900) (by rw [nm_X1_dx]; exact q901)) <|
  fG mo_ild (sim_ild dX1_runs_232) <|
  fC (ic_cs (Or.inl rfl)) (sim_cs hG dX1_runs_234 M_X1_dy (by rw [nm_X1_dy]; rfl) (by rw [nm_X1_dy]; exact q903) (by rw [nm_X1_dy]; exact q904)) <|
  fC (ic_cv (Or.inl rfl)) (sim_cv hG dX1_runs_237 (hG.2.1 1 _ hc_1).2.1 M_X1_beside (by rw [nm_X1_beside]; rfl) (by rw [nm_X1_beside]; exact q906) (by rw [nm_X1_beside]; exact q908) (by rw [nm_X1_beside]; exact qs21)) <|
  fG mo_goto (sim_goto dX1_runs_240 rfl) <|
  trivial
theorem fX1_runs_243 {X : tp_X} {az : Array Value} (hG : tp_Good X az) (hSt : tp_Stat X) : tp_Fit X yX1_runs cX1_runs none 14 tp_nm tp_by tp_ml tp_rtt 243 [o_ild (.iload 11) 11, o_int (.iconst 5) 5, o_icmpne 8 254, o_ild (.iload 6) 6, o_goto 11 262] :=
  fG mo_ild (sim_ild dX1_runs_243) <|
  fG mo_int (sim_iconst dX1_runs_245 (by decide)) <|
  fG mo_icmpne (sim_icmpne dX1_runs_246 rfl) <|
  fG mo_ild (sim_ild dX1_runs_249) <|
  fG mo_goto (sim_goto dX1_runs_251 rfl) <|
  trivial
theorem fX1_runs_254 {X : tp_X} {az : Array Value} (hG : tp_Good X az) (hSt : tp_Stat X) : tp_Fit X yX1_runs cX1_runs none 14 tp_nm tp_by tp_ml tp_rtt 254 [o_ald (.aload_n 0) 0, o_ild (.iload 6) 6, o_ild (.iload 12) 12, o_cv (.invokevirtual 246) 1 kX1_drifts 2 0, o_fall 262] :=
  fG mo_ald (sim_ald_n dX1_runs_254 rfl) <|
  fG mo_ild (sim_ild dX1_runs_255) <|
  fG mo_ild (sim_ild dX1_runs_257) <|
  fC (ic_cv (Or.inl rfl)) (sim_cv hG dX1_runs_259 (hG.2.1 1 _ hc_1).2.1 M_X1_drifts (by rw [nm_X1_drifts]; rfl) (by rw [nm_X1_drifts]; exact q1028) (by rw [nm_X1_drifts]; exact q1030) (by rw [nm_X1_drifts]; exact qs28)) <|
  fF
theorem fX1_runs_262 {X : tp_X} {az : Array Value} (hG : tp_Good X az) (hSt : tp_Stat X) : tp_Fit X yX1_runs cX1_runs none 14 tp_nm tp_by tp_ml tp_rtt 262 [o_ist (.istore 6) 6, o_ald (.aload_n 0) 0, o_ald (.aload_n 0) 0, o_getf (.getfield 66) 1 21, o_ald (.aload_n 0) 0, o_getf (.getfield 69) 1 22, o_ild (.iload 12) 12, o_ild (.iload 10) 10, o_cv (.invokevirtual 242) 1 kX1_goes 4 0, o_ald (.aload_n 0) 0, o_getf (.getfield 66) 1 21, o_ast (.astore 13) 13, o_ald (.aload_n 0) 0, o_ald (.aload_n 0) 0, o_getf (.getfield 69) 1 22, o_putf (.putfield 66) 1 21 4, o_ald (.aload_n 0) 0, o_ald (.aload 13) 13, o_putf (.putfield 69) 1 22 4, o_ald (.aload_n 0) 0, o_getf (.getfield 63) 1 20, o_int (.iconst 0) 0, o_ild (.iload 11) 11, o_int (.iconst 4) 4, o_icmpge 20 328, o_ald (.aload_n 0) 0, o_getf (.getfield 12) 1 0, o_getf (.getfield 109) 2 6, o_ild (.iload 6) 6, o_lda .baload [1, 2, 22], o_ifeq 7 328, o_int (.iconst 1) 1, o_goto 25 350] :=
  fG mo_ist (sim_ist dX1_runs_262) <|
  fG mo_ald (sim_ald_n dX1_runs_264 rfl) <|
  fG mo_ald (sim_ald_n dX1_runs_265 rfl) <|
  fG mo_getf (sim_getfG hG dX1_runs_266 hc_1 (by decide) rfl in_X1 (fun _ _ _ h => h) (Or.inl q277)) <|
  fG mo_ald (sim_ald_n dX1_runs_269 rfl) <|
  fG mo_getf (sim_getfG hG dX1_runs_270 hc_1 (by decide) rfl in_X1 (fun _ _ _ h => h) (Or.inl q278)) <|
  fG mo_ild (sim_ild dX1_runs_273) <|
  fG mo_ild (sim_ild dX1_runs_275) <|
  fC (ic_cv (Or.inl rfl)) (sim_cv hG dX1_runs_277 (hG.2.1 1 _ hc_1).2.1 M_X1_goes (by rw [nm_X1_goes]; rfl) (by rw [nm_X1_goes]; exact q1024) (by rw [nm_X1_goes]; exact q1026) (by rw [nm_X1_goes]; exact qs27)) <|
  fG mo_ald (sim_ald_n dX1_runs_280 rfl) <|
  fG mo_getf (sim_getfG hG dX1_runs_281 hc_1 (by decide) rfl in_X1 (fun _ _ _ h => h) (Or.inl q277)) <|
  fG mo_ast (sim_ast dX1_runs_284) <|
  fG mo_ald (sim_ald_n dX1_runs_286 rfl) <|
  fG mo_ald (sim_ald_n dX1_runs_287 rfl) <|
  fG mo_getf (sim_getfG hG dX1_runs_288 hc_1 (by decide) rfl in_X1 (fun _ _ _ h => h) (Or.inl q278)) <|
  fG mo_putf (sim_putf hG dX1_runs_291 hc_1 (by decide) rfl (by decide) in_X1 tyX1_ok nmX1 (Or.inr (Or.inr (Or.inr (Or.inr ⟨Or.inr ⟨_, rfl⟩, by decide⟩)))) (fun _ _ _ h => h) rfl q277) <|
  fG mo_ald (sim_ald_n dX1_runs_294 rfl) <|
  fG mo_ald (sim_ald dX1_runs_295) <|
  fG mo_putf (sim_putf hG dX1_runs_297 hc_1 (by decide) rfl (by decide) in_X1 tyX1_ok nmX1 (Or.inr (Or.inr (Or.inr (Or.inr ⟨Or.inr ⟨_, rfl⟩, by decide⟩)))) (fun _ _ _ h => h) rfl q278) <|
  fG mo_ald (sim_ald_n dX1_runs_300 rfl) <|
  fG mo_getf (sim_getfG hG dX1_runs_301 hc_1 (by decide) rfl in_X1 (fun _ _ _ h => h) (Or.inl q276)) <|
  fG mo_int (sim_iconst dX1_runs_304 (by decide)) <|
  fG mo_ild (sim_ild dX1_runs_305) <|
  fG mo_int (sim_iconst dX1_runs_307 (by decide)) <|
  fG mo_icmpge (sim_icmpge dX1_runs_308 rfl) <|
  fG mo_ald (sim_ald_n dX1_runs_311 rfl) <|
  fG mo_getf (sim_getfG hG dX1_runs_312 hc_1 (by decide) rfl in_X1 (fun _ _ _ h => h) (Or.inl q256)) <|
  fG mo_getf (sim_getfG hG dX1_runs_315 hc_2 (by decide) rfl in_X2 (fun _ _ _ h => h) (Or.inr ⟨_, q191⟩)) <|
  fG mo_ild (sim_ild dX1_runs_318) <|
  fG mo_lda (sim_bald dX1_runs_320) <|
  fG mo_ifeq (sim_ifeq dX1_runs_321 rfl) <|
  fG mo_int (sim_iconst dX1_runs_324 (by decide)) <|
  fG mo_goto (sim_goto dX1_runs_325 rfl) <|
  trivial
theorem fX1_runs_328 {X : tp_X} {az : Array Value} (hG : tp_Good X az) (hSt : tp_Stat X) : tp_Fit X yX1_runs cX1_runs none 14 tp_nm tp_by tp_ml tp_rtt 328 [o_ald (.aload_n 0) 0, o_ald (.aload_n 0) 0, o_getf (.getfield 66) 1 21, o_ild (.iload 6) 6, o_ild (.iload 12) 12, o_ild (.iload 10) 10, o_cv (.invokevirtual 249) 1 kX1_nips 4 0, o_ifeq 7 349, o_int (.iconst 2) 2, o_goto 4 350] :=
  fG mo_ald (sim_ald_n dX1_runs_328 rfl) <|
  fG mo_ald (sim_ald_n dX1_runs_329 rfl) <|
  fG mo_getf (sim_getfG hG dX1_runs_330 hc_1 (by decide) rfl in_X1 (fun _ _ _ h => h) (Or.inl q277)) <|
  fG mo_ild (sim_ild dX1_runs_333) <|
  fG mo_ild (sim_ild dX1_runs_335) <|
  fG mo_ild (sim_ild dX1_runs_337) <|
  fC (ic_cv (Or.inl rfl)) (sim_cv hG dX1_runs_339 (hG.2.1 1 _ hc_1).2.1 M_X1_nips (by rw [nm_X1_nips]; rfl) (by rw [nm_X1_nips]; exact q1032) (by rw [nm_X1_nips]; exact q1034) (by rw [nm_X1_nips]; exact qs29)) <|
  fG mo_ifeq (sim_ifeq dX1_runs_342 rfl) <|
  fG mo_int (sim_iconst dX1_runs_345 (by decide)) <|
  fG mo_goto (sim_goto dX1_runs_346 rfl) <|
  trivial
theorem fX1_runs_349 {X : tp_X} {az : Array Value} (hG : tp_Good X az) (hSt : tp_Stat X) : tp_Fit X yX1_runs cX1_runs none 14 tp_nm tp_by tp_ml tp_rtt 349 [o_int (.iconst 0) 0, o_fall 350] :=
  fG mo_int (sim_iconst dX1_runs_349 (by decide)) <|
  fF
theorem fX1_runs_350 {X : tp_X} {az : Array Value} (hG : tp_Good X az) (hSt : tp_Stat X) : tp_Fit X yX1_runs cX1_runs none 14 tp_nm tp_by tp_ml tp_rtt 350 [o_sta .iastore [0], o_ild (.iload 12) 12, o_ist (.istore 5) 5, o_inc 9 1, o_goto (-287) 71] :=
  fG mo_sta (sim_iast dX1_runs_350) <|
  fG mo_ild (sim_ild dX1_runs_351) <|
  fG mo_ist (sim_ist dX1_runs_353) <|
  fG mo_inc (sim_inc dX1_runs_355 (by decide)) <|
  fG mo_goto (sim_goto dX1_runs_358 rfl) <|
  trivial
theorem fX1_runs_361 {X : tp_X} {az : Array Value} (hG : tp_Good X az) (hSt : tp_Stat X) : tp_Fit X yX1_runs cX1_runs none 14 tp_nm tp_by tp_ml tp_rtt 361 [o_ald (.aload_n 0) 0, o_getf (.getfield 63) 1 20, o_int (.iconst 1) 1, o_ild (.iload 9) 9, o_sta .iastore [0], o_ald (.aload_n 0) 0, o_getf (.getfield 63) 1 20, o_int (.iconst 2) 2, o_ild (.iload 6) 6, o_sta .iastore [0], o_ald (.aload_n 0) 0, o_getf (.getfield 63) 1 20, o_int (.iconst 3) 3, o_ild (.iload 7) 7, o_sta .iastore [0], o_vret] :=
  fG mo_ald (sim_ald_n dX1_runs_361 rfl) <|
  fG mo_getf (sim_getfG hG dX1_runs_362 hc_1 (by decide) rfl in_X1 (fun _ _ _ h => h) (Or.inl q276)) <|
  fG mo_int (sim_iconst dX1_runs_365 (by decide)) <|
  fG mo_ild (sim_ild dX1_runs_366) <|
  fG mo_sta (sim_iast dX1_runs_368) <|
  fG mo_ald (sim_ald_n dX1_runs_369 rfl) <|
  fG mo_getf (sim_getfG hG dX1_runs_370 hc_1 (by decide) rfl in_X1 (fun _ _ _ h => h) (Or.inl q276)) <|
  fG mo_int (sim_iconst dX1_runs_373 (by decide)) <|
  fG mo_ild (sim_ild dX1_runs_374) <|
  fG mo_sta (sim_iast dX1_runs_376) <|
  fG mo_ald (sim_ald_n dX1_runs_377 rfl) <|
  fG mo_getf (sim_getfG hG dX1_runs_378 hc_1 (by decide) rfl in_X1 (fun _ _ _ h => h) (Or.inl q276)) <|
  fG mo_int (sim_iconst dX1_runs_381 (by decide)) <|
  fG mo_ild (sim_ild dX1_runs_382) <|
  fG mo_sta (sim_iast dX1_runs_384) <|
  fE ie_vret (sim_vret dX1_runs_385 rfl)
theorem F_X1_runs {X : tp_X} {az : Array Value} (hG : tp_Good X az) (hSt : tp_Stat X) (pc : Nat) : tp_Fit X yX1_runs cX1_runs none 14 tp_nm tp_by tp_ml tp_rtt pc (mX1_runs pc) :=
  fI (fX1_runs_0 hG hSt) <| fI (fX1_runs_71 hG hSt) <| fI (fX1_runs_127 hG hSt) <| fI (fX1_runs_169 hG hSt) <| fI (fX1_runs_243 hG hSt) <| fI (fX1_runs_254 hG hSt) <| fI (fX1_runs_262 hG hSt) <| fI (fX1_runs_328 hG hSt) <| fI (fX1_runs_349 hG hSt) <| fI (fX1_runs_350 hG hSt) <| fI (fX1_runs_361 hG hSt) <| trivial
theorem fX1_orderBy_0 {X : tp_X} {az : Array Value} (hG : tp_Good X az) (hSt : tp_Stat X) : tp_Fit X yX1_orderBy cX1_orderBy (some .int) 9 tp_nm tp_by tp_ml tp_rtt 0 [o_int (.iconst 0) 0, o_ist (.istore 7) 7, o_fall 3] :=
  fG mo_int (sim_iconst dX1_orderBy_0 (by decide)) <|
  fG mo_ist (sim_ist dX1_orderBy_1) <|
  fF
theorem fX1_orderBy_3 {X : tp_X} {az : Array Value} (hG : tp_Good X az) (hSt : tp_Stat X) : tp_Fit X yX1_orderBy cX1_orderBy (some .int) 9 tp_nm tp_by tp_ml tp_rtt 3 [o_ild (.iload 7) 7, o_ald (.aload_n 1) 1, o_getf (.getfield 354) 5 3, o_cv (.invokevirtual 357) 15 kJ4_size 0 0, o_icmpge 101 113, o_ald (.aload_n 1) 1, o_getf (.getfield 354) 5 3, o_ild (.iload 7) 7, o_cv (.invokevirtual 361) 15 kJ4_get 1 0, o_cast (.checkcast 365) [14], o_ast (.astore 8) 8, o_ald (.aload_n 0) 0, o_ald (.aload_n 0) 0, o_getf (.getfield 66) 1 21, o_ild (.iload_n 2) 2, o_ild (.iload 5) 5, o_ild (.iload 6) 6, o_cv (.invokevirtual 191) 1 kX1_names 4 0, o_ald (.aload_n 0) 0, o_getf (.getfield 30) 1 9, o_int (.bipush 9) 9, o_ild (.iload_n 3) 3, o_sta .iastore [0], o_ald (.aload_n 0) 0, o_getf (.getfield 30) 1 9, o_int (.bipush 10) 10, o_ild (.iload 4) 4, o_sta .iastore [0], o_ald (.aload 8) 8, o_cv (.invokevirtual 367) 14 kX14_when 0 0, o_ald (.aload_n 0) 0, o_getf (.getfield 30) 1 9, o_ci (.invokeinterface 371 2) [(7, kX7_is), (12, kX12_is), (13, kX13_is)] 1 0, o_ifeq 34 107, o_ald (.aload_n 0) 0, o_ald (.aload 8) 8, o_cv (.invokevirtual 377) 14 kX14_order 0 0, o_ild (.iload_n 2) 2, o_ild (.iload_n 3) 3, o_ild (.iload 4) 4, o_ald (.aload_n 0) 0, o_getf (.getfield 66) 1 21, o_ild (.iload 5) 5, o_ild (.iload 6) 6, o_cv (.invokevirtual 232) 1 kX1_costOf 7 0, o_int (.iconst (-1)) (-1), o_icmpeq 9 107, o_ald (.aload 8) 8, o_cv (.invokevirtual 377) 14 kX14_order 0 0, o_iret 0] :=
  fG mo_ild (sim_ild dX1_orderBy_3) <|
  fG mo_ald (sim_ald_n dX1_orderBy_5 rfl) <|
  fG mo_getf (sim_getfG hG dX1_orderBy_6 hc_5 (by decide) rfl in_X5 (fun _ _ _ h => h) (Or.inr ⟨_, q469⟩)) <|
  fC (ic_cv (Or.inl rfl)) (sim_cv hG dX1_orderBy_9 (hG.2.1 15 _ hc_15).2.1 M_J4_size (by rw [nm_J4_size]; rfl) (by rw [nm_J4_size]; exact q1210) (by rw [nm_J4_size]; exact q835) (by rw [nm_J4_size]; exact q836)) <|
  fG mo_icmpge (sim_icmpge dX1_orderBy_12 rfl) <|
  fG mo_ald (sim_ald_n dX1_orderBy_15 rfl) <|
  fG mo_getf (sim_getfG hG dX1_orderBy_16 hc_5 (by decide) rfl in_X5 (fun _ _ _ h => h) (Or.inr ⟨_, q469⟩)) <|
  fG mo_ild (sim_ild dX1_orderBy_19) <|
  fC (ic_cv (Or.inl rfl)) (sim_cv hG dX1_orderBy_21 (hG.2.1 15 _ hc_15).2.1 M_J4_get (by rw [nm_J4_get]; rfl) (by rw [nm_J4_get]; exact q1211) (by rw [nm_J4_get]; exact q839) (by rw [nm_J4_get]; exact q840)) <|
  fG mo_cast (sim_cast hG dX1_orderBy_24 q1212 (fun c hc => by
    simp only [List.mem_cons, List.not_mem_nil, or_false] at hc
    obtain rfl := hc
    · exact ⟨_, rfl, Or.inl rfl⟩
    )) <|
  fG mo_ast (sim_ast dX1_orderBy_27) <|
  fG mo_ald (sim_ald_n dX1_orderBy_29 rfl) <|
  fG mo_ald (sim_ald_n dX1_orderBy_30 rfl) <|
  fG mo_getf (sim_getfG hG dX1_orderBy_31 hc_1 (by decide) rfl in_X1 (fun _ _ _ h => h) (Or.inl q277)) <|
  fG mo_ild (sim_ild_n dX1_orderBy_34 rfl) <|
  fG mo_ild (sim_ild dX1_orderBy_35) <|
  fG mo_ild (sim_ild dX1_orderBy_37) <|
  fC (ic_cv (Or.inl rfl)) (sim_cv hG dX1_orderBy_39 (hG.2.1 1 _ hc_1).2.1 M_X1_names (by rw [nm_X1_names]; rfl) (by rw [nm_X1_names]; exact q919) (by rw [nm_X1_names]; exact q921) (by rw [nm_X1_names]; exact qs24)) <|
  fG mo_ald (sim_ald_n dX1_orderBy_42 rfl) <|
  fG mo_getf (sim_getfG hG dX1_orderBy_43 hc_1 (by decide) rfl in_X1 (fun _ _ _ h => h) (Or.inl q265)) <|
  fG mo_int (sim_bipush dX1_orderBy_46 (by decide)) <|
  fG mo_ild (sim_ild_n dX1_orderBy_48 rfl) <|
  fG mo_sta (sim_iast dX1_orderBy_49) <|
  fG mo_ald (sim_ald_n dX1_orderBy_50 rfl) <|
  fG mo_getf (sim_getfG hG dX1_orderBy_51 hc_1 (by decide) rfl in_X1 (fun _ _ _ h => h) (Or.inl q265)) <|
  fG mo_int (sim_bipush dX1_orderBy_54 (by decide)) <|
  fG mo_ild (sim_ild dX1_orderBy_56) <|
  fG mo_sta (sim_iast dX1_orderBy_58) <|
  fG mo_ald (sim_ald dX1_orderBy_59) <|
  fC (ic_cv (Or.inl rfl)) (sim_cv hG dX1_orderBy_61 (hG.2.1 14 _ hc_14).2.1 M_X14_when (by rw [nm_X14_when]; rfl) (by rw [nm_X14_when]; exact q1213) (by rw [nm_X14_when]; exact q1214) (by rw [nm_X14_when]; exact q1215)) <|
  fG mo_ald (sim_ald_n dX1_orderBy_64 rfl) <|
  fG mo_getf (sim_getfG hG dX1_orderBy_65 hc_1 (by decide) rfl in_X1 (fun _ _ _ h => h) (Or.inl q265)) <|
  fC (ic_ci (Or.inl rfl)) (sim_ci hG dX1_orderBy_68 q1218 q932 q931 (by decide +kernel) (fun q hq => by
    simp only [List.mem_cons, List.not_mem_nil, or_false] at hq
    rcases hq with rfl | rfl | rfl
    · exact ⟨_, _, _, hc_7, M_X7_is, by rw [nm_X7_is]; rfl, by rw [nm_X7_is]; exact q999, by rw [nm_X7_is]; exact q1001, by rw [nm_X7_is]; exact q1002, q1000, q998, by rw [nm_X7_is]; rfl⟩
    · exact ⟨_, _, _, hc_12, M_X12_is, by rw [nm_X12_is]; rfl, by rw [nm_X12_is]; exact q945, by rw [nm_X12_is]; exact q947, by rw [nm_X12_is]; exact q948, q946, q944, by rw [nm_X12_is]; rfl⟩
    · exact ⟨_, _, _, hc_13, M_X13_is, by rw [nm_X13_is]; rfl, by rw [nm_X13_is]; exact q934, by rw [nm_X13_is]; exact q936, by rw [nm_X13_is]; exact q937, q935, q933, by rw [nm_X13_is]; rfl⟩
    )) <|
  fG mo_ifeq (sim_ifeq dX1_orderBy_73 rfl) <|
  fG mo_ald (sim_ald_n dX1_orderBy_76 rfl) <|
  fG mo_ald (sim_ald dX1_orderBy_77) <|
  fC (ic_cv (Or.inl rfl)) (sim_cv hG dX1_orderBy_79 (hG.2.1 14 _ hc_14).2.1 M_X14_order (by rw [nm_X14_order]; rfl) (by rw [nm_X14_order]; exact q1219) (by rw [nm_X14_order]; exact q1220) (by rw [nm_X14_order]; exact q1221)) <|
  fG mo_ild (sim_ild_n dX1_orderBy_82 rfl) <|
  fG mo_ild (sim_ild_n dX1_orderBy_83 rfl) <|
  fG mo_ild (sim_ild dX1_orderBy_84) <|
  fG mo_ald (sim_ald_n dX1_orderBy_86 rfl) <|
  fG mo_getf (sim_getfG hG dX1_orderBy_87 hc_1 (by decide) rfl in_X1 (fun _ _ _ h => h) (Or.inl q277)) <|
  fG mo_ild (sim_ild dX1_orderBy_90) <|
  fG mo_ild (sim_ild dX1_orderBy_92) <|
  fC (ic_cv (Or.inl rfl)) (sim_cv hG dX1_orderBy_94 (hG.2.1 1 _ hc_1).2.1 M_X1_costOf (by rw [nm_X1_costOf]; rfl) (by rw [nm_X1_costOf]; exact q896) (by rw [nm_X1_costOf]; exact q898) (by rw [nm_X1_costOf]; exact qs20)) <|
  fG mo_int (sim_iconst dX1_orderBy_97 (by decide)) <|
  fG mo_icmpeq (sim_icmpeq dX1_orderBy_98 rfl) <|
  fG mo_ald (sim_ald dX1_orderBy_101) <|
  fC (ic_cv (Or.inl rfl)) (sim_cv hG dX1_orderBy_103 (hG.2.1 14 _ hc_14).2.1 M_X14_order (by rw [nm_X14_order]; rfl) (by rw [nm_X14_order]; exact q1219) (by rw [nm_X14_order]; exact q1220) (by rw [nm_X14_order]; exact q1221)) <|
  fE ie_iret (sim_iret dX1_orderBy_106 rfl (Or.inl ⟨rfl, rfl⟩))
theorem fX1_orderBy_107 {X : tp_X} {az : Array Value} (hG : tp_Good X az) (hSt : tp_Stat X) : tp_Fit X yX1_orderBy cX1_orderBy (some .int) 9 tp_nm tp_by tp_ml tp_rtt 107 [o_inc 7 1, o_goto (-107) 3] :=
  fG mo_inc (sim_inc dX1_orderBy_107 (by decide)) <|
  fG mo_goto (sim_goto dX1_orderBy_110 rfl) <|
  trivial
theorem fX1_orderBy_113 {X : tp_X} {az : Array Value} (hG : tp_Good X az) (hSt : tp_Stat X) : tp_Fit X yX1_orderBy cX1_orderBy (some .int) 9 tp_nm tp_by tp_ml tp_rtt 113 [o_ald (.aload_n 0) 0, o_int (.iconst 4) 4, o_ild (.iload_n 2) 2, o_ild (.iload_n 3) 3, o_ild (.iload 4) 4, o_ald (.aload_n 0) 0, o_getf (.getfield 66) 1 21, o_ild (.iload 5) 5, o_ild (.iload 6) 6, o_cv (.invokevirtual 232) 1 kX1_costOf 7 0, o_int (.iconst (-1)) (-1), o_icmpeq 7 138, o_int (.iconst 4) 4, o_goto 5 140] :=
  fG mo_ald (sim_ald_n dX1_orderBy_113 rfl) <|
  fG mo_int (sim_iconst dX1_orderBy_114 (by decide)) <|
  fG mo_ild (sim_ild_n dX1_orderBy_115 rfl) <|
  fG mo_ild (sim_ild_n dX1_orderBy_116 rfl) <|
  fG mo_ild (sim_ild dX1_orderBy_117) <|
  fG mo_ald (sim_ald_n dX1_orderBy_119 rfl) <|
  fG mo_getf (sim_getfG hG dX1_orderBy_120 hc_1 (by decide) rfl in_X1 (fun _ _ _ h => h) (Or.inl q277)) <|
  fG mo_ild (sim_ild dX1_orderBy_123) <|
  fG mo_ild (sim_ild dX1_orderBy_125) <|
  fC (ic_cv (Or.inl rfl)) (sim_cv hG dX1_orderBy_127 (hG.2.1 1 _ hc_1).2.1 M_X1_costOf (by rw [nm_X1_costOf]; rfl) (by rw [nm_X1_costOf]; exact q896) (by rw [nm_X1_costOf]; exact q898) (by rw [nm_X1_costOf]; exact qs20)) <|
  fG mo_int (sim_iconst dX1_orderBy_130 (by decide)) <|
  fG mo_icmpeq (sim_icmpeq dX1_orderBy_131 rfl) <|
  fG mo_int (sim_iconst dX1_orderBy_134 (by decide)) <|
  fG mo_goto (sim_goto dX1_orderBy_135 rfl) <|
  trivial
theorem fX1_orderBy_138 {X : tp_X} {az : Array Value} (hG : tp_Good X az) (hSt : tp_Stat X) : tp_Fit X yX1_orderBy cX1_orderBy (some .int) 9 tp_nm tp_by tp_ml tp_rtt 138 [o_int (.bipush 6) 6, o_fall 140] :=
  fG mo_int (sim_bipush dX1_orderBy_138 (by decide)) <|
  fF
theorem fX1_orderBy_140 {X : tp_X} {az : Array Value} (hG : tp_Good X az) (hSt : tp_Stat X) : tp_Fit X yX1_orderBy cX1_orderBy (some .int) 9 tp_nm tp_by tp_ml tp_rtt 140 [o_iret 0] :=
  fE ie_iret (sim_iret dX1_orderBy_140 rfl (Or.inl ⟨rfl, rfl⟩))
theorem F_X1_orderBy {X : tp_X} {az : Array Value} (hG : tp_Good X az) (hSt : tp_Stat X) (pc : Nat) : tp_Fit X yX1_orderBy cX1_orderBy (some .int) 9 tp_nm tp_by tp_ml tp_rtt pc (mX1_orderBy pc) :=
  fI (fX1_orderBy_0 hG hSt) <| fI (fX1_orderBy_3 hG hSt) <| fI (fX1_orderBy_107 hG hSt) <| fI (fX1_orderBy_113 hG hSt) <| fI (fX1_orderBy_138 hG hSt) <| fI (fX1_orderBy_140 hG hSt) <| trivial
theorem fX1_runs_2_0 {X : tp_X} {az : Array Value} (hG : tp_Good X az) (hSt : tp_Stat X) : tp_Fit X yX1_runs_2 cX1_runs_2 (some .int) 8 tp_nm tp_by tp_ml tp_rtt 0 [o_ald (.aload_n 0) 0, o_ild (.iload_n 1) 1, o_ild (.iload_n 2) 2, o_ild (.iload 4) 4, o_cv (.invokevirtual 379) 1 kX1_isRun 3 0, o_ifeq 34 42, o_ild (.iload_n 3) 3, o_int (.iconst 1) 1, o_int (.bipush 40) 40, o_cs (.invokestatic 94) kX1_in 3 0, o_ifeq 24 42, o_ild (.iload_n 2) 2, o_ild (.iload_n 3) 3, o_iadd, o_int (.iconst 1) 1, o_isub, o_int (.sipush 9999) 9999, o_icmpgt 13 42, o_ild (.iload 5) 5, o_int (.iconst 0) 0, o_int (.iconst 2) 2, o_cs (.invokestatic 94) kX1_in 3 0, o_ifne 5 44, o_fall 42] :=
  fG mo_ald (sim_ald_n dX1_runs_2_0 rfl) <|
  fG mo_ild (sim_ild_n dX1_runs_2_1 rfl) <|
  fG mo_ild (sim_ild_n dX1_runs_2_2 rfl) <|
  fG mo_ild (sim_ild dX1_runs_2_3) <|
  fC (ic_cv (Or.inl rfl)) (sim_cv hG dX1_runs_2_5 (hG.2.1 1 _ hc_1).2.1 M_X1_isRun (by rw [nm_X1_isRun]; rfl) (by rw [nm_X1_isRun]; exact q1198) (by rw [nm_X1_isRun]; exact q1200) (by rw [nm_X1_isRun]; exact qs47)) <|
  fG mo_ifeq (sim_ifeq dX1_runs_2_8 rfl) <|
  fG mo_ild (sim_ild_n dX1_runs_2_11 rfl) <|
  fG mo_int (sim_iconst dX1_runs_2_12 (by decide)) <|
  fG mo_int (sim_bipush dX1_runs_2_13 (by decide)) <|
  fC (ic_cs (Or.inl rfl)) (sim_cs hG dX1_runs_2_15 M_X1_in (by rw [nm_X1_in]; rfl) (by rw [nm_X1_in]; exact q335) (by rw [nm_X1_in]; exact q336)) <|
  fG mo_ifeq (sim_ifeq dX1_runs_2_18 rfl) <|
  fG mo_ild (sim_ild_n dX1_runs_2_21 rfl) <|
  fG mo_ild (sim_ild_n dX1_runs_2_22 rfl) <|
  fG mo_iadd (sim_iadd dX1_runs_2_23) <|
  fG mo_int (sim_iconst dX1_runs_2_24 (by decide)) <|
  fG mo_isub (sim_isub dX1_runs_2_25) <|
  fG mo_int (sim_sipush dX1_runs_2_26 (by decide)) <|
  fG mo_icmpgt (sim_icmpgt dX1_runs_2_29 rfl) <|
  fG mo_ild (sim_ild dX1_runs_2_32) <|
  fG mo_int (sim_iconst dX1_runs_2_34 (by decide)) <|
  fG mo_int (sim_iconst dX1_runs_2_35 (by decide)) <|
  fC (ic_cs (Or.inl rfl)) (sim_cs hG dX1_runs_2_36 M_X1_in (by rw [nm_X1_in]; rfl) (by rw [nm_X1_in]; exact q335) (by rw [nm_X1_in]; exact q336)) <|
  fG mo_ifne (sim_ifne dX1_runs_2_39 rfl) <|
  fF
theorem fX1_runs_2_42 {X : tp_X} {az : Array Value} (hG : tp_Good X az) (hSt : tp_Stat X) : tp_Fit X yX1_runs_2 cX1_runs_2 (some .int) 8 tp_nm tp_by tp_ml tp_rtt 42 [o_int (.iconst (-1)) (-1), o_iret 0] :=
  fG mo_int (sim_iconst dX1_runs_2_42 (by decide)) <|
  fE ie_iret (sim_iret dX1_runs_2_43 rfl (Or.inl ⟨rfl, rfl⟩))
theorem fX1_runs_2_44 {X : tp_X} {az : Array Value} (hG : tp_Good X az) (hSt : tp_Stat X) : tp_Fit X yX1_runs_2 cX1_runs_2 (some .int) 8 tp_nm tp_by tp_ml tp_rtt 44 [o_int (.iconst 0) 0, o_ist (.istore 6) 6, o_int (.iconst 0) 0, o_ist (.istore 7) 7, o_fall 50] :=
  fG mo_int (sim_iconst dX1_runs_2_44 (by decide)) <|
  fG mo_ist (sim_ist dX1_runs_2_45) <|
  fG mo_int (sim_iconst dX1_runs_2_47 (by decide)) <|
  fG mo_ist (sim_ist dX1_runs_2_48) <|
  fF
theorem fX1_runs_2_50 {X : tp_X} {az : Array Value} (hG : tp_Good X az) (hSt : tp_Stat X) : tp_Fit X yX1_runs_2 cX1_runs_2 (some .int) 8 tp_nm tp_by tp_ml tp_rtt 50 [o_ild (.iload 7) 7, o_ild (.iload_n 3) 3, o_icmpge 49 102, o_ald (.aload_n 0) 0, o_ald (.aload_n 0) 0, o_getf (.getfield 12) 1 0, o_getf (.getfield 143) 2 12, o_ild (.iload_n 1) 1, o_lda .aaload [4, 5, 6, 7, 28, 29], o_ild (.iload_n 2) 2, o_ild (.iload 7) 7, o_iadd, o_ild (.iload 4) 4, o_cv (.invokevirtual 382) 1 kX1_runs 3 0, o_ild (.iload 6) 6, o_ald (.aload_n 0) 0, o_getf (.getfield 63) 1 20, o_int (.iconst 0) 0, o_lda .iaload [0, 20], o_ild (.iload 5) 5, o_icmpne 7 92, o_int (.iconst 1) 1, o_goto 4 93] :=
  fG mo_ild (sim_ild dX1_runs_2_50) <|
  fG mo_ild (sim_ild_n dX1_runs_2_52 rfl) <|
  fG mo_icmpge (sim_icmpge dX1_runs_2_53 rfl) <|
  fG mo_ald (sim_ald_n dX1_runs_2_56 rfl) <|
  fG mo_ald (sim_ald_n dX1_runs_2_57 rfl) <|
  fG mo_getf (sim_getfG hG dX1_runs_2_58 hc_1 (by decide) rfl in_X1 (fun _ _ _ h => h) (Or.inl q256)) <|
  fG mo_getf (sim_getfG hG dX1_runs_2_61 hc_2 (by decide) rfl in_X2 (fun _ _ _ h => h) (Or.inr ⟨_, q203⟩)) <|
  fG mo_ild (sim_ild_n dX1_runs_2_64 rfl) <|
  fG mo_lda (sim_aald dX1_runs_2_65) <|
  fG mo_ild (sim_ild_n dX1_runs_2_66 rfl) <|
  fG mo_ild (sim_ild dX1_runs_2_67) <|
  fG mo_iadd (sim_iadd dX1_runs_2_69) <|
  fG mo_ild (sim_ild dX1_runs_2_70) <|
  fC (ic_cv (Or.inl rfl)) (sim_cv hG dX1_runs_2_72 (hG.2.1 1 _ hc_1).2.1 M_X1_runs (by rw [nm_X1_runs]; rfl) (by rw [nm_X1_runs]; exact q1202) (by rw [nm_X1_runs]; exact q1204) (by rw [nm_X1_runs]; exact qs48)) <|
  fG mo_ild (sim_ild dX1_runs_2_75) <|
  fG mo_ald (sim_ald_n dX1_runs_2_77 rfl) <|
  fG mo_getf (sim_getfG hG dX1_runs_2_78 hc_1 (by decide) rfl in_X1 (fun _ _ _ h => h) (Or.inl q276)) <|
  fG mo_int (sim_iconst dX1_runs_2_81 (by decide)) <|
  fG mo_lda (sim_iald dX1_runs_2_82) <|
  fG mo_ild (sim_ild dX1_runs_2_83) <|
  fG mo_icmpne (sim_icmpne dX1_runs_2_85 rfl) <|
  fG mo_int (sim_iconst dX1_runs_2_88 (by decide)) <|
  fG mo_goto (sim_goto dX1_runs_2_89 rfl) <|
  trivial
theorem fX1_runs_2_92 {X : tp_X} {az : Array Value} (hG : tp_Good X az) (hSt : tp_Stat X) : tp_Fit X yX1_runs_2 cX1_runs_2 (some .int) 8 tp_nm tp_by tp_ml tp_rtt 92 [o_int (.iconst 0) 0, o_fall 93] :=
  fG mo_int (sim_iconst dX1_runs_2_92 (by decide)) <|
  fF
theorem fX1_runs_2_93 {X : tp_X} {az : Array Value} (hG : tp_Good X az) (hSt : tp_Stat X) : tp_Fit X yX1_runs_2 cX1_runs_2 (some .int) 8 tp_nm tp_by tp_ml tp_rtt 93 [o_iadd, o_ist (.istore 6) 6, o_inc 7 1, o_goto (-49) 50] :=
  fG mo_iadd (sim_iadd dX1_runs_2_93) <|
  fG mo_ist (sim_ist dX1_runs_2_94) <|
  fG mo_inc (sim_inc dX1_runs_2_96 (by decide)) <|
  fG mo_goto (sim_goto dX1_runs_2_99 rfl) <|
  trivial
theorem fX1_runs_2_102 {X : tp_X} {az : Array Value} (hG : tp_Good X az) (hSt : tp_Stat X) : tp_Fit X yX1_runs_2 cX1_runs_2 (some .int) 8 tp_nm tp_by tp_ml tp_rtt 102 [o_ild (.iload 6) 6, o_iret 0] :=
  fG mo_ild (sim_ild dX1_runs_2_102) <|
  fE ie_iret (sim_iret dX1_runs_2_104 rfl (Or.inl ⟨rfl, rfl⟩))
theorem F_X1_runs_2 {X : tp_X} {az : Array Value} (hG : tp_Good X az) (hSt : tp_Stat X) (pc : Nat) : tp_Fit X yX1_runs_2 cX1_runs_2 (some .int) 8 tp_nm tp_by tp_ml tp_rtt pc (mX1_runs_2 pc) :=
  fI (fX1_runs_2_0 hG hSt) <| fI (fX1_runs_2_42 hG hSt) <| fI (fX1_runs_2_44 hG hSt) <| fI (fX1_runs_2_50 hG hSt) <| fI (fX1_runs_2_92 hG hSt) <| fI (fX1_runs_2_93 hG hSt) <| fI (fX1_runs_2_102 hG hSt) <| trivial
theorem fX1_image_0 {X : tp_X} {az : Array Value} (hG : tp_Good X az) (hSt : tp_Stat X) : tp_Fit X yX1_image cX1_image (some .int) 1 tp_nm tp_by tp_ml tp_rtt 0 [o_ald (.aload_n 0) 0, o_getf (.getfield 16) 1 1, o_ald (.aload_n 0) 0, o_getf (.getfield 12) 1 0, o_cv (.invokevirtual 90) 2 kX2_be 1 0, o_ald (.aload_n 0) 0, o_getf (.getfield 12) 1 0, o_getf (.getfield 112) 2 0, o_int (.iconst 0) 0, o_lda .iaload [0, 20], o_iret 0] :=
  fG mo_ald (sim_ald_n dX1_image_0 rfl) <|
  fG mo_getf (sim_getfG hG dX1_image_1 hc_1 (by decide) rfl in_X1 (fun _ _ _ h => h) (Or.inl q257)) <|
  fG mo_ald (sim_ald_n dX1_image_4 rfl) <|
  fG mo_getf (sim_getfG hG dX1_image_5 hc_1 (by decide) rfl in_X1 (fun _ _ _ h => h) (Or.inl q256)) <|
  fC (ic_cv (Or.inl rfl)) (sim_cv hG dX1_image_8 (hG.2.1 2 _ hc_2).2.1 M_X2_be (by rw [nm_X2_be]; rfl) (by rw [nm_X2_be]; exact q243) (by rw [nm_X2_be]; exact q244) (by rw [nm_X2_be]; exact q245)) <|
  fG mo_ald (sim_ald_n dX1_image_11 rfl) <|
  fG mo_getf (sim_getfG hG dX1_image_12 hc_1 (by decide) rfl in_X1 (fun _ _ _ h => h) (Or.inl q256)) <|
  fG mo_getf (sim_getfG hG dX1_image_15 hc_2 (by decide) rfl in_X2 (fun _ _ _ h => h) (Or.inr ⟨_, q179⟩)) <|
  fG mo_int (sim_iconst dX1_image_18 (by decide)) <|
  fG mo_lda (sim_iald dX1_image_19) <|
  fE ie_iret (sim_iret dX1_image_20 rfl (Or.inl ⟨rfl, rfl⟩))
theorem F_X1_image {X : tp_X} {az : Array Value} (hG : tp_Good X az) (hSt : tp_Stat X) (pc : Nat) : tp_Fit X yX1_image cX1_image (some .int) 1 tp_nm tp_by tp_ml tp_rtt pc (mX1_image pc) :=
  fI (fX1_image_0 hG hSt) <| trivial
theorem fX1_back_0 {X : tp_X} {az : Array Value} (hG : tp_Good X az) (hSt : tp_Stat X) : tp_Fit X yX1_back cX1_back (some .int) 1 tp_nm tp_by tp_ml tp_rtt 0 [o_ald (.aload_n 0) 0, o_getf (.getfield 12) 1 0, o_ald (.aload_n 0) 0, o_getf (.getfield 16) 1 1, o_cv (.invokevirtual 90) 2 kX2_be 1 0, o_ald (.aload_n 0) 0, o_getf (.getfield 12) 1 0, o_getf (.getfield 112) 2 0, o_int (.iconst 0) 0, o_lda .iaload [0, 20], o_iret 0] :=
  fG mo_ald (sim_ald_n dX1_back_0 rfl) <|
  fG mo_getf (sim_getfG hG dX1_back_1 hc_1 (by decide) rfl in_X1 (fun _ _ _ h => h) (Or.inl q256)) <|
  fG mo_ald (sim_ald_n dX1_back_4 rfl) <|
  fG mo_getf (sim_getfG hG dX1_back_5 hc_1 (by decide) rfl in_X1 (fun _ _ _ h => h) (Or.inl q257)) <|
  fC (ic_cv (Or.inl rfl)) (sim_cv hG dX1_back_8 (hG.2.1 2 _ hc_2).2.1 M_X2_be (by rw [nm_X2_be]; rfl) (by rw [nm_X2_be]; exact q243) (by rw [nm_X2_be]; exact q244) (by rw [nm_X2_be]; exact q245)) <|
  fG mo_ald (sim_ald_n dX1_back_11 rfl) <|
  fG mo_getf (sim_getfG hG dX1_back_12 hc_1 (by decide) rfl in_X1 (fun _ _ _ h => h) (Or.inl q256)) <|
  fG mo_getf (sim_getfG hG dX1_back_15 hc_2 (by decide) rfl in_X2 (fun _ _ _ h => h) (Or.inr ⟨_, q179⟩)) <|
  fG mo_int (sim_iconst dX1_back_18 (by decide)) <|
  fG mo_lda (sim_iald dX1_back_19) <|
  fE ie_iret (sim_iret dX1_back_20 rfl (Or.inl ⟨rfl, rfl⟩))
theorem F_X1_back {X : tp_X} {az : Array Value} (hG : tp_Good X az) (hSt : tp_Stat X) (pc : Nat) : tp_Fit X yX1_back cX1_back (some .int) 1 tp_nm tp_by tp_ml tp_rtt pc (mX1_back pc) :=
  fI (fX1_back_0 hG hSt) <| trivial
theorem fX1_about_0 {X : tp_X} {az : Array Value} (hG : tp_Good X az) (hSt : tp_Stat X) : tp_Fit X yX1_about cX1_about (some .int) 2 tp_nm tp_by tp_ml tp_rtt 0 [o_ild (.iload_n 1) 1, o_sw (.tableswitch 171 0 11 #[63, 68, 73, 83, 93, 103, 113, 123, 133, 144, 155, 160]) [(0, 64), (1, 69), (2, 74), (3, 84), (4, 94), (5, 104), (6, 114), (7, 124), (8, 134), (9, 145), (10, 156), (11, 161)] 172] :=
  fG mo_ild (sim_ild_n dX1_about_0 rfl) <|
  fG mo_sw (sim_tsw dX1_about_1 (by decide +kernel) (by decide +kernel)) <|
  trivial
theorem fX1_about_64 {X : tp_X} {az : Array Value} (hG : tp_Good X az) (hSt : tp_Stat X) : tp_Fit X yX1_about cX1_about (some .int) 2 tp_nm tp_by tp_ml tp_rtt 64 [o_ald (.aload_n 0) 0, o_getf (.getfield 81) 1 2, o_iret 0] :=
  fG mo_ald (sim_ald_n dX1_about_64 rfl) <|
  fG mo_getf (sim_getfG hG dX1_about_65 hc_1 (by decide) rfl in_X1 (fun _ _ _ h => h) (Or.inl q258)) <|
  fE ie_iret (sim_iret dX1_about_68 rfl (Or.inl ⟨rfl, rfl⟩))
theorem fX1_about_69 {X : tp_X} {az : Array Value} (hG : tp_Good X az) (hSt : tp_Stat X) : tp_Fit X yX1_about cX1_about (some .int) 2 tp_nm tp_by tp_ml tp_rtt 69 [o_ald (.aload_n 0) 0, o_getf (.getfield 84) 1 3, o_iret 0] :=
  fG mo_ald (sim_ald_n dX1_about_69 rfl) <|
  fG mo_getf (sim_getfG hG dX1_about_70 hc_1 (by decide) rfl in_X1 (fun _ _ _ h => h) (Or.inl q259)) <|
  fE ie_iret (sim_iret dX1_about_73 rfl (Or.inl ⟨rfl, rfl⟩))
theorem fX1_about_74 {X : tp_X} {az : Array Value} (hG : tp_Good X az) (hSt : tp_Stat X) : tp_Fit X yX1_about cX1_about (some .int) 2 tp_nm tp_by tp_ml tp_rtt 74 [o_ald (.aload_n 0) 0, o_getf (.getfield 12) 1 0, o_getf (.getfield 112) 2 0, o_int (.iconst 0) 0, o_lda .iaload [0, 20], o_iret 0] :=
  fG mo_ald (sim_ald_n dX1_about_74 rfl) <|
  fG mo_getf (sim_getfG hG dX1_about_75 hc_1 (by decide) rfl in_X1 (fun _ _ _ h => h) (Or.inl q256)) <|
  fG mo_getf (sim_getfG hG dX1_about_78 hc_2 (by decide) rfl in_X2 (fun _ _ _ h => h) (Or.inr ⟨_, q179⟩)) <|
  fG mo_int (sim_iconst dX1_about_81 (by decide)) <|
  fG mo_lda (sim_iald dX1_about_82) <|
  fE ie_iret (sim_iret dX1_about_83 rfl (Or.inl ⟨rfl, rfl⟩))
theorem fX1_about_84 {X : tp_X} {az : Array Value} (hG : tp_Good X az) (hSt : tp_Stat X) : tp_Fit X yX1_about cX1_about (some .int) 2 tp_nm tp_by tp_ml tp_rtt 84 [o_ald (.aload_n 0) 0, o_getf (.getfield 12) 1 0, o_getf (.getfield 112) 2 0, o_int (.iconst 1) 1, o_lda .iaload [0, 20], o_iret 0] :=
  fG mo_ald (sim_ald_n dX1_about_84 rfl) <|
  fG mo_getf (sim_getfG hG dX1_about_85 hc_1 (by decide) rfl in_X1 (fun _ _ _ h => h) (Or.inl q256)) <|
  fG mo_getf (sim_getfG hG dX1_about_88 hc_2 (by decide) rfl in_X2 (fun _ _ _ h => h) (Or.inr ⟨_, q179⟩)) <|
  fG mo_int (sim_iconst dX1_about_91 (by decide)) <|
  fG mo_lda (sim_iald dX1_about_92) <|
  fE ie_iret (sim_iret dX1_about_93 rfl (Or.inl ⟨rfl, rfl⟩))
theorem fX1_about_94 {X : tp_X} {az : Array Value} (hG : tp_Good X az) (hSt : tp_Stat X) : tp_Fit X yX1_about cX1_about (some .int) 2 tp_nm tp_by tp_ml tp_rtt 94 [o_ald (.aload_n 0) 0, o_getf (.getfield 12) 1 0, o_getf (.getfield 112) 2 0, o_int (.iconst 2) 2, o_lda .iaload [0, 20], o_iret 0] :=
  fG mo_ald (sim_ald_n dX1_about_94 rfl) <|
  fG mo_getf (sim_getfG hG dX1_about_95 hc_1 (by decide) rfl in_X1 (fun _ _ _ h => h) (Or.inl q256)) <|
  fG mo_getf (sim_getfG hG dX1_about_98 hc_2 (by decide) rfl in_X2 (fun _ _ _ h => h) (Or.inr ⟨_, q179⟩)) <|
  fG mo_int (sim_iconst dX1_about_101 (by decide)) <|
  fG mo_lda (sim_iald dX1_about_102) <|
  fE ie_iret (sim_iret dX1_about_103 rfl (Or.inl ⟨rfl, rfl⟩))
theorem fX1_about_104 {X : tp_X} {az : Array Value} (hG : tp_Good X az) (hSt : tp_Stat X) : tp_Fit X yX1_about cX1_about (some .int) 2 tp_nm tp_by tp_ml tp_rtt 104 [o_ald (.aload_n 0) 0, o_getf (.getfield 12) 1 0, o_getf (.getfield 112) 2 0, o_int (.iconst 3) 3, o_lda .iaload [0, 20], o_iret 0] :=
  fG mo_ald (sim_ald_n dX1_about_104 rfl) <|
  fG mo_getf (sim_getfG hG dX1_about_105 hc_1 (by decide) rfl in_X1 (fun _ _ _ h => h) (Or.inl q256)) <|
  fG mo_getf (sim_getfG hG dX1_about_108 hc_2 (by decide) rfl in_X2 (fun _ _ _ h => h) (Or.inr ⟨_, q179⟩)) <|
  fG mo_int (sim_iconst dX1_about_111 (by decide)) <|
  fG mo_lda (sim_iald dX1_about_112) <|
  fE ie_iret (sim_iret dX1_about_113 rfl (Or.inl ⟨rfl, rfl⟩))
theorem fX1_about_114 {X : tp_X} {az : Array Value} (hG : tp_Good X az) (hSt : tp_Stat X) : tp_Fit X yX1_about cX1_about (some .int) 2 tp_nm tp_by tp_ml tp_rtt 114 [o_ald (.aload_n 0) 0, o_getf (.getfield 12) 1 0, o_getf (.getfield 112) 2 0, o_int (.iconst 4) 4, o_lda .iaload [0, 20], o_iret 0] :=
  fG mo_ald (sim_ald_n dX1_about_114 rfl) <|
  fG mo_getf (sim_getfG hG dX1_about_115 hc_1 (by decide) rfl in_X1 (fun _ _ _ h => h) (Or.inl q256)) <|
  fG mo_getf (sim_getfG hG dX1_about_118 hc_2 (by decide) rfl in_X2 (fun _ _ _ h => h) (Or.inr ⟨_, q179⟩)) <|
  fG mo_int (sim_iconst dX1_about_121 (by decide)) <|
  fG mo_lda (sim_iald dX1_about_122) <|
  fE ie_iret (sim_iret dX1_about_123 rfl (Or.inl ⟨rfl, rfl⟩))
theorem fX1_about_124 {X : tp_X} {az : Array Value} (hG : tp_Good X az) (hSt : tp_Stat X) : tp_Fit X yX1_about cX1_about (some .int) 2 tp_nm tp_by tp_ml tp_rtt 124 [o_ald (.aload_n 0) 0, o_getf (.getfield 12) 1 0, o_getf (.getfield 112) 2 0, o_int (.iconst 5) 5, o_lda .iaload [0, 20], o_iret 0] :=
  fG mo_ald (sim_ald_n dX1_about_124 rfl) <|
  fG mo_getf (sim_getfG hG dX1_about_125 hc_1 (by decide) rfl in_X1 (fun _ _ _ h => h) (Or.inl q256)) <|
  fG mo_getf (sim_getfG hG dX1_about_128 hc_2 (by decide) rfl in_X2 (fun _ _ _ h => h) (Or.inr ⟨_, q179⟩)) <|
  fG mo_int (sim_iconst dX1_about_131 (by decide)) <|
  fG mo_lda (sim_iald dX1_about_132) <|
  fE ie_iret (sim_iret dX1_about_133 rfl (Or.inl ⟨rfl, rfl⟩))
theorem fX1_about_134 {X : tp_X} {az : Array Value} (hG : tp_Good X az) (hSt : tp_Stat X) : tp_Fit X yX1_about cX1_about (some .int) 2 tp_nm tp_by tp_ml tp_rtt 134 [o_ald (.aload_n 0) 0, o_getf (.getfield 12) 1 0, o_getf (.getfield 112) 2 0, o_int (.bipush 6) 6, o_lda .iaload [0, 20], o_iret 0] :=
  fG mo_ald (sim_ald_n dX1_about_134 rfl) <|
  fG mo_getf (sim_getfG hG dX1_about_135 hc_1 (by decide) rfl in_X1 (fun _ _ _ h => h) (Or.inl q256)) <|
  fG mo_getf (sim_getfG hG dX1_about_138 hc_2 (by decide) rfl in_X2 (fun _ _ _ h => h) (Or.inr ⟨_, q179⟩)) <|
  fG mo_int (sim_bipush dX1_about_141 (by decide)) <|
  fG mo_lda (sim_iald dX1_about_143) <|
  fE ie_iret (sim_iret dX1_about_144 rfl (Or.inl ⟨rfl, rfl⟩))
theorem fX1_about_145 {X : tp_X} {az : Array Value} (hG : tp_Good X az) (hSt : tp_Stat X) : tp_Fit X yX1_about cX1_about (some .int) 2 tp_nm tp_by tp_ml tp_rtt 145 [o_ald (.aload_n 0) 0, o_getf (.getfield 12) 1 0, o_getf (.getfield 112) 2 0, o_int (.bipush 7) 7, o_lda .iaload [0, 20], o_iret 0] :=
  fG mo_ald (sim_ald_n dX1_about_145 rfl) <|
  fG mo_getf (sim_getfG hG dX1_about_146 hc_1 (by decide) rfl in_X1 (fun _ _ _ h => h) (Or.inl q256)) <|
  fG mo_getf (sim_getfG hG dX1_about_149 hc_2 (by decide) rfl in_X2 (fun _ _ _ h => h) (Or.inr ⟨_, q179⟩)) <|
  fG mo_int (sim_bipush dX1_about_152 (by decide)) <|
  fG mo_lda (sim_iald dX1_about_154) <|
  fE ie_iret (sim_iret dX1_about_155 rfl (Or.inl ⟨rfl, rfl⟩))
theorem fX1_about_156 {X : tp_X} {az : Array Value} (hG : tp_Good X az) (hSt : tp_Stat X) : tp_Fit X yX1_about cX1_about (some .int) 2 tp_nm tp_by tp_ml tp_rtt 156 [o_ald (.aload_n 0) 0, o_getf (.getfield 136) 1 6, o_iret 0] :=
  fG mo_ald (sim_ald_n dX1_about_156 rfl) <|
  fG mo_getf (sim_getfG hG dX1_about_157 hc_1 (by decide) rfl in_X1 (fun _ _ _ h => h) (Or.inl q262)) <|
  fE ie_iret (sim_iret dX1_about_160 rfl (Or.inl ⟨rfl, rfl⟩))
theorem fX1_about_161 {X : tp_X} {az : Array Value} (hG : tp_Good X az) (hSt : tp_Stat X) : tp_Fit X yX1_about cX1_about (some .int) 2 tp_nm tp_by tp_ml tp_rtt 161 [o_ald (.aload_n 0) 0, o_getf (.getfield 12) 1 0, o_getf (.getfield 112) 2 0, o_int (.bipush 8) 8, o_lda .iaload [0, 20], o_iret 0] :=
  fG mo_ald (sim_ald_n dX1_about_161 rfl) <|
  fG mo_getf (sim_getfG hG dX1_about_162 hc_1 (by decide) rfl in_X1 (fun _ _ _ h => h) (Or.inl q256)) <|
  fG mo_getf (sim_getfG hG dX1_about_165 hc_2 (by decide) rfl in_X2 (fun _ _ _ h => h) (Or.inr ⟨_, q179⟩)) <|
  fG mo_int (sim_bipush dX1_about_168 (by decide)) <|
  fG mo_lda (sim_iald dX1_about_170) <|
  fE ie_iret (sim_iret dX1_about_171 rfl (Or.inl ⟨rfl, rfl⟩))
theorem fX1_about_172 {X : tp_X} {az : Array Value} (hG : tp_Good X az) (hSt : tp_Stat X) : tp_Fit X yX1_about cX1_about (some .int) 2 tp_nm tp_by tp_ml tp_rtt 172 [o_int (.bipush (-2)) (-2), o_iret 0] :=
  fG mo_int (sim_bipush dX1_about_172 (by decide)) <|
  fE ie_iret (sim_iret dX1_about_174 rfl (Or.inl ⟨rfl, rfl⟩))
theorem F_X1_about {X : tp_X} {az : Array Value} (hG : tp_Good X az) (hSt : tp_Stat X) (pc : Nat) : tp_Fit X yX1_about cX1_about (some .int) 2 tp_nm tp_by tp_ml tp_rtt pc (mX1_about pc) :=
  fI (fX1_about_0 hG hSt) <| fI (fX1_about_64 hG hSt) <| fI (fX1_about_69 hG hSt) <| fI (fX1_about_74 hG hSt) <| fI (fX1_about_84 hG hSt) <| fI (fX1_about_94 hG hSt) <| fI (fX1_about_104 hG hSt) <| fI (fX1_about_114 hG hSt) <| fI (fX1_about_124 hG hSt) <| fI (fX1_about_134 hG hSt) <| fI (fX1_about_145 hG hSt) <| fI (fX1_about_156 hG hSt) <| fI (fX1_about_161 hG hSt) <| fI (fX1_about_172 hG hSt) <| trivial
theorem fX10_init_0 {X : tp_X} {az : Array Value} (hG : tp_Good X az) (hSt : tp_Stat X) : tp_Fit X yX10_init cX10_init none 2 tp_nm tp_by tp_ml tp_rtt 0 [o_ald (.aload_n 0) 0, o_cp (.invokespecial 1) kJ11_init 0 0, o_ald (.aload_n 0) 0, o_ild (.iload_n 1) 1, o_putf (.putfield 7) 10 0 0, o_vret] :=
  fG mo_ald (sim_ald_n dX10_init_0 rfl) <|
  fC (ic_cp (Or.inl rfl)) (sim_cp hG dX10_init_1 M_J11_init (by rw [nm_J11_init]; rfl) rt_J11_init (by rw [nm_J11_init]; rfl) (by rw [nm_J11_init]; exact q693) (by rw [nm_J11_init]; exact q653)) <|
  fG mo_ald (sim_ald_n dX10_init_4 rfl) <|
  fG mo_ild (sim_ild_n dX10_init_5 rfl) <|
  fG mo_putf (sim_putfF hG dX10_init_6 hc_10 (by decide) rfl (by decide) in_X10 tyX10_ok nmX10 (Or.inl ⟨rfl, rfl⟩) (fun _ _ _ h => h) rfl rfl rfl q694) <|
  fE ie_vret (sim_vret dX10_init_9 rfl)
theorem F_X10_init {X : tp_X} {az : Array Value} (hG : tp_Good X az) (hSt : tp_Stat X) (pc : Nat) : tp_Fit X yX10_init cX10_init none 2 tp_nm tp_by tp_ml tp_rtt pc (mX10_init pc) :=
  fI (fX10_init_0 hG hSt) <| trivial
theorem fX10_of_0 {X : tp_X} {az : Array Value} (hG : tp_Good X az) (hSt : tp_Stat X) : tp_Fit X yX10_of cX10_of (some .long) 2 tp_nm tp_by tp_ml tp_rtt 0 [o_ald (.aload_n 1) 1, o_ald (.aload_n 0) 0, o_getf (.getfield 7) 10 0, o_lda .iaload [0, 20], o_i2l, o_lret] :=
  fG mo_ald (sim_ald_n dX10_of_0 rfl) <|
  fG mo_ald (sim_ald_n dX10_of_1 rfl) <|
  fG mo_getf (sim_getfG hG dX10_of_2 hc_10 (by decide) rfl in_X10 (fun _ _ _ h => h) (Or.inl q694)) <|
  fG mo_lda (sim_iald dX10_of_5) <|
  fG mo_i2l (sim_i2l dX10_of_6) <|
  fE ie_lret (sim_lret dX10_of_7 rfl)
theorem F_X10_of {X : tp_X} {az : Array Value} (hG : tp_Good X az) (hSt : tp_Stat X) (pc : Nat) : tp_Fit X yX10_of cX10_of (some .long) 2 tp_nm tp_by tp_ml tp_rtt pc (mX10_of pc) :=
  fI (fX10_of_0 hG hSt) <| trivial
theorem fX11_init_0 {X : tp_X} {az : Array Value} (hG : tp_Good X az) (hSt : tp_Stat X) : tp_Fit X yX11_init cX11_init none 2 tp_nm tp_by tp_ml tp_rtt 0 [o_ald (.aload_n 0) 0, o_cp (.invokespecial 1) kJ11_init 0 0, o_ald (.aload_n 0) 0, o_ald (.aload_n 1) 1, o_putf (.putfield 7) 11 0 4, o_vret] :=
  fG mo_ald (sim_ald_n dX11_init_0 rfl) <|
  fC (ic_cp (Or.inl rfl)) (sim_cp hG dX11_init_1 M_J11_init (by rw [nm_J11_init]; rfl) rt_J11_init (by rw [nm_J11_init]; rfl) (by rw [nm_J11_init]; exact q707) (by rw [nm_J11_init]; exact q653)) <|
  fG mo_ald (sim_ald_n dX11_init_4 rfl) <|
  fG mo_ald (sim_ald_n dX11_init_5 rfl) <|
  fG mo_putf (sim_putfF hG dX11_init_6 hc_11 (by decide) rfl (by decide) in_X11 tyX11_ok nmX11 (Or.inr (Or.inr (Or.inr (Or.inr ⟨Or.inl ⟨_, rfl⟩, by decide⟩)))) (fun _ _ _ h => h) rfl rfl rfl q708) <|
  fE ie_vret (sim_vret dX11_init_9 rfl)
theorem F_X11_init {X : tp_X} {az : Array Value} (hG : tp_Good X az) (hSt : tp_Stat X) (pc : Nat) : tp_Fit X yX11_init cX11_init none 2 tp_nm tp_by tp_ml tp_rtt pc (mX11_init pc) :=
  fI (fX11_init_0 hG hSt) <| trivial
theorem fX11_of_0 {X : tp_X} {az : Array Value} (hG : tp_Good X az) (hSt : tp_Stat X) : tp_Fit X yX11_of cX11_of (some .long) 2 tp_nm tp_by tp_ml tp_rtt 0 [o_ald (.aload_n 0) 0, o_getf (.getfield 7) 11 0, o_ald (.aload_n 1) 1, o_ci (.invokeinterface 13 2) [(8, kX8_of), (9, kX9_of), (10, kX10_of), (11, kX11_of)] 1 0, o_lneg, o_lret] :=
  fG mo_ald (sim_ald_n dX11_of_0 rfl) <|
  fG mo_getf (sim_getfG hG dX11_of_1 hc_11 (by decide) rfl in_X11 (fun _ _ _ h => h) (Or.inl q708)) <|
  fG mo_ald (sim_ald_n dX11_of_4 rfl) <|
  fC (ic_ci (Or.inl rfl)) (sim_ci hG dX11_of_5 q969 q953 q952 (by decide +kernel) (fun q hq => by
    simp only [List.mem_cons, List.not_mem_nil, or_false] at hq
    rcases hq with rfl | rfl | rfl | rfl
    · exact ⟨_, _, _, hc_8, M_X8_of, by rw [nm_X8_of]; rfl, by rw [nm_X8_of]; exact q955, by rw [nm_X8_of]; exact q957, by rw [nm_X8_of]; exact q958, q956, q954, by rw [nm_X8_of]; rfl⟩
    · exact ⟨_, _, _, hc_9, M_X9_of, by rw [nm_X9_of]; rfl, by rw [nm_X9_of]; exact q977, by rw [nm_X9_of]; exact q979, by rw [nm_X9_of]; exact q980, q978, q976, by rw [nm_X9_of]; rfl⟩
    · exact ⟨_, _, _, hc_10, M_X10_of, by rw [nm_X10_of]; rfl, by rw [nm_X10_of]; exact q971, by rw [nm_X10_of]; exact q973, by rw [nm_X10_of]; exact q974, q972, q970, by rw [nm_X10_of]; rfl⟩
    · exact ⟨_, _, _, hc_11, M_X11_of, by rw [nm_X11_of]; rfl, by rw [nm_X11_of]; exact q963, by rw [nm_X11_of]; exact q965, by rw [nm_X11_of]; exact q966, q964, q962, by rw [nm_X11_of]; rfl⟩
    )) <|
  fG mo_lneg (sim_lneg dX11_of_10) <|
  fE ie_lret (sim_lret dX11_of_11 rfl)
theorem F_X11_of {X : tp_X} {az : Array Value} (hG : tp_Good X az) (hSt : tp_Stat X) (pc : Nat) : tp_Fit X yX11_of cX11_of (some .long) 2 tp_nm tp_by tp_ml tp_rtt pc (mX11_of pc) :=
  fI (fX11_of_0 hG hSt) <| trivial
theorem fX12_init_0 {X : tp_X} {az : Array Value} (hG : tp_Good X az) (hSt : tp_Stat X) : tp_Fit X yX12_init cX12_init none 4 tp_nm tp_by tp_ml tp_rtt 0 [o_ald (.aload_n 0) 0, o_cp (.invokespecial 1) kJ11_init 0 0, o_ald (.aload_n 0) 0, o_ild (.iload_n 1) 1, o_putf (.putfield 7) 12 0 0, o_ald (.aload_n 0) 0, o_ald (.aload_n 2) 2, o_putf (.putfield 13) 12 1 4, o_ald (.aload_n 0) 0, o_ald (.aload_n 3) 3, o_putf (.putfield 17) 12 2 4, o_vret] :=
  fG mo_ald (sim_ald_n dX12_init_0 rfl) <|
  fC (ic_cp (Or.inl rfl)) (sim_cp hG dX12_init_1 M_J11_init (by rw [nm_J11_init]; rfl) rt_J11_init (by rw [nm_J11_init]; rfl) (by rw [nm_J11_init]; exact q822) (by rw [nm_J11_init]; exact q653)) <|
  fG mo_ald (sim_ald_n dX12_init_4 rfl) <|
  fG mo_ild (sim_ild_n dX12_init_5 rfl) <|
  fG mo_putf (sim_putfF hG dX12_init_6 hc_12 (by decide) rfl (by decide) in_X12 tyX12_ok nmX12 (Or.inl ⟨rfl, rfl⟩) (fun _ _ _ h => h) rfl rfl rfl q823) <|
  fG mo_ald (sim_ald_n dX12_init_9 rfl) <|
  fG mo_ald (sim_ald_n dX12_init_10 rfl) <|
  fG mo_putf (sim_putfF hG dX12_init_11 hc_12 (by decide) rfl (by decide) in_X12 tyX12_ok nmX12 (Or.inr (Or.inr (Or.inr (Or.inr ⟨Or.inl ⟨_, rfl⟩, by decide⟩)))) (fun _ _ _ h => h) rfl rfl rfl q824) <|
  fG mo_ald (sim_ald_n dX12_init_14 rfl) <|
  fG mo_ald (sim_ald_n dX12_init_15 rfl) <|
  fG mo_putf (sim_putfF hG dX12_init_16 hc_12 (by decide) rfl (by decide) in_X12 tyX12_ok nmX12 (Or.inr (Or.inr (Or.inr (Or.inr ⟨Or.inl ⟨_, rfl⟩, by decide⟩)))) (fun _ _ _ h => h) rfl rfl rfl q825) <|
  fE ie_vret (sim_vret dX12_init_19 rfl)
theorem F_X12_init {X : tp_X} {az : Array Value} (hG : tp_Good X az) (hSt : tp_Stat X) (pc : Nat) : tp_Fit X yX12_init cX12_init none 4 tp_nm tp_by tp_ml tp_rtt pc (mX12_init pc) :=
  fI (fX12_init_0 hG hSt) <| trivial
theorem fX12_is_0 {X : tp_X} {az : Array Value} (hG : tp_Good X az) (hSt : tp_Stat X) : tp_Fit X yX12_is cX12_is (some .boolean) 4 tp_nm tp_by tp_ml tp_rtt 0 [o_ald (.aload_n 0) 0, o_getf (.getfield 13) 12 1, o_ald (.aload_n 1) 1, o_ci (.invokeinterface 20 2) [(8, kX8_of), (9, kX9_of), (10, kX10_of), (11, kX11_of)] 1 0, o_ald (.aload_n 0) 0, o_getf (.getfield 17) 12 2, o_ald (.aload_n 1) 1, o_ci (.invokeinterface 20 2) [(8, kX8_of), (9, kX9_of), (10, kX10_of), (11, kX11_of)] 1 0, o_lsub, o_lst (.lstore_n 2) 2, o_ald (.aload_n 0) 0, o_getf (.getfield 7) 12 0, o_sw (.lookupswitch 110 #[(35, 86), (60, 50), (61, 74), (62, 62), (303, 98)]) [(35, 112), (60, 76), (61, 100), (62, 88), (303, 124)] 136] :=
  fG mo_ald (sim_ald_n dX12_is_0 rfl) <|
  fG mo_getf (sim_getfG hG dX12_is_1 hc_12 (by decide) rfl in_X12 (fun _ _ _ h => h) (Or.inl q824)) <|
  fG mo_ald (sim_ald_n dX12_is_4 rfl) <|
  fC (ic_ci (Or.inl rfl)) (sim_ci hG dX12_is_5 q951 q953 q952 (by decide +kernel) (fun q hq => by
    simp only [List.mem_cons, List.not_mem_nil, or_false] at hq
    rcases hq with rfl | rfl | rfl | rfl
    · exact ⟨_, _, _, hc_8, M_X8_of, by rw [nm_X8_of]; rfl, by rw [nm_X8_of]; exact q955, by rw [nm_X8_of]; exact q957, by rw [nm_X8_of]; exact q958, q956, q954, by rw [nm_X8_of]; rfl⟩
    · exact ⟨_, _, _, hc_9, M_X9_of, by rw [nm_X9_of]; rfl, by rw [nm_X9_of]; exact q977, by rw [nm_X9_of]; exact q979, by rw [nm_X9_of]; exact q980, q978, q976, by rw [nm_X9_of]; rfl⟩
    · exact ⟨_, _, _, hc_10, M_X10_of, by rw [nm_X10_of]; rfl, by rw [nm_X10_of]; exact q971, by rw [nm_X10_of]; exact q973, by rw [nm_X10_of]; exact q974, q972, q970, by rw [nm_X10_of]; rfl⟩
    · exact ⟨_, _, _, hc_11, M_X11_of, by rw [nm_X11_of]; rfl, by rw [nm_X11_of]; exact q963, by rw [nm_X11_of]; exact q965, by rw [nm_X11_of]; exact q966, q964, q962, by rw [nm_X11_of]; rfl⟩
    )) <|
  fG mo_ald (sim_ald_n dX12_is_10 rfl) <|
  fG mo_getf (sim_getfG hG dX12_is_11 hc_12 (by decide) rfl in_X12 (fun _ _ _ h => h) (Or.inl q825)) <|
  fG mo_ald (sim_ald_n dX12_is_14 rfl) <|
  fC (ic_ci (Or.inl rfl)) (sim_ci hG dX12_is_15 q951 q953 q952 (by decide +kernel) (fun q hq => by
    simp only [List.mem_cons, List.not_mem_nil, or_false] at hq
    rcases hq with rfl | rfl | rfl | rfl
    · exact ⟨_, _, _, hc_8, M_X8_of, by rw [nm_X8_of]; rfl, by rw [nm_X8_of]; exact q955, by rw [nm_X8_of]; exact q957, by rw [nm_X8_of]; exact q958, q956, q954, by rw [nm_X8_of]; rfl⟩
    · exact ⟨_, _, _, hc_9, M_X9_of, by rw [nm_X9_of]; rfl, by rw [nm_X9_of]; exact q977, by rw [nm_X9_of]; exact q979, by rw [nm_X9_of]; exact q980, q978, q976, by rw [nm_X9_of]; rfl⟩
    · exact ⟨_, _, _, hc_10, M_X10_of, by rw [nm_X10_of]; rfl, by rw [nm_X10_of]; exact q971, by rw [nm_X10_of]; exact q973, by rw [nm_X10_of]; exact q974, q972, q970, by rw [nm_X10_of]; rfl⟩
    · exact ⟨_, _, _, hc_11, M_X11_of, by rw [nm_X11_of]; rfl, by rw [nm_X11_of]; exact q963, by rw [nm_X11_of]; exact q965, by rw [nm_X11_of]; exact q966, q964, q962, by rw [nm_X11_of]; rfl⟩
    )) <|
  fG mo_lsub (sim_lsub dX12_is_20) <|
  fG mo_lst (sim_lst_n dX12_is_21 rfl) <|
  fG mo_ald (sim_ald_n dX12_is_22 rfl) <|
  fG mo_getf (sim_getfG hG dX12_is_23 hc_12 (by decide) rfl in_X12 (fun _ _ _ h => h) (Or.inl q823)) <|
  fG mo_sw (sim_lsw dX12_is_26 (by decide +kernel) (by decide +kernel) (by decide +kernel) (by decide +kernel)) <|
  trivial
theorem fX12_is_76 {X : tp_X} {az : Array Value} (hG : tp_Good X az) (hSt : tp_Stat X) : tp_Fit X yX12_is cX12_is (some .boolean) 4 tp_nm tp_by tp_ml tp_rtt 76 [o_lld (.lload_n 2) 2, o_lng (.lconst 0) 0, o_lcmp, o_ifge 7 86, o_int (.iconst 1) 1, o_goto 4 87] :=
  fG mo_lld (sim_lld_n dX12_is_76 rfl) <|
  fG mo_lng (sim_lconst0 dX12_is_77) <|
  fG mo_lcmp (sim_lcmp dX12_is_78) <|
  fG mo_ifge (sim_ifge dX12_is_79 rfl) <|
  fG mo_int (sim_iconst dX12_is_82 (by decide)) <|
  fG mo_goto (sim_goto dX12_is_83 rfl) <|
  trivial
theorem fX12_is_86 {X : tp_X} {az : Array Value} (hG : tp_Good X az) (hSt : tp_Stat X) : tp_Fit X yX12_is cX12_is (some .boolean) 4 tp_nm tp_by tp_ml tp_rtt 86 [o_int (.iconst 0) 0, o_fall 87] :=
  fG mo_int (sim_iconst dX12_is_86 (by decide)) <|
  fF
theorem fX12_is_87 {X : tp_X} {az : Array Value} (hG : tp_Good X az) (hSt : tp_Stat X) : tp_Fit X yX12_is cX12_is (some .boolean) 4 tp_nm tp_by tp_ml tp_rtt 87 [o_iret 1] :=
  fE ie_iret (sim_iret dX12_is_87 rfl (Or.inr (Or.inl ⟨rfl, rfl⟩)))
theorem fX12_is_88 {X : tp_X} {az : Array Value} (hG : tp_Good X az) (hSt : tp_Stat X) : tp_Fit X yX12_is cX12_is (some .boolean) 4 tp_nm tp_by tp_ml tp_rtt 88 [o_lld (.lload_n 2) 2, o_lng (.lconst 0) 0, o_lcmp, o_ifle 7 98, o_int (.iconst 1) 1, o_goto 4 99] :=
  fG mo_lld (sim_lld_n dX12_is_88 rfl) <|
  fG mo_lng (sim_lconst0 dX12_is_89) <|
  fG mo_lcmp (sim_lcmp dX12_is_90) <|
  fG mo_ifle (sim_ifle dX12_is_91 rfl) <|
  fG mo_int (sim_iconst dX12_is_94 (by decide)) <|
  fG mo_goto (sim_goto dX12_is_95 rfl) <|
  trivial
theorem fX12_is_98 {X : tp_X} {az : Array Value} (hG : tp_Good X az) (hSt : tp_Stat X) : tp_Fit X yX12_is cX12_is (some .boolean) 4 tp_nm tp_by tp_ml tp_rtt 98 [o_int (.iconst 0) 0, o_fall 99] :=
  fG mo_int (sim_iconst dX12_is_98 (by decide)) <|
  fF
theorem fX12_is_99 {X : tp_X} {az : Array Value} (hG : tp_Good X az) (hSt : tp_Stat X) : tp_Fit X yX12_is cX12_is (some .boolean) 4 tp_nm tp_by tp_ml tp_rtt 99 [o_iret 1] :=
  fE ie_iret (sim_iret dX12_is_99 rfl (Or.inr (Or.inl ⟨rfl, rfl⟩)))
theorem fX12_is_100 {X : tp_X} {az : Array Value} (hG : tp_Good X az) (hSt : tp_Stat X) : tp_Fit X yX12_is cX12_is (some .boolean) 4 tp_nm tp_by tp_ml tp_rtt 100 [o_lld (.lload_n 2) 2, o_lng (.lconst 0) 0, o_lcmp, o_ifne 7 110, o_int (.iconst 1) 1, o_goto 4 111] :=
  fG mo_lld (sim_lld_n dX12_is_100 rfl) <|
  fG mo_lng (sim_lconst0 dX12_is_101) <|
  fG mo_lcmp (sim_lcmp dX12_is_102) <|
  fG mo_ifne (sim_ifne dX12_is_103 rfl) <|
  fG mo_int (sim_iconst dX12_is_106 (by decide)) <|
  fG mo_goto (sim_goto dX12_is_107 rfl) <|
  trivial
theorem fX12_is_110 {X : tp_X} {az : Array Value} (hG : tp_Good X az) (hSt : tp_Stat X) : tp_Fit X yX12_is cX12_is (some .boolean) 4 tp_nm tp_by tp_ml tp_rtt 110 [o_int (.iconst 0) 0, o_fall 111] :=
  fG mo_int (sim_iconst dX12_is_110 (by decide)) <|
  fF
theorem fX12_is_111 {X : tp_X} {az : Array Value} (hG : tp_Good X az) (hSt : tp_Stat X) : tp_Fit X yX12_is cX12_is (some .boolean) 4 tp_nm tp_by tp_ml tp_rtt 111 [o_iret 1] :=
  fE ie_iret (sim_iret dX12_is_111 rfl (Or.inr (Or.inl ⟨rfl, rfl⟩)))
theorem fX12_is_112 {X : tp_X} {az : Array Value} (hG : tp_Good X az) (hSt : tp_Stat X) : tp_Fit X yX12_is cX12_is (some .boolean) 4 tp_nm tp_by tp_ml tp_rtt 112 [o_lld (.lload_n 2) 2, o_lng (.lconst 0) 0, o_lcmp, o_ifeq 7 122, o_int (.iconst 1) 1, o_goto 4 123] :=
  fG mo_lld (sim_lld_n dX12_is_112 rfl) <|
  fG mo_lng (sim_lconst0 dX12_is_113) <|
  fG mo_lcmp (sim_lcmp dX12_is_114) <|
  fG mo_ifeq (sim_ifeq dX12_is_115 rfl) <|
  fG mo_int (sim_iconst dX12_is_118 (by decide)) <|
  fG mo_goto (sim_goto dX12_is_119 rfl) <|
  trivial
theorem fX12_is_122 {X : tp_X} {az : Array Value} (hG : tp_Good X az) (hSt : tp_Stat X) : tp_Fit X yX12_is cX12_is (some .boolean) 4 tp_nm tp_by tp_ml tp_rtt 122 [o_int (.iconst 0) 0, o_fall 123] :=
  fG mo_int (sim_iconst dX12_is_122 (by decide)) <|
  fF
theorem fX12_is_123 {X : tp_X} {az : Array Value} (hG : tp_Good X az) (hSt : tp_Stat X) : tp_Fit X yX12_is cX12_is (some .boolean) 4 tp_nm tp_by tp_ml tp_rtt 123 [o_iret 1] :=
  fE ie_iret (sim_iret dX12_is_123 rfl (Or.inr (Or.inl ⟨rfl, rfl⟩)))
theorem fX12_is_124 {X : tp_X} {az : Array Value} (hG : tp_Good X az) (hSt : tp_Stat X) : tp_Fit X yX12_is cX12_is (some .boolean) 4 tp_nm tp_by tp_ml tp_rtt 124 [o_lld (.lload_n 2) 2, o_lng (.lconst 0) 0, o_lcmp, o_ifgt 7 134, o_int (.iconst 1) 1, o_goto 4 135] :=
  fG mo_lld (sim_lld_n dX12_is_124 rfl) <|
  fG mo_lng (sim_lconst0 dX12_is_125) <|
  fG mo_lcmp (sim_lcmp dX12_is_126) <|
  fG mo_ifgt (sim_ifgt dX12_is_127 rfl) <|
  fG mo_int (sim_iconst dX12_is_130 (by decide)) <|
  fG mo_goto (sim_goto dX12_is_131 rfl) <|
  trivial
theorem fX12_is_134 {X : tp_X} {az : Array Value} (hG : tp_Good X az) (hSt : tp_Stat X) : tp_Fit X yX12_is cX12_is (some .boolean) 4 tp_nm tp_by tp_ml tp_rtt 134 [o_int (.iconst 0) 0, o_fall 135] :=
  fG mo_int (sim_iconst dX12_is_134 (by decide)) <|
  fF
theorem fX12_is_135 {X : tp_X} {az : Array Value} (hG : tp_Good X az) (hSt : tp_Stat X) : tp_Fit X yX12_is cX12_is (some .boolean) 4 tp_nm tp_by tp_ml tp_rtt 135 [o_iret 1] :=
  fE ie_iret (sim_iret dX12_is_135 rfl (Or.inr (Or.inl ⟨rfl, rfl⟩)))
theorem fX12_is_136 {X : tp_X} {az : Array Value} (hG : tp_Good X az) (hSt : tp_Stat X) : tp_Fit X yX12_is cX12_is (some .boolean) 4 tp_nm tp_by tp_ml tp_rtt 136 [o_lld (.lload_n 2) 2, o_lng (.lconst 0) 0, o_lcmp, o_iflt 7 146, o_int (.iconst 1) 1, o_goto 4 147] :=
  fG mo_lld (sim_lld_n dX12_is_136 rfl) <|
  fG mo_lng (sim_lconst0 dX12_is_137) <|
  fG mo_lcmp (sim_lcmp dX12_is_138) <|
  fG mo_iflt (sim_iflt dX12_is_139 rfl) <|
  fG mo_int (sim_iconst dX12_is_142 (by decide)) <|
  fG mo_goto (sim_goto dX12_is_143 rfl) <|
  trivial
theorem fX12_is_146 {X : tp_X} {az : Array Value} (hG : tp_Good X az) (hSt : tp_Stat X) : tp_Fit X yX12_is cX12_is (some .boolean) 4 tp_nm tp_by tp_ml tp_rtt 146 [o_int (.iconst 0) 0, o_fall 147] :=
  fG mo_int (sim_iconst dX12_is_146 (by decide)) <|
  fF
theorem fX12_is_147 {X : tp_X} {az : Array Value} (hG : tp_Good X az) (hSt : tp_Stat X) : tp_Fit X yX12_is cX12_is (some .boolean) 4 tp_nm tp_by tp_ml tp_rtt 147 [o_iret 1] :=
  fE ie_iret (sim_iret dX12_is_147 rfl (Or.inr (Or.inl ⟨rfl, rfl⟩)))
theorem F_X12_is {X : tp_X} {az : Array Value} (hG : tp_Good X az) (hSt : tp_Stat X) (pc : Nat) : tp_Fit X yX12_is cX12_is (some .boolean) 4 tp_nm tp_by tp_ml tp_rtt pc (mX12_is pc) :=
  fI (fX12_is_0 hG hSt) <| fI (fX12_is_76 hG hSt) <| fI (fX12_is_86 hG hSt) <| fI (fX12_is_87 hG hSt) <| fI (fX12_is_88 hG hSt) <| fI (fX12_is_98 hG hSt) <| fI (fX12_is_99 hG hSt) <| fI (fX12_is_100 hG hSt) <| fI (fX12_is_110 hG hSt) <| fI (fX12_is_111 hG hSt) <| fI (fX12_is_112 hG hSt) <| fI (fX12_is_122 hG hSt) <| fI (fX12_is_123 hG hSt) <| fI (fX12_is_124 hG hSt) <| fI (fX12_is_134 hG hSt) <| fI (fX12_is_135 hG hSt) <| fI (fX12_is_136 hG hSt) <| fI (fX12_is_146 hG hSt) <| fI (fX12_is_147 hG hSt) <| trivial
theorem fX13_init_0 {X : tp_X} {az : Array Value} (hG : tp_Good X az) (hSt : tp_Stat X) : tp_Fit X yX13_init cX13_init none 3 tp_nm tp_by tp_ml tp_rtt 0 [o_ald (.aload_n 0) 0, o_cp (.invokespecial 1) kJ11_init 0 0, o_ald (.aload_n 0) 0, o_ild (.iload_n 1) 1, o_putf (.putfield 7) 13 0 1, o_ald (.aload_n 0) 0, o_ald (.aload_n 2) 2, o_putf (.putfield 13) 13 1 4, o_vret] :=
  fG mo_ald (sim_ald_n dX13_init_0 rfl) <|
  fC (ic_cp (Or.inl rfl)) (sim_cp hG dX13_init_1 M_J11_init (by rw [nm_J11_init]; rfl) rt_J11_init (by rw [nm_J11_init]; rfl) (by rw [nm_J11_init]; exact q856) (by rw [nm_J11_init]; exact q653)) <|
  fG mo_ald (sim_ald_n dX13_init_4 rfl) <|
  fG mo_ild (sim_ild_n dX13_init_5 rfl) <|
  fG mo_putf (sim_putfF hG dX13_init_6 hc_13 (by decide) rfl (by decide) in_X13 tyX13_ok nmX13 (Or.inr (Or.inl ⟨rfl, rfl⟩)) (fun _ _ _ h => h) rfl rfl rfl q857) <|
  fG mo_ald (sim_ald_n dX13_init_9 rfl) <|
  fG mo_ald (sim_ald_n dX13_init_10 rfl) <|
  fG mo_putf (sim_putfF hG dX13_init_11 hc_13 (by decide) rfl (by decide) in_X13 tyX13_ok nmX13 (Or.inr (Or.inr (Or.inr (Or.inr ⟨Or.inl ⟨_, rfl⟩, by decide⟩)))) (fun _ _ _ h => h) rfl rfl rfl q858) <|
  fE ie_vret (sim_vret dX13_init_14 rfl)
theorem F_X13_init {X : tp_X} {az : Array Value} (hG : tp_Good X az) (hSt : tp_Stat X) (pc : Nat) : tp_Fit X yX13_init cX13_init none 3 tp_nm tp_by tp_ml tp_rtt pc (mX13_init pc) :=
  fI (fX13_init_0 hG hSt) <| trivial
theorem fX13_is_0 {X : tp_X} {az : Array Value} (hG : tp_Good X az) (hSt : tp_Stat X) : tp_Fit X yX13_is cX13_is (some .boolean) 4 tp_nm tp_by tp_ml tp_rtt 0 [o_int (.iconst 0) 0, o_ist (.istore_n 2) 2, o_int (.iconst 0) 0, o_ist (.istore_n 3) 3, o_fall 4] :=
  fG mo_int (sim_iconst dX13_is_0 (by decide)) <|
  fG mo_ist (sim_ist_n dX13_is_1 rfl) <|
  fG mo_int (sim_iconst dX13_is_2 (by decide)) <|
  fG mo_ist (sim_ist_n dX13_is_3 rfl) <|
  fF
theorem fX13_is_4 {X : tp_X} {az : Array Value} (hG : tp_Good X az) (hSt : tp_Stat X) : tp_Fit X yX13_is cX13_is (some .boolean) 4 tp_nm tp_by tp_ml tp_rtt 4 [o_ild (.iload_n 3) 3, o_ald (.aload_n 0) 0, o_getf (.getfield 13) 13 1, o_cv (.invokevirtual 17) 15 kJ4_size 0 0, o_icmpge 37 49, o_ild (.iload_n 2) 2, o_ald (.aload_n 0) 0, o_getf (.getfield 13) 13 1, o_ild (.iload_n 3) 3, o_cv (.invokevirtual 23) 15 kJ4_get 1 0, o_cast (.checkcast 27) [7, 12, 13], o_ald (.aload_n 1) 1, o_ci (.invokeinterface 29 2) [(7, kX7_is), (12, kX12_is), (13, kX13_is)] 1 0, o_ifeq 7 40, o_int (.iconst 1) 1, o_goto 4 41] :=
  fG mo_ild (sim_ild_n dX13_is_4 rfl) <|
  fG mo_ald (sim_ald_n dX13_is_5 rfl) <|
  fG mo_getf (sim_getfG hG dX13_is_6 hc_13 (by decide) rfl in_X13 (fun _ _ _ h => h) (Or.inl q858)) <|
  fC (ic_cv (Or.inl rfl)) (sim_cv hG dX13_is_9 (hG.2.1 15 _ hc_15).2.1 M_J4_size (by rw [nm_J4_size]; rfl) (by rw [nm_J4_size]; exact q939) (by rw [nm_J4_size]; exact q835) (by rw [nm_J4_size]; exact q836)) <|
  fG mo_icmpge (sim_icmpge dX13_is_12 rfl) <|
  fG mo_ild (sim_ild_n dX13_is_15 rfl) <|
  fG mo_ald (sim_ald_n dX13_is_16 rfl) <|
  fG mo_getf (sim_getfG hG dX13_is_17 hc_13 (by decide) rfl in_X13 (fun _ _ _ h => h) (Or.inl q858)) <|
  fG mo_ild (sim_ild_n dX13_is_20 rfl) <|
  fC (ic_cv (Or.inl rfl)) (sim_cv hG dX13_is_21 (hG.2.1 15 _ hc_15).2.1 M_J4_get (by rw [nm_J4_get]; rfl) (by rw [nm_J4_get]; exact q940) (by rw [nm_J4_get]; exact q839) (by rw [nm_J4_get]; exact q840)) <|
  fG mo_cast (sim_cast hG dX13_is_24 q941 (fun c hc => by
    simp only [List.mem_cons, List.not_mem_nil, or_false] at hc
    rcases hc with rfl | rfl | rfl
    · exact ⟨_, rfl, Or.inr q998⟩
    · exact ⟨_, rfl, Or.inr q944⟩
    · exact ⟨_, rfl, Or.inr q933⟩
    )) <|
  fG mo_ald (sim_ald_n dX13_is_27 rfl) <|
  fC (ic_ci (Or.inl rfl)) (sim_ci hG dX13_is_28 q943 q932 q931 (by decide +kernel) (fun q hq => by
    simp only [List.mem_cons, List.not_mem_nil, or_false] at hq
    rcases hq with rfl | rfl | rfl
    · exact ⟨_, _, _, hc_7, M_X7_is, by rw [nm_X7_is]; rfl, by rw [nm_X7_is]; exact q999, by rw [nm_X7_is]; exact q1001, by rw [nm_X7_is]; exact q1002, q1000, q998, by rw [nm_X7_is]; rfl⟩
    · exact ⟨_, _, _, hc_12, M_X12_is, by rw [nm_X12_is]; rfl, by rw [nm_X12_is]; exact q945, by rw [nm_X12_is]; exact q947, by rw [nm_X12_is]; exact q948, q946, q944, by rw [nm_X12_is]; rfl⟩
    · exact ⟨_, _, _, hc_13, M_X13_is, by rw [nm_X13_is]; rfl, by rw [nm_X13_is]; exact q934, by rw [nm_X13_is]; exact q936, by rw [nm_X13_is]; exact q937, q935, q933, by rw [nm_X13_is]; rfl⟩
    )) <|
  fG mo_ifeq (sim_ifeq dX13_is_33 rfl) <|
  fG mo_int (sim_iconst dX13_is_36 (by decide)) <|
  fG mo_goto (sim_goto dX13_is_37 rfl) <|
  trivial
theorem fX13_is_40 {X : tp_X} {az : Array Value} (hG : tp_Good X az) (hSt : tp_Stat X) : tp_Fit X yX13_is cX13_is (some .boolean) 4 tp_nm tp_by tp_ml tp_rtt 40 [o_int (.iconst 0) 0, o_fall 41] :=
  fG mo_int (sim_iconst dX13_is_40 (by decide)) <|
  fF
theorem fX13_is_41 {X : tp_X} {az : Array Value} (hG : tp_Good X az) (hSt : tp_Stat X) : tp_Fit X yX13_is cX13_is (some .boolean) 4 tp_nm tp_by tp_ml tp_rtt 41 [o_iadd, o_ist (.istore_n 2) 2, o_inc 3 1, o_goto (-42) 4] :=
  fG mo_iadd (sim_iadd dX13_is_41) <|
  fG mo_ist (sim_ist_n dX13_is_42 rfl) <|
  fG mo_inc (sim_inc dX13_is_43 (by decide)) <|
  fG mo_goto (sim_goto dX13_is_46 rfl) <|
  trivial
theorem fX13_is_49 {X : tp_X} {az : Array Value} (hG : tp_Good X az) (hSt : tp_Stat X) : tp_Fit X yX13_is cX13_is (some .boolean) 4 tp_nm tp_by tp_ml tp_rtt 49 [o_ald (.aload_n 0) 0, o_getf (.getfield 7) 13 0, o_ifeq 22 75, o_ild (.iload_n 2) 2, o_ald (.aload_n 0) 0, o_getf (.getfield 13) 13 1, o_cv (.invokevirtual 17) 15 kJ4_size 0 0, o_icmpne 7 71, o_int (.iconst 1) 1, o_goto 16 84] :=
  fG mo_ald (sim_ald_n dX13_is_49 rfl) <|
  fG mo_getf (sim_getfG hG dX13_is_50 hc_13 (by decide) rfl in_X13 (fun _ _ _ h => h) (Or.inl q857)) <|
  fG mo_ifeq (sim_ifeq dX13_is_53 rfl) <|
  fG mo_ild (sim_ild_n dX13_is_56 rfl) <|
  fG mo_ald (sim_ald_n dX13_is_57 rfl) <|
  fG mo_getf (sim_getfG hG dX13_is_58 hc_13 (by decide) rfl in_X13 (fun _ _ _ h => h) (Or.inl q858)) <|
  fC (ic_cv (Or.inl rfl)) (sim_cv hG dX13_is_61 (hG.2.1 15 _ hc_15).2.1 M_J4_size (by rw [nm_J4_size]; rfl) (by rw [nm_J4_size]; exact q939) (by rw [nm_J4_size]; exact q835) (by rw [nm_J4_size]; exact q836)) <|
  fG mo_icmpne (sim_icmpne dX13_is_64 rfl) <|
  fG mo_int (sim_iconst dX13_is_67 (by decide)) <|
  fG mo_goto (sim_goto dX13_is_68 rfl) <|
  trivial
theorem fX13_is_71 {X : tp_X} {az : Array Value} (hG : tp_Good X az) (hSt : tp_Stat X) : tp_Fit X yX13_is cX13_is (some .boolean) 4 tp_nm tp_by tp_ml tp_rtt 71 [o_int (.iconst 0) 0, o_goto 12 84] :=
  fG mo_int (sim_iconst dX13_is_71 (by decide)) <|
  fG mo_goto (sim_goto dX13_is_72 rfl) <|
  trivial
theorem fX13_is_75 {X : tp_X} {az : Array Value} (hG : tp_Good X az) (hSt : tp_Stat X) : tp_Fit X yX13_is cX13_is (some .boolean) 4 tp_nm tp_by tp_ml tp_rtt 75 [o_ild (.iload_n 2) 2, o_ifle 7 83, o_int (.iconst 1) 1, o_goto 4 84] :=
  fG mo_ild (sim_ild_n dX13_is_75 rfl) <|
  fG mo_ifle (sim_ifle dX13_is_76 rfl) <|
  fG mo_int (sim_iconst dX13_is_79 (by decide)) <|
  fG mo_goto (sim_goto dX13_is_80 rfl) <|
  trivial
theorem fX13_is_83 {X : tp_X} {az : Array Value} (hG : tp_Good X az) (hSt : tp_Stat X) : tp_Fit X yX13_is cX13_is (some .boolean) 4 tp_nm tp_by tp_ml tp_rtt 83 [o_int (.iconst 0) 0, o_fall 84] :=
  fG mo_int (sim_iconst dX13_is_83 (by decide)) <|
  fF
theorem fX13_is_84 {X : tp_X} {az : Array Value} (hG : tp_Good X az) (hSt : tp_Stat X) : tp_Fit X yX13_is cX13_is (some .boolean) 4 tp_nm tp_by tp_ml tp_rtt 84 [o_iret 1] :=
  fE ie_iret (sim_iret dX13_is_84 rfl (Or.inr (Or.inl ⟨rfl, rfl⟩)))
theorem F_X13_is {X : tp_X} {az : Array Value} (hG : tp_Good X az) (hSt : tp_Stat X) (pc : Nat) : tp_Fit X yX13_is cX13_is (some .boolean) 4 tp_nm tp_by tp_ml tp_rtt pc (mX13_is pc) :=
  fI (fX13_is_0 hG hSt) <| fI (fX13_is_4 hG hSt) <| fI (fX13_is_40 hG hSt) <| fI (fX13_is_41 hG hSt) <| fI (fX13_is_49 hG hSt) <| fI (fX13_is_71 hG hSt) <| fI (fX13_is_75 hG hSt) <| fI (fX13_is_83 hG hSt) <| fI (fX13_is_84 hG hSt) <| trivial
theorem fX14_init_0 {X : tp_X} {az : Array Value} (hG : tp_Good X az) (hSt : tp_Stat X) : tp_Fit X yX14_init cX14_init none 3 tp_nm tp_by tp_ml tp_rtt 0 [o_ald (.aload_n 0) 0, o_cp (.invokespecial 1) kJ11_init 0 0, o_ald (.aload_n 0) 0, o_ild (.iload_n 1) 1, o_putf (.putfield 7) 14 0 0, o_ald (.aload_n 0) 0, o_ald (.aload_n 2) 2, o_putf (.putfield 13) 14 1 4, o_vret] :=
  fG mo_ald (sim_ald_n dX14_init_0 rfl) <|
  fC (ic_cp (Or.inl rfl)) (sim_cp hG dX14_init_1 M_J11_init (by rw [nm_J11_init]; rfl) rt_J11_init (by rw [nm_J11_init]; rfl) (by rw [nm_J11_init]; exact q869) (by rw [nm_J11_init]; exact q653)) <|
  fG mo_ald (sim_ald_n dX14_init_4 rfl) <|
  fG mo_ild (sim_ild_n dX14_init_5 rfl) <|
  fG mo_putf (sim_putfF hG dX14_init_6 hc_14 (by decide) rfl (by decide) in_X14 tyX14_ok nmX14 (Or.inl ⟨rfl, rfl⟩) (fun _ _ _ h => h) rfl rfl rfl q870) <|
  fG mo_ald (sim_ald_n dX14_init_9 rfl) <|
  fG mo_ald (sim_ald_n dX14_init_10 rfl) <|
  fG mo_putf (sim_putfF hG dX14_init_11 hc_14 (by decide) rfl (by decide) in_X14 tyX14_ok nmX14 (Or.inr (Or.inr (Or.inr (Or.inr ⟨Or.inl ⟨_, rfl⟩, by decide⟩)))) (fun _ _ _ h => h) rfl rfl rfl q871) <|
  fE ie_vret (sim_vret dX14_init_14 rfl)
theorem F_X14_init {X : tp_X} {az : Array Value} (hG : tp_Good X az) (hSt : tp_Stat X) (pc : Nat) : tp_Fit X yX14_init cX14_init none 3 tp_nm tp_by tp_ml tp_rtt pc (mX14_init pc) :=
  fI (fX14_init_0 hG hSt) <| trivial
theorem fX14_when_0 {X : tp_X} {az : Array Value} (hG : tp_Good X az) (hSt : tp_Stat X) : tp_Fit X yX14_when cX14_when (some (.object "ThroughPack$Asked")) 1 tp_nm tp_by tp_ml tp_rtt 0 [o_ald (.aload_n 0) 0, o_getf (.getfield 13) 14 1, o_aret] :=
  fG mo_ald (sim_ald_n dX14_when_0 rfl) <|
  fG mo_getf (sim_getfG hG dX14_when_1 hc_14 (by decide) rfl in_X14 (fun _ _ _ h => h) (Or.inl q871)) <|
  fE ie_aret (sim_aret dX14_when_4 rfl (Or.inl ⟨_, rfl⟩))
theorem F_X14_when {X : tp_X} {az : Array Value} (hG : tp_Good X az) (hSt : tp_Stat X) (pc : Nat) : tp_Fit X yX14_when cX14_when (some (.object "ThroughPack$Asked")) 1 tp_nm tp_by tp_ml tp_rtt pc (mX14_when pc) :=
  fI (fX14_when_0 hG hSt) <| trivial
theorem fX14_order_0 {X : tp_X} {az : Array Value} (hG : tp_Good X az) (hSt : tp_Stat X) : tp_Fit X yX14_order cX14_order (some .int) 1 tp_nm tp_by tp_ml tp_rtt 0 [o_ald (.aload_n 0) 0, o_getf (.getfield 7) 14 0, o_iret 0] :=
  fG mo_ald (sim_ald_n dX14_order_0 rfl) <|
  fG mo_getf (sim_getfG hG dX14_order_1 hc_14 (by decide) rfl in_X14 (fun _ _ _ h => h) (Or.inl q870)) <|
  fE ie_iret (sim_iret dX14_order_4 rfl (Or.inl ⟨rfl, rfl⟩))
theorem F_X14_order {X : tp_X} {az : Array Value} (hG : tp_Good X az) (hSt : tp_Stat X) (pc : Nat) : tp_Fit X yX14_order cX14_order (some .int) 1 tp_nm tp_by tp_ml tp_rtt pc (mX14_order pc) :=
  fI (fX14_order_0 hG hSt) <| trivial
theorem fX2_init_0 {X : tp_X} {az : Array Value} (hG : tp_Good X az) (hSt : tp_Stat X) : tp_Fit X yX2_init cX2_init none 2 tp_nm tp_by tp_ml tp_rtt 0 [o_ald (.aload_n 0) 0, o_objinit (.invokespecial 3), o_ald (.aload_n 0) 0, o_int (.bipush 9) 9, o_newa (.newarray .int) 0, o_putf (.putfield 9) 2 0 4, o_ald (.aload_n 0) 0, o_int (.bipush 36) 36, o_newa (.newarray .int) 0, o_putf (.putfield 15) 2 1 4, o_ald (.aload_n 0) 0, o_int (.iconst 4) 4, o_newa (.newarray .int) 0, o_dup, o_int (.iconst 0) 0, o_int (.iconst 1) 1, o_sta .iastore [0], o_dup, o_int (.iconst 1) 1, o_int (.iconst 2) 2, o_sta .iastore [0], o_dup, o_int (.iconst 2) 2, o_int (.iconst 0) 0, o_sta .iastore [0], o_dup, o_int (.iconst 3) 3, o_int (.iconst 3) 3, o_sta .iastore [0], o_putf (.putfield 18) 2 2 4, o_ald (.aload_n 0) 0, o_int (.bipush 12) 12, o_newa (.newarray .int) 0, o_putf (.putfield 21) 2 3 4, o_ald (.aload_n 0) 0, o_int (.bipush 12) 12, o_newa (.newarray .int) 0, o_putf (.putfield 24) 2 4 4, o_ald (.aload_n 0) 0, o_int (.bipush 6) 6, o_newa (.newarray .int) 0, o_putf (.putfield 27) 2 5 4, o_ald (.aload_n 0) 0, o_int (.bipush 36) 36, o_newa (.newarray .boolean) 1, o_putf (.putfield 30) 2 6 4, o_ald (.aload_n 0) 0, o_int (.bipush 36) 36, o_newa (.newarray .boolean) 1, o_putf (.putfield 34) 2 7 4, o_ald (.aload_n 0) 0, o_int (.iconst 4) 4, o_int (.iconst 2) 2, o_new2 (.multianewarray 37 2), o_putf (.putfield 39) 2 8 4, o_ald (.aload_n 0) 0, o_int (.iconst 4) 4, o_int (.iconst 4) 4, o_new2 (.multianewarray 37 2), o_putf (.putfield 42) 2 9 4, o_ald (.aload_n 0) 0, o_int (.iconst 2) 2, o_int (.iconst 4) 4, o_new2 (.multianewarray 37 2), o_putf (.putfield 45) 2 10 4, o_ald (.aload_n 0) 0, o_int (.bipush 30) 30, o_int (.iconst 2) 2, o_new2 (.multianewarray 37 2), o_putf (.putfield 48) 2 11 4, o_ald (.aload_n 0) 0, o_int (.iconst 4) 4, o_newa (.anewarray 51) 7, o_putf (.putfield 53) 2 12 4, o_ald (.aload_n 0) 0, o_getf (.getfield 9) 2 0, o_int (.iconst 3) 3, o_int (.iconst (-1)) (-1), o_sta .iastore [0], o_int (.iconst 0) 0, o_ist (.istore_n 1) 1, o_fall 141] :=
  fG mo_ald (sim_ald_n dX2_init_0 rfl) <|
  fG mo_objinit (sim_objinit hG dX2_init_1 q170 q163 q164) <|
  fG mo_ald (sim_ald_n dX2_init_4 rfl) <|
  fG mo_int (sim_bipush dX2_init_5 (by decide)) <|
  fG mo_newa (sim_newa hG dX2_init_7 q231 ⟨rfl, by decide⟩) <|
  fG mo_putf (sim_putfF hG dX2_init_9 hc_2 (by decide) rfl (by decide) in_X2 tyX2_ok nmX2 (Or.inr (Or.inr (Or.inr (Or.inr ⟨Or.inr ⟨_, rfl⟩, by decide⟩)))) (fun _ _ _ h => h) rfl rfl rfl q178) <|
  fG mo_ald (sim_ald_n dX2_init_12 rfl) <|
  fG mo_int (sim_bipush dX2_init_13 (by decide)) <|
  fG mo_newa (sim_newa hG dX2_init_15 q231 ⟨rfl, by decide⟩) <|
  fG mo_putf (sim_putfF hG dX2_init_17 hc_2 (by decide) rfl (by decide) in_X2 tyX2_ok nmX2 (Or.inr (Or.inr (Or.inr (Or.inr ⟨Or.inr ⟨_, rfl⟩, by decide⟩)))) (fun _ _ _ h => h) rfl rfl rfl q180) <|
  fG mo_ald (sim_ald_n dX2_init_20 rfl) <|
  fG mo_int (sim_iconst dX2_init_21 (by decide)) <|
  fG mo_newa (sim_newa hG dX2_init_22 q231 ⟨rfl, by decide⟩) <|
  fG mo_dup (sim_dup dX2_init_24) <|
  fG mo_int (sim_iconst dX2_init_25 (by decide)) <|
  fG mo_int (sim_iconst dX2_init_26 (by decide)) <|
  fG mo_sta (sim_iast dX2_init_27) <|
  fG mo_dup (sim_dup dX2_init_28) <|
  fG mo_int (sim_iconst dX2_init_29 (by decide)) <|
  fG mo_int (sim_iconst dX2_init_30 (by decide)) <|
  fG mo_sta (sim_iast dX2_init_31) <|
  fG mo_dup (sim_dup dX2_init_32) <|
  fG mo_int (sim_iconst dX2_init_33 (by decide)) <|
  fG mo_int (sim_iconst dX2_init_34 (by decide)) <|
  fG mo_sta (sim_iast dX2_init_35) <|
  fG mo_dup (sim_dup dX2_init_36) <|
  fG mo_int (sim_iconst dX2_init_37 (by decide)) <|
  fG mo_int (sim_iconst dX2_init_38 (by decide)) <|
  fG mo_sta (sim_iast dX2_init_39) <|
  fG mo_putf (sim_putfF hG dX2_init_40 hc_2 (by decide) rfl (by decide) in_X2 tyX2_ok nmX2 (Or.inr (Or.inr (Or.inr (Or.inr ⟨Or.inr ⟨_, rfl⟩, by decide⟩)))) (fun _ _ _ h => h) rfl rfl rfl q182) <|
  fG mo_ald (sim_ald_n dX2_init_43 rfl) <|
  fG mo_int (sim_bipush dX2_init_44 (by decide)) <|
  fG mo_newa (sim_newa hG dX2_init_46 q231 ⟨rfl, by decide⟩) <|
  fG mo_putf (sim_putfF hG dX2_init_48 hc_2 (by decide) rfl (by decide) in_X2 tyX2_ok nmX2 (Or.inr (Or.inr (Or.inr (Or.inr ⟨Or.inr ⟨_, rfl⟩, by decide⟩)))) (fun _ _ _ h => h) rfl rfl rfl q184) <|
  fG mo_ald (sim_ald_n dX2_init_51 rfl) <|
  fG mo_int (sim_bipush dX2_init_52 (by decide)) <|
  fG mo_newa (sim_newa hG dX2_init_54 q231 ⟨rfl, by decide⟩) <|
  fG mo_putf (sim_putfF hG dX2_init_56 hc_2 (by decide) rfl (by decide) in_X2 tyX2_ok nmX2 (Or.inr (Or.inr (Or.inr (Or.inr ⟨Or.inr ⟨_, rfl⟩, by decide⟩)))) (fun _ _ _ h => h) rfl rfl rfl q186) <|
  fG mo_ald (sim_ald_n dX2_init_59 rfl) <|
  fG mo_int (sim_bipush dX2_init_60 (by decide)) <|
  fG mo_newa (sim_newa hG dX2_init_62 q231 ⟨rfl, by decide⟩) <|
  fG mo_putf (sim_putfF hG dX2_init_64 hc_2 (by decide) rfl (by decide) in_X2 tyX2_ok nmX2 (Or.inr (Or.inr (Or.inr (Or.inr ⟨Or.inr ⟨_, rfl⟩, by decide⟩)))) (fun _ _ _ h => h) rfl rfl rfl q188) <|
  fG mo_ald (sim_ald_n dX2_init_67 rfl) <|
  fG mo_int (sim_bipush dX2_init_68 (by decide)) <|
  fG mo_newa (sim_newa hG dX2_init_70 q232 ⟨rfl, by decide⟩) <|
  fG mo_putf (sim_putfF hG dX2_init_72 hc_2 (by decide) rfl (by decide) in_X2 tyX2_ok nmX2 (Or.inr (Or.inr (Or.inr (Or.inr ⟨Or.inr ⟨_, rfl⟩, by decide⟩)))) (fun _ _ _ h => h) rfl rfl rfl q190) <|
  fG mo_ald (sim_ald_n dX2_init_75 rfl) <|
  fG mo_int (sim_bipush dX2_init_76 (by decide)) <|
  fG mo_newa (sim_newa hG dX2_init_78 q232 ⟨rfl, by decide⟩) <|
  fG mo_putf (sim_putfF hG dX2_init_80 hc_2 (by decide) rfl (by decide) in_X2 tyX2_ok nmX2 (Or.inr (Or.inr (Or.inr (Or.inr ⟨Or.inr ⟨_, rfl⟩, by decide⟩)))) (fun _ _ _ h => h) rfl rfl rfl q192) <|
  fG mo_ald (sim_ald_n dX2_init_83 rfl) <|
  fG mo_int (sim_iconst dX2_init_84 (by decide)) <|
  fG mo_int (sim_iconst dX2_init_85 (by decide)) <|
  fG mo_new2 (sim_new2 hG dX2_init_86 q171 q172 q231) <|
  fG mo_putf (sim_putfF hG dX2_init_90 hc_2 (by decide) rfl (by decide) in_X2 tyX2_ok nmX2 (Or.inr (Or.inr (Or.inr (Or.inr ⟨Or.inr ⟨_, rfl⟩, by decide⟩)))) (fun _ _ _ h => h) rfl rfl rfl q194) <|
  fG mo_ald (sim_ald_n dX2_init_93 rfl) <|
  fG mo_int (sim_iconst dX2_init_94 (by decide)) <|
  fG mo_int (sim_iconst dX2_init_95 (by decide)) <|
  fG mo_new2 (sim_new2 hG dX2_init_96 q171 q172 q231) <|
  fG mo_putf (sim_putfF hG dX2_init_100 hc_2 (by decide) rfl (by decide) in_X2 tyX2_ok nmX2 (Or.inr (Or.inr (Or.inr (Or.inr ⟨Or.inr ⟨_, rfl⟩, by decide⟩)))) (fun _ _ _ h => h) rfl rfl rfl q196) <|
  fG mo_ald (sim_ald_n dX2_init_103 rfl) <|
  fG mo_int (sim_iconst dX2_init_104 (by decide)) <|
  fG mo_int (sim_iconst dX2_init_105 (by decide)) <|
  fG mo_new2 (sim_new2 hG dX2_init_106 q171 q172 q231) <|
  fG mo_putf (sim_putfF hG dX2_init_110 hc_2 (by decide) rfl (by decide) in_X2 tyX2_ok nmX2 (Or.inr (Or.inr (Or.inr (Or.inr ⟨Or.inr ⟨_, rfl⟩, by decide⟩)))) (fun _ _ _ h => h) rfl rfl rfl q198) <|
  fG mo_ald (sim_ald_n dX2_init_113 rfl) <|
  fG mo_int (sim_bipush dX2_init_114 (by decide)) <|
  fG mo_int (sim_iconst dX2_init_116 (by decide)) <|
  fG mo_new2 (sim_new2 hG dX2_init_117 q171 q172 q231) <|
  fG mo_putf (sim_putfF hG dX2_init_121 hc_2 (by decide) rfl (by decide) in_X2 tyX2_ok nmX2 (Or.inr (Or.inr (Or.inr (Or.inr ⟨Or.inr ⟨_, rfl⟩, by decide⟩)))) (fun _ _ _ h => h) rfl rfl rfl q200) <|
  fG mo_ald (sim_ald_n dX2_init_124 rfl) <|
  fG mo_int (sim_iconst dX2_init_125 (by decide)) <|
  fG mo_newa (sim_anew hG dX2_init_126 q173 q174 rfl (Or.inr rfl)) <|
  fG mo_putf (sim_putfF hG dX2_init_129 hc_2 (by decide) rfl (by decide) in_X2 tyX2_ok nmX2 (Or.inr (Or.inr (Or.inr (Or.inr ⟨Or.inr ⟨_, rfl⟩, by decide⟩)))) (fun _ _ _ h => h) rfl rfl rfl q202) <|
  fG mo_ald (sim_ald_n dX2_init_132 rfl) <|
  fG mo_getf (sim_getfG hG dX2_init_133 hc_2 (by decide) rfl in_X2 (fun _ _ _ h => h) (Or.inl q178)) <|
  fG mo_int (sim_iconst dX2_init_136 (by decide)) <|
  fG mo_int (sim_iconst dX2_init_137 (by decide)) <|
  fG mo_sta (sim_iast dX2_init_138) <|
  fG mo_int (sim_iconst dX2_init_139 (by decide)) <|
  fG mo_ist (sim_ist_n dX2_init_140 rfl) <|
  fF
theorem fX2_init_141 {X : tp_X} {az : Array Value} (hG : tp_Good X az) (hSt : tp_Stat X) : tp_Fit X yX2_init cX2_init none 2 tp_nm tp_by tp_ml tp_rtt 141 [o_ild (.iload_n 1) 1, o_int (.iconst 4) 4, o_icmpge 19 162, o_ald (.aload_n 0) 0, o_getf (.getfield 42) 2 9, o_ild (.iload_n 1) 1, o_lda .aaload [4, 5, 6, 7, 28, 29], o_ild (.iload_n 1) 1, o_int (.bipush 10) 10, o_sta .iastore [0], o_inc 1 1, o_goto (-18) 141] :=
  fG mo_ild (sim_ild_n dX2_init_141 rfl) <|
  fG mo_int (sim_iconst dX2_init_142 (by decide)) <|
  fG mo_icmpge (sim_icmpge dX2_init_143 rfl) <|
  fG mo_ald (sim_ald_n dX2_init_146 rfl) <|
  fG mo_getf (sim_getfG hG dX2_init_147 hc_2 (by decide) rfl in_X2 (fun _ _ _ h => h) (Or.inl q196)) <|
  fG mo_ild (sim_ild_n dX2_init_150 rfl) <|
  fG mo_lda (sim_aald dX2_init_151) <|
  fG mo_ild (sim_ild_n dX2_init_152 rfl) <|
  fG mo_int (sim_bipush dX2_init_153 (by decide)) <|
  fG mo_sta (sim_iast dX2_init_155) <|
  fG mo_inc (sim_inc dX2_init_156 (by decide)) <|
  fG mo_goto (sim_goto dX2_init_159 rfl) <|
  trivial
theorem fX2_init_162 {X : tp_X} {az : Array Value} (hG : tp_Good X az) (hSt : tp_Stat X) : tp_Fit X yX2_init cX2_init none 2 tp_nm tp_by tp_ml tp_rtt 162 [o_ald (.aload_n 0) 0, o_getf (.getfield 45) 2 10, o_int (.iconst 0) 0, o_lda .aaload [4, 5, 6, 7, 28, 29], o_int (.iconst 1) 1, o_int (.bipush 20) 20, o_sta .iastore [0], o_ald (.aload_n 0) 0, o_getf (.getfield 45) 2 10, o_int (.iconst 1) 1, o_lda .aaload [4, 5, 6, 7, 28, 29], o_int (.iconst 0) 0, o_int (.iconst (-1)) (-1), o_sta .iastore [0], o_ald (.aload_n 0) 0, o_getf (.getfield 24) 2 4, o_int (.iconst 4) 4, o_cs (.invokestatic 57) kJ0_fill 2 0, o_ald (.aload_n 0) 0, o_getf (.getfield 27) 2 5, o_int (.iconst 1) 1, o_cs (.invokestatic 57) kJ0_fill 2 0, o_vret] :=
  fG mo_ald (sim_ald_n dX2_init_162 rfl) <|
  fG mo_getf (sim_getfG hG dX2_init_163 hc_2 (by decide) rfl in_X2 (fun _ _ _ h => h) (Or.inl q198)) <|
  fG mo_int (sim_iconst dX2_init_166 (by decide)) <|
  fG mo_lda (sim_aald dX2_init_167) <|
  fG mo_int (sim_iconst dX2_init_168 (by decide)) <|
  fG mo_int (sim_bipush dX2_init_169 (by decide)) <|
  fG mo_sta (sim_iast dX2_init_171) <|
  fG mo_ald (sim_ald_n dX2_init_172 rfl) <|
  fG mo_getf (sim_getfG hG dX2_init_173 hc_2 (by decide) rfl in_X2 (fun _ _ _ h => h) (Or.inl q198)) <|
  fG mo_int (sim_iconst dX2_init_176 (by decide)) <|
  fG mo_lda (sim_aald dX2_init_177) <|
  fG mo_int (sim_iconst dX2_init_178 (by decide)) <|
  fG mo_int (sim_iconst dX2_init_179 (by decide)) <|
  fG mo_sta (sim_iast dX2_init_180) <|
  fG mo_ald (sim_ald_n dX2_init_181 rfl) <|
  fG mo_getf (sim_getfG hG dX2_init_182 hc_2 (by decide) rfl in_X2 (fun _ _ _ h => h) (Or.inl q186)) <|
  fG mo_int (sim_iconst dX2_init_185 (by decide)) <|
  fC (ic_cs (Or.inl rfl)) (sim_cs hG dX2_init_186 M_J0_fill (by rw [nm_J0_fill]; rfl) (by rw [nm_J0_fill]; exact q175) (by rw [nm_J0_fill]; exact q176)) <|
  fG mo_ald (sim_ald_n dX2_init_189 rfl) <|
  fG mo_getf (sim_getfG hG dX2_init_190 hc_2 (by decide) rfl in_X2 (fun _ _ _ h => h) (Or.inl q188)) <|
  fG mo_int (sim_iconst dX2_init_193 (by decide)) <|
  fC (ic_cs (Or.inl rfl)) (sim_cs hG dX2_init_194 M_J0_fill (by rw [nm_J0_fill]; rfl) (by rw [nm_J0_fill]; exact q175) (by rw [nm_J0_fill]; exact q176)) <|
  fE ie_vret (sim_vret dX2_init_197 rfl)
theorem F_X2_init {X : tp_X} {az : Array Value} (hG : tp_Good X az) (hSt : tp_Stat X) (pc : Nat) : tp_Fit X yX2_init cX2_init none 2 tp_nm tp_by tp_ml tp_rtt pc (mX2_init pc) :=
  fI (fX2_init_0 hG hSt) <| fI (fX2_init_141 hG hSt) <| fI (fX2_init_162 hG hSt) <| trivial
