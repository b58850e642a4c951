/-! FITS 0 -/
set_option maxRecDepth 100000
theorem fJ0_fill_0 {X : tp_X} {az : Array Value} (hG : tp_Good X az) (hSt : tp_Stat X) : tp_Fit X yJ0_fill cJ0_fill none 4 tp_nm tp_by tp_ml tp_rtt 0 [o_int (.iconst 0) 0, o_ist (.istore_n 2) 2, o_ald (.aload_n 0) 0, o_alen, o_ist (.istore_n 3) 3, o_fall 5] :=
  fG mo_int (sim_iconst dJ0_fill_0 (by decide)) <|
  fG mo_ist (sim_ist_n dJ0_fill_1 rfl) <|
  fG mo_ald (sim_ald_n dJ0_fill_2 rfl) <|
  fG mo_alen (sim_alen dJ0_fill_3) <|
  fG mo_ist (sim_ist_n dJ0_fill_4 rfl) <|
  fF
theorem fJ0_fill_5 {X : tp_X} {az : Array Value} (hG : tp_Good X az) (hSt : tp_Stat X) : tp_Fit X yJ0_fill cJ0_fill none 4 tp_nm tp_by tp_ml tp_rtt 5 [o_ild (.iload_n 2) 2, o_ild (.iload_n 3) 3, o_icmpge 13 20, o_ald (.aload_n 0) 0, o_ild (.iload_n 2) 2, o_ild (.iload_n 1) 1, o_sta .iastore [0], o_inc 2 1, o_goto (-12) 5] :=
  fG mo_ild (sim_ild_n dJ0_fill_5 rfl) <|
  fG mo_ild (sim_ild_n dJ0_fill_6 rfl) <|
  fG mo_icmpge (sim_icmpge dJ0_fill_7 rfl) <|
  fG mo_ald (sim_ald_n dJ0_fill_10 rfl) <|
  fG mo_ild (sim_ild_n dJ0_fill_11 rfl) <|
  fG mo_ild (sim_ild_n dJ0_fill_12 rfl) <|
  fG mo_sta (sim_iast dJ0_fill_13) <|
  fG mo_inc (sim_inc dJ0_fill_14 (by decide)) <|
  fG mo_goto (sim_goto dJ0_fill_17 rfl) <|
  trivial
theorem fJ0_fill_20 {X : tp_X} {az : Array Value} (hG : tp_Good X az) (hSt : tp_Stat X) : tp_Fit X yJ0_fill cJ0_fill none 4 tp_nm tp_by tp_ml tp_rtt 20 [o_vret] :=
  fE ie_vret (sim_vret dJ0_fill_20 rfl)
theorem F_J0_fill {X : tp_X} {az : Array Value} (hG : tp_Good X az) (hSt : tp_Stat X) (pc : Nat) : tp_Fit X yJ0_fill cJ0_fill none 4 tp_nm tp_by tp_ml tp_rtt pc (mJ0_fill pc) :=
  fI (fJ0_fill_0 hG hSt) <| fI (fJ0_fill_5 hG hSt) <| fI (fJ0_fill_20 hG hSt) <| trivial
theorem fJ0_copyOf_0 {X : tp_X} {az : Array Value} (hG : tp_Good X az) (hSt : tp_Stat X) : tp_Fit X yJ0_copyOf cJ0_copyOf (some (.array (.object "java/lang/Object"))) 2 tp_nm tp_by tp_ml tp_rtt 0 [o_ald (.aload_n 0) 0, o_ild (.iload_n 1) 1, o_ald (.aload_n 0) 0, o_getcls (.invokevirtual 86), o_cs (.invokestatic 300) kJ0_copyOf_2 3 0, o_aret] :=
  fG mo_ald (sim_ald_n dJ0_copyOf_0 rfl) <|
  fG mo_ild (sim_ild_n dJ0_copyOf_1 rfl) <|
  fG mo_ald (sim_ald_n dJ0_copyOf_2 rfl) <|
  fG mo_getcls (sim_getcls hG dJ0_copyOf_3 q779 q1920 q1919 q780 q798 hSt.1.choose_spec.1 hSt.1.choose_spec.2) <|
  fC (ic_cs (Or.inl rfl)) (sim_cs hG dJ0_copyOf_6 M_J0_copyOf_2 (by rw [nm_J0_copyOf_2]; rfl) (by rw [nm_J0_copyOf_2]; exact q799) (by rw [nm_J0_copyOf_2]; exact q800)) <|
  fE ie_aret (sim_aret dJ0_copyOf_9 rfl (Or.inr ⟨_, rfl⟩))
theorem F_J0_copyOf {X : tp_X} {az : Array Value} (hG : tp_Good X az) (hSt : tp_Stat X) (pc : Nat) : tp_Fit X yJ0_copyOf cJ0_copyOf (some (.array (.object "java/lang/Object"))) 2 tp_nm tp_by tp_ml tp_rtt pc (mJ0_copyOf pc) :=
  fI (fJ0_copyOf_0 hG hSt) <| trivial
theorem fJ0_copyOf_2_0 {X : tp_X} {az : Array Value} (hG : tp_Good X az) (hSt : tp_Stat X) : tp_Fit X yJ0_copyOf_2 cJ0_copyOf_2 (some (.array (.object "java/lang/Object"))) 4 tp_nm tp_by tp_ml tp_rtt 0 [o_ald (.aload_n 2) 2, o_gs (.ldc 110) 0, o_acmpne 10 13, o_ild (.iload_n 1) 1, o_newa (.anewarray 2) 6, o_goto 14 24] :=
  fG mo_ald (sim_ald_n dJ0_copyOf_2_0 rfl) <|
  fG mo_gs (sim_ldcM hG dJ0_copyOf_2_1 q802 hSt.1.choose_spec.1 hSt.1.choose_spec.2) <|
  fG mo_acmpne (sim_acmpne dJ0_copyOf_2_3 rfl) <|
  fG mo_ild (sim_ild_n dJ0_copyOf_2_6 rfl) <|
  fG mo_newa (sim_anew hG dJ0_copyOf_2_7 q804 q803 rfl (Or.inl rfl)) <|
  fG mo_goto (sim_goto dJ0_copyOf_2_10 rfl) <|
  trivial
theorem fJ0_copyOf_2_13 {X : tp_X} {az : Array Value} (hG : tp_Good X az) (hSt : tp_Stat X) : tp_Fit X yJ0_copyOf_2 cJ0_copyOf_2 (some (.array (.object "java/lang/Object"))) 4 tp_nm tp_by tp_ml tp_rtt 13 [o_ald (.aload_n 2) 2, o_dead (.invokevirtual 90), o_ild (.iload_n 1) 1, o_dead (.invokestatic 95), o_dead (.checkcast 110), o_fall 24] :=
  fG mo_ald (sim_ald_n dJ0_copyOf_2_13 rfl) <|
  fD
theorem fJ0_copyOf_2_24 {X : tp_X} {az : Array Value} (hG : tp_Good X az) (hSt : tp_Stat X) : tp_Fit X yJ0_copyOf_2 cJ0_copyOf_2 (some (.array (.object "java/lang/Object"))) 4 tp_nm tp_by tp_ml tp_rtt 24 [o_ast (.astore_n 3) 3, o_ald (.aload_n 0) 0, o_int (.iconst 0) 0, o_ald (.aload_n 3) 3, o_int (.iconst 0) 0, o_ald (.aload_n 0) 0, o_alen, o_ild (.iload_n 1) 1, o_mmin (.invokestatic 304), o_acopy (.invokestatic 150), o_ald (.aload_n 3) 3, o_aret] :=
  fG mo_ast (sim_ast_n dJ0_copyOf_2_24 rfl) <|
  fG mo_ald (sim_ald_n dJ0_copyOf_2_25 rfl) <|
  fG mo_int (sim_iconst dJ0_copyOf_2_26 (by decide)) <|
  fG mo_ald (sim_ald_n dJ0_copyOf_2_27 rfl) <|
  fG mo_int (sim_iconst dJ0_copyOf_2_28 (by decide)) <|
  fG mo_ald (sim_ald_n dJ0_copyOf_2_29 rfl) <|
  fG mo_alen (sim_alen dJ0_copyOf_2_30) <|
  fG mo_ild (sim_ild_n dJ0_copyOf_2_31 rfl) <|
  fG mo_mmin (sim_mmin hG dJ0_copyOf_2_32 q805 q238 q128 q239) <|
  fG mo_acopy (sim_acopy hG dJ0_copyOf_2_35 q806 q252 q251 q129) <|
  fG mo_ald (sim_ald_n dJ0_copyOf_2_38 rfl) <|
  fE ie_aret (sim_aret dJ0_copyOf_2_39 rfl (Or.inr ⟨_, rfl⟩))
theorem F_J0_copyOf_2 {X : tp_X} {az : Array Value} (hG : tp_Good X az) (hSt : tp_Stat X) (pc : Nat) : tp_Fit X yJ0_copyOf_2 cJ0_copyOf_2 (some (.array (.object "java/lang/Object"))) 4 tp_nm tp_by tp_ml tp_rtt pc (mJ0_copyOf_2 pc) :=
  fI (fJ0_copyOf_2_0 hG hSt) <| fI (fJ0_copyOf_2_13 hG hSt) <| fI (fJ0_copyOf_2_24 hG hSt) <| trivial
theorem fJ0_fill_2_0 {X : tp_X} {az : Array Value} (hG : tp_Good X az) (hSt : tp_Stat X) : tp_Fit X yJ0_fill_2 cJ0_fill_2 none 5 tp_nm tp_by tp_ml tp_rtt 0 [o_ald (.aload_n 0) 0, o_alen, o_ild (.iload_n 1) 1, o_ild (.iload_n 2) 2, o_cs (.invokestatic 13) kJ0_rangeCheck 3 0, o_ild (.iload_n 1) 1, o_ist (.istore 4) 4, o_fall 10] :=
  fG mo_ald (sim_ald_n dJ0_fill_2_0 rfl) <|
  fG mo_alen (sim_alen dJ0_fill_2_1) <|
  fG mo_ild (sim_ild_n dJ0_fill_2_2 rfl) <|
  fG mo_ild (sim_ild_n dJ0_fill_2_3 rfl) <|
  fC (ic_cs (Or.inl rfl)) (sim_cs hG dJ0_fill_2_4 M_J0_rangeCheck (by rw [nm_J0_rangeCheck]; rfl) (by rw [nm_J0_rangeCheck]; exact q1166) (by rw [nm_J0_rangeCheck]; exact q1167)) <|
  fG mo_ild (sim_ild_n dJ0_fill_2_7 rfl) <|
  fG mo_ist (sim_ist dJ0_fill_2_8) <|
  fF
theorem fJ0_fill_2_10 {X : tp_X} {az : Array Value} (hG : tp_Good X az) (hSt : tp_Stat X) : tp_Fit X yJ0_fill_2 cJ0_fill_2 none 5 tp_nm tp_by tp_ml tp_rtt 10 [o_ild (.iload 4) 4, o_ild (.iload_n 2) 2, o_icmpge 14 27, o_ald (.aload_n 0) 0, o_ild (.iload 4) 4, o_ild (.iload_n 3) 3, o_sta .iastore [0], o_inc 4 1, o_goto (-14) 10] :=
  fG mo_ild (sim_ild dJ0_fill_2_10) <|
  fG mo_ild (sim_ild_n dJ0_fill_2_12 rfl) <|
  fG mo_icmpge (sim_icmpge dJ0_fill_2_13 rfl) <|
  fG mo_ald (sim_ald_n dJ0_fill_2_16 rfl) <|
  fG mo_ild (sim_ild dJ0_fill_2_17) <|
  fG mo_ild (sim_ild_n dJ0_fill_2_19 rfl) <|
  fG mo_sta (sim_iast dJ0_fill_2_20) <|
  fG mo_inc (sim_inc dJ0_fill_2_21 (by decide)) <|
  fG mo_goto (sim_goto dJ0_fill_2_24 rfl) <|
  trivial
theorem fJ0_fill_2_27 {X : tp_X} {az : Array Value} (hG : tp_Good X az) (hSt : tp_Stat X) : tp_Fit X yJ0_fill_2 cJ0_fill_2 none 5 tp_nm tp_by tp_ml tp_rtt 27 [o_vret] :=
  fE ie_vret (sim_vret dJ0_fill_2_27 rfl)
theorem F_J0_fill_2 {X : tp_X} {az : Array Value} (hG : tp_Good X az) (hSt : tp_Stat X) (pc : Nat) : tp_Fit X yJ0_fill_2 cJ0_fill_2 none 5 tp_nm tp_by tp_ml tp_rtt pc (mJ0_fill_2 pc) :=
  fI (fJ0_fill_2_0 hG hSt) <| fI (fJ0_fill_2_10 hG hSt) <| fI (fJ0_fill_2_27 hG hSt) <| trivial
theorem fJ0_rangeCheck_0 {X : tp_X} {az : Array Value} (hG : tp_Good X az) (hSt : tp_Stat X) : tp_Fit X yJ0_rangeCheck cJ0_rangeCheck none 3 tp_nm tp_by tp_ml tp_rtt 0 [o_ild (.iload_n 1) 1, o_ild (.iload_n 2) 2, o_icmple 44 46, o_dead (.new 43), o_dup, o_dead (.new 45), o_dup, o_dead (.invokespecial 47), o_dead (.ldc 48), o_dead (.invokevirtual 50), o_ild (.iload_n 1) 1, o_dead (.invokevirtual 54), o_dead (.ldc 57), o_dead (.invokevirtual 50), o_ild (.iload_n 2) 2, o_dead (.invokevirtual 54), o_dead (.ldc 59), o_dead (.invokevirtual 50), o_dead (.invokevirtual 61), o_dead (.invokespecial 65), o_thr] :=
  fG mo_ild (sim_ild_n dJ0_rangeCheck_0 rfl) <|
  fG mo_ild (sim_ild_n dJ0_rangeCheck_1 rfl) <|
  fG mo_icmple (sim_icmple dJ0_rangeCheck_2 rfl) <|
  fD
theorem fJ0_rangeCheck_46 {X : tp_X} {az : Array Value} (hG : tp_Good X az) (hSt : tp_Stat X) : tp_Fit X yJ0_rangeCheck cJ0_rangeCheck none 3 tp_nm tp_by tp_ml tp_rtt 46 [o_ild (.iload_n 1) 1, o_ifge 12 59, o_dead (.new 68), o_dup, o_ild (.iload_n 1) 1, o_dead (.invokespecial 70), o_thr] :=
  fG mo_ild (sim_ild_n dJ0_rangeCheck_46 rfl) <|
  fG mo_ifge (sim_ifge dJ0_rangeCheck_47 rfl) <|
  fD
theorem fJ0_rangeCheck_59 {X : tp_X} {az : Array Value} (hG : tp_Good X az) (hSt : tp_Stat X) : tp_Fit X yJ0_rangeCheck cJ0_rangeCheck none 3 tp_nm tp_by tp_ml tp_rtt 59 [o_ild (.iload_n 2) 2, o_ild (.iload_n 0) 0, o_icmple 12 73, o_dead (.new 68), o_dup, o_ild (.iload_n 2) 2, o_dead (.invokespecial 70), o_thr] :=
  fG mo_ild (sim_ild_n dJ0_rangeCheck_59 rfl) <|
  fG mo_ild (sim_ild_n dJ0_rangeCheck_60 rfl) <|
  fG mo_icmple (sim_icmple dJ0_rangeCheck_61 rfl) <|
  fD
theorem fJ0_rangeCheck_73 {X : tp_X} {az : Array Value} (hG : tp_Good X az) (hSt : tp_Stat X) : tp_Fit X yJ0_rangeCheck cJ0_rangeCheck none 3 tp_nm tp_by tp_ml tp_rtt 73 [o_vret] :=
  fE ie_vret (sim_vret dJ0_rangeCheck_73 rfl)
theorem F_J0_rangeCheck {X : tp_X} {az : Array Value} (hG : tp_Good X az) (hSt : tp_Stat X) (pc : Nat) : tp_Fit X yJ0_rangeCheck cJ0_rangeCheck none 3 tp_nm tp_by tp_ml tp_rtt pc (mJ0_rangeCheck pc) :=
  fI (fJ0_rangeCheck_0 hG hSt) <| fI (fJ0_rangeCheck_46 hG hSt) <| fI (fJ0_rangeCheck_59 hG hSt) <| fI (fJ0_rangeCheck_73 hG hSt) <| trivial
theorem fJ11_init_0 {X : tp_X} {az : Array Value} (hG : tp_Good X az) (hSt : tp_Stat X) : tp_Fit X yJ11_init cJ11_init none 1 tp_nm tp_by tp_ml tp_rtt 0 [o_ald (.aload_n 0) 0, o_objinit (.invokespecial 1), o_vret] :=
  fG mo_ald (sim_ald_n dJ11_init_0 rfl) <|
  fG mo_objinit (sim_objinit hG dJ11_init_1 q655 q163 q164) <|
  fE ie_vret (sim_vret dJ11_init_4 rfl)
theorem F_J11_init {X : tp_X} {az : Array Value} (hG : tp_Good X az) (hSt : tp_Stat X) (pc : Nat) : tp_Fit X yJ11_init cJ11_init none 1 tp_nm tp_by tp_ml tp_rtt pc (mJ11_init pc) :=
  fI (fJ11_init_0 hG hSt) <| trivial
theorem fJ12_init_0 {X : tp_X} {az : Array Value} (hG : tp_Good X az) (hSt : tp_Stat X) : tp_Fit X yJ12_init cJ12_init none 1 tp_nm tp_by tp_ml tp_rtt 0 [o_ald (.aload_n 0) 0, o_objinit (.invokespecial 1), o_vret] :=
  fG mo_ald (sim_ald_n dJ12_init_0 rfl) <|
  fG mo_objinit (sim_objinit hG dJ12_init_1 q747 q163 q164) <|
  fE ie_vret (sim_vret dJ12_init_4 rfl)
theorem F_J12_init {X : tp_X} {az : Array Value} (hG : tp_Good X az) (hSt : tp_Stat X) (pc : Nat) : tp_Fit X yJ12_init cJ12_init none 1 tp_nm tp_by tp_ml tp_rtt pc (mJ12_init pc) :=
  fI (fJ12_init_0 hG hSt) <| trivial
theorem fJ13_valueOf_0 {X : tp_X} {az : Array Value} (hG : tp_Good X az) (hSt : tp_Stat X) : tp_Fit X yJ13_valueOf cJ13_valueOf (some (.object "java/lang/Integer")) 1 tp_nm tp_by tp_ml tp_rtt 0 [o_ild (.iload_n 0) 0, o_int (.bipush (-128)) (-128), o_icmplt 20 23, o_ild (.iload_n 0) 0, o_gs (.getstatic 191) 1, o_icmpgt 13 23, o_gs (.getstatic 195) 2, o_ild (.iload_n 0) 0, o_int (.sipush 128) 128, o_iadd, o_lda .aaload [4, 5, 6, 7, 28, 29], o_aret] :=
  fG mo_ild (sim_ild_n dJ13_valueOf_0 rfl) <|
  fG mo_int (sim_bipush dJ13_valueOf_1 (by decide)) <|
  fG mo_icmplt (sim_icmplt dJ13_valueOf_3 rfl) <|
  fG mo_ild (sim_ild_n dJ13_valueOf_6 rfl) <|
  fG mo_gs (sim_gs hG dJ13_valueOf_7 hSt.2.1 q735 rfl) <|
  fG mo_icmpgt (sim_icmpgt dJ13_valueOf_10 rfl) <|
  fG mo_gs (sim_gs hG dJ13_valueOf_13 hSt.2.2.1 q737 rfl) <|
  fG mo_ild (sim_ild_n dJ13_valueOf_16 rfl) <|
  fG mo_int (sim_sipush dJ13_valueOf_17 (by decide)) <|
  fG mo_iadd (sim_iadd dJ13_valueOf_20) <|
  fG mo_lda (sim_aald dJ13_valueOf_21) <|
  fE ie_aret (sim_aret dJ13_valueOf_22 rfl (Or.inl ⟨_, rfl⟩))
theorem fJ13_valueOf_23 {X : tp_X} {az : Array Value} (hG : tp_Good X az) (hSt : tp_Stat X) : tp_Fit X yJ13_valueOf cJ13_valueOf (some (.object "java/lang/Integer")) 1 tp_nm tp_by tp_ml tp_rtt 23 [o_dead (.new 1), o_dup, o_ild (.iload_n 0) 0, o_cp (.invokespecial 199) kJ13_init 1 0, o_aret] :=
  fD
theorem F_J13_valueOf {X : tp_X} {az : Array Value} (hG : tp_Good X az) (hSt : tp_Stat X) (pc : Nat) : tp_Fit X yJ13_valueOf cJ13_valueOf (some (.object "java/lang/Integer")) 1 tp_nm tp_by tp_ml tp_rtt pc (mJ13_valueOf pc) :=
  fI (fJ13_valueOf_0 hG hSt) <| fI (fJ13_valueOf_23 hG hSt) <| trivial
theorem fJ13_init_0 {X : tp_X} {az : Array Value} (hG : tp_Good X az) (hSt : tp_Stat X) : tp_Fit X yJ13_init cJ13_init none 2 tp_nm tp_by tp_ml tp_rtt 0 [o_ald (.aload_n 0) 0, o_cp (.invokespecial 202) kJ12_init 0 0, o_ald (.aload_n 0) 0, o_ild (.iload_n 1) 1, o_dead (.putfield 205), o_vret] :=
  fG mo_ald (sim_ald_n dJ13_init_0 rfl) <|
  fC (ic_cp (Or.inl rfl)) (sim_cp hG dJ13_init_1 M_J12_init (by rw [nm_J12_init]; rfl) rt_J12_init (by rw [nm_J12_init]; rfl) (by rw [nm_J12_init]; exact q744) (by rw [nm_J12_init]; exact q745)) <|
  fG mo_ald (sim_ald_n dJ13_init_4 rfl) <|
  fG mo_ild (sim_ild_n dJ13_init_5 rfl) <|
  fD
theorem F_J13_init {X : tp_X} {az : Array Value} (hG : tp_Good X az) (hSt : tp_Stat X) (pc : Nat) : tp_Fit X yJ13_init cJ13_init none 2 tp_nm tp_by tp_ml tp_rtt pc (mJ13_init pc) :=
  fI (fJ13_init_0 hG hSt) <| trivial
theorem fJ13_intValue_0 {X : tp_X} {az : Array Value} (hG : tp_Good X az) (hSt : tp_Stat X) : tp_Fit X yJ13_intValue cJ13_intValue (some .int) 1 tp_nm tp_by tp_ml tp_rtt 0 [o_ald (.aload_n 0) 0, o_getf (.getfield 205) 16 0, o_iret 0] :=
  fG mo_ald (sim_ald_n dJ13_intValue_0 rfl) <|
  fG mo_getf (sim_getfG hG dJ13_intValue_1 hc_16 (by decide) rfl in_J13 (fun _ _ _ h => h) (Or.inl q748)) <|
  fE ie_iret (sim_iret dJ13_intValue_4 rfl (Or.inl ⟨rfl, rfl⟩))
theorem F_J13_intValue {X : tp_X} {az : Array Value} (hG : tp_Good X az) (hSt : tp_Stat X) (pc : Nat) : tp_Fit X yJ13_intValue cJ13_intValue (some .int) 1 tp_nm tp_by tp_ml tp_rtt pc (mJ13_intValue pc) :=
  fI (fJ13_intValue_0 hG hSt) <| trivial
theorem fJ14_newLength_0 {X : tp_X} {az : Array Value} (hG : tp_Good X az) (hSt : tp_Stat X) : tp_Fit X yJ14_newLength cJ14_newLength (some .int) 4 tp_nm tp_by tp_ml tp_rtt 0 [o_ild (.iload_n 0) 0, o_ild (.iload_n 1) 1, o_ild (.iload_n 2) 2, o_mmax (.invokestatic 194), o_iadd, o_ist (.istore_n 3) 3, o_int (.iconst 0) 0, o_ild (.iload_n 3) 3, o_icmpge 11 21, o_ild (.iload_n 3) 3, o_int (.ldc 200) 2147483639, o_icmpgt 5 21, o_ild (.iload_n 3) 3, o_iret 0] :=
  fG mo_ild (sim_ild_n dJ14_newLength_0 rfl) <|
  fG mo_ild (sim_ild_n dJ14_newLength_1 rfl) <|
  fG mo_ild (sim_ild_n dJ14_newLength_2 rfl) <|
  fG mo_mmax (sim_mmax hG dJ14_newLength_3 q771 q241 q128 q242) <|
  fG mo_iadd (sim_iadd dJ14_newLength_6) <|
  fG mo_ist (sim_ist_n dJ14_newLength_7 rfl) <|
  fG mo_int (sim_iconst dJ14_newLength_8 (by decide)) <|
  fG mo_ild (sim_ild_n dJ14_newLength_9 rfl) <|
  fG mo_icmpge (sim_icmpge dJ14_newLength_10 rfl) <|
  fG mo_ild (sim_ild_n dJ14_newLength_13 rfl) <|
  fG mo_int (sim_ldc hG dJ14_newLength_14 q772 rfl) <|
  fG mo_icmpgt (sim_icmpgt dJ14_newLength_16 rfl) <|
  fG mo_ild (sim_ild_n dJ14_newLength_19 rfl) <|
  fE ie_iret (sim_iret dJ14_newLength_20 rfl (Or.inl ⟨rfl, rfl⟩))
theorem fJ14_newLength_21 {X : tp_X} {az : Array Value} (hG : tp_Good X az) (hSt : tp_Stat X) : tp_Fit X yJ14_newLength cJ14_newLength (some .int) 4 tp_nm tp_by tp_ml tp_rtt 21 [o_ild (.iload_n 0) 0, o_ild (.iload_n 1) 1, o_dead (.invokestatic 201), o_iret 0] :=
  fG mo_ild (sim_ild_n dJ14_newLength_21 rfl) <|
  fG mo_ild (sim_ild_n dJ14_newLength_22 rfl) <|
  fD
theorem F_J14_newLength {X : tp_X} {az : Array Value} (hG : tp_Good X az) (hSt : tp_Stat X) (pc : Nat) : tp_Fit X yJ14_newLength cJ14_newLength (some .int) 4 tp_nm tp_by tp_ml tp_rtt pc (mJ14_newLength pc) :=
  fI (fJ14_newLength_0 hG hSt) <| fI (fJ14_newLength_21 hG hSt) <| trivial
theorem fJ15_checkIndex_0 {X : tp_X} {az : Array Value} (hG : tp_Good X az) (hSt : tp_Stat X) : tp_Fit X yJ15_checkIndex cJ15_checkIndex (some .int) 2 tp_nm tp_by tp_ml tp_rtt 0 [o_ild (.iload_n 0) 0, o_ild (.iload_n 1) 1, o_null, o_cs (.invokestatic 105) kJ7_checkIndex 3 0, o_iret 0] :=
  fG mo_ild (sim_ild_n dJ15_checkIndex_0 rfl) <|
  fG mo_ild (sim_ild_n dJ15_checkIndex_1 rfl) <|
  fG mo_null (sim_null dJ15_checkIndex_2) <|
  fC (ic_cs (Or.inl rfl)) (sim_cs hG dJ15_checkIndex_3 M_J7_checkIndex (by rw [nm_J7_checkIndex]; rfl) (by rw [nm_J7_checkIndex]; exact q845) (by rw [nm_J7_checkIndex]; exact q530)) <|
  fE ie_iret (sim_iret dJ15_checkIndex_6 rfl (Or.inl ⟨rfl, rfl⟩))
theorem F_J15_checkIndex {X : tp_X} {az : Array Value} (hG : tp_Good X az) (hSt : tp_Stat X) (pc : Nat) : tp_Fit X yJ15_checkIndex cJ15_checkIndex (some .int) 2 tp_nm tp_by tp_ml tp_rtt pc (mJ15_checkIndex pc) :=
  fI (fJ15_checkIndex_0 hG hSt) <| trivial
theorem fJ2_init_0 {X : tp_X} {az : Array Value} (hG : tp_Good X az) (hSt : tp_Stat X) : tp_Fit X yJ2_init cJ2_init none 1 tp_nm tp_by tp_ml tp_rtt 0 [o_ald (.aload_n 0) 0, o_objinit (.invokespecial 1), o_vret] :=
  fG mo_ald (sim_ald_n dJ2_init_0 rfl) <|
  fG mo_objinit (sim_objinit hG dJ2_init_1 q443 q163 q164) <|
  fE ie_vret (sim_vret dJ2_init_4 rfl)
theorem F_J2_init {X : tp_X} {az : Array Value} (hG : tp_Good X az) (hSt : tp_Stat X) (pc : Nat) : tp_Fit X yJ2_init cJ2_init none 1 tp_nm tp_by tp_ml tp_rtt pc (mJ2_init pc) :=
  fI (fJ2_init_0 hG hSt) <| trivial
theorem fJ3_init_0 {X : tp_X} {az : Array Value} (hG : tp_Good X az) (hSt : tp_Stat X) : tp_Fit X yJ3_init cJ3_init none 1 tp_nm tp_by tp_ml tp_rtt 0 [o_ald (.aload_n 0) 0, o_cp (.invokespecial 1) kJ2_init 0 0, o_ald (.aload_n 0) 0, o_int (.iconst 0) 0, o_putf (.putfield 7) 15 0 0, o_vret] :=
  fG mo_ald (sim_ald_n dJ3_init_0 rfl) <|
  fC (ic_cp (Or.inl rfl)) (sim_cp hG dJ3_init_1 M_J2_init (by rw [nm_J2_init]; rfl) rt_J2_init (by rw [nm_J2_init]; rfl) (by rw [nm_J2_init]; exact q440) (by rw [nm_J2_init]; exact q441)) <|
  fG mo_ald (sim_ald_n dJ3_init_4 rfl) <|
  fG mo_int (sim_iconst dJ3_init_5 (by decide)) <|
  fG mo_putf (sim_putf hG dJ3_init_6 hc_15 (by decide) rfl (by decide) in_J4 tyJ4_ok nmJ4 (Or.inl ⟨rfl, rfl⟩) (fun _ _ _ h => h) rfl q448) <|
  fE ie_vret (sim_vret dJ3_init_9 rfl)
theorem F_J3_init {X : tp_X} {az : Array Value} (hG : tp_Good X az) (hSt : tp_Stat X) (pc : Nat) : tp_Fit X yJ3_init cJ3_init none 1 tp_nm tp_by tp_ml tp_rtt pc (mJ3_init pc) :=
  fI (fJ3_init_0 hG hSt) <| trivial
theorem fJ4_init_0 {X : tp_X} {az : Array Value} (hG : tp_Good X az) (hSt : tp_Stat X) : tp_Fit X yJ4_init cJ4_init none 1 tp_nm tp_by tp_ml tp_rtt 0 [o_ald (.aload_n 0) 0, o_cp (.invokespecial 1) kJ3_init 0 0, o_ald (.aload_n 0) 0, o_gs (.getstatic 39) 3, o_putf (.putfield 9) 15 1 4, o_vret] :=
  fG mo_ald (sim_ald_n dJ4_init_0 rfl) <|
  fC (ic_cp (Or.inl rfl)) (sim_cp hG dJ4_init_1 M_J3_init (by rw [nm_J3_init]; rfl) rt_J3_init (by rw [nm_J3_init]; rfl) (by rw [nm_J3_init]; exact q437) (by rw [nm_J3_init]; exact q438)) <|
  fG mo_ald (sim_ald_n dJ4_init_4 rfl) <|
  fG mo_gs (sim_gs hG dJ4_init_5 hSt.2.2.2.1 q444 rfl) <|
  fG mo_putf (sim_putf hG dJ4_init_8 hc_15 (by decide) rfl (by decide) in_J4 tyJ4_ok nmJ4 (Or.inr (Or.inr (Or.inr (Or.inr ⟨Or.inr ⟨_, rfl⟩, by decide⟩)))) (fun _ _ _ h => h) rfl q446) <|
  fE ie_vret (sim_vret dJ4_init_11 rfl)
theorem F_J4_init {X : tp_X} {az : Array Value} (hG : tp_Good X az) (hSt : tp_Stat X) (pc : Nat) : tp_Fit X yJ4_init cJ4_init none 1 tp_nm tp_by tp_ml tp_rtt pc (mJ4_init pc) :=
  fI (fJ4_init_0 hG hSt) <| trivial
theorem fJ4_add_0 {X : tp_X} {az : Array Value} (hG : tp_Good X az) (hSt : tp_Stat X) : tp_Fit X yJ4_add cJ4_add (some .boolean) 2 tp_nm tp_by tp_ml tp_rtt 0 [o_ald (.aload_n 0) 0, o_dup, o_getf (.getfield 63) 15 0, o_int (.iconst 1) 1, o_iadd, o_putf (.putfield 63) 15 0 0, o_ald (.aload_n 0) 0, o_ald (.aload_n 1) 1, o_ald (.aload_n 0) 0, o_getf (.getfield 9) 15 1, o_ald (.aload_n 0) 0, o_getf (.getfield 48) 15 2, o_cv (.invokevirtual 131) 15 kJ4_add_2 3 0, o_int (.iconst 1) 1, o_iret 1] :=
  fG mo_ald (sim_ald_n dJ4_add_0 rfl) <|
  fG mo_dup (sim_dup dJ4_add_1) <|
  fG mo_getf (sim_getfG hG dJ4_add_2 hc_15 (by decide) rfl in_J4 (fun s hW x h => u_same (tp_word hG hW q450 #[]) x h) (Or.inl q449)) <|
  fG mo_int (sim_iconst dJ4_add_5 (by decide)) <|
  fG mo_iadd (sim_iadd dJ4_add_6) <|
  fG mo_putf (sim_putf hG dJ4_add_7 hc_15 (by decide) rfl (by decide) in_J4 tyJ4_ok nmJ4 (Or.inl ⟨rfl, rfl⟩) (fun s hW x h => u_same (tp_word hG hW q450 #[]) x h) rfl q449) <|
  fG mo_ald (sim_ald_n dJ4_add_10 rfl) <|
  fG mo_ald (sim_ald_n dJ4_add_11 rfl) <|
  fG mo_ald (sim_ald_n dJ4_add_12 rfl) <|
  fG mo_getf (sim_getfG hG dJ4_add_13 hc_15 (by decide) rfl in_J4 (fun _ _ _ h => h) (Or.inl q446)) <|
  fG mo_ald (sim_ald_n dJ4_add_16 rfl) <|
  fG mo_getf (sim_getfG hG dJ4_add_17 hc_15 (by decide) rfl in_J4 (fun _ _ _ h => h) (Or.inl q447)) <|
  fC (ic_cv (Or.inl rfl)) (sim_cv hG dJ4_add_20 (hG.2.1 15 _ hc_15).2.1 M_J4_add_2 (by rw [nm_J4_add_2]; rfl) (by rw [nm_J4_add_2]; exact q756) (by rw [nm_J4_add_2]; exact q758) (by rw [nm_J4_add_2]; exact qs16)) <|
  fG mo_int (sim_iconst dJ4_add_23 (by decide)) <|
  fE ie_iret (sim_iret dJ4_add_24 rfl (Or.inr (Or.inl ⟨rfl, rfl⟩)))
theorem F_J4_add {X : tp_X} {az : Array Value} (hG : tp_Good X az) (hSt : tp_Stat X) (pc : Nat) : tp_Fit X yJ4_add cJ4_add (some .boolean) 2 tp_nm tp_by tp_ml tp_rtt pc (mJ4_add pc) :=
  fI (fJ4_add_0 hG hSt) <| trivial
theorem fJ4_add_2_0 {X : tp_X} {az : Array Value} (hG : tp_Good X az) (hSt : tp_Stat X) : tp_Fit X yJ4_add_2 cJ4_add_2 none 4 tp_nm tp_by tp_ml tp_rtt 0 [o_ild (.iload_n 3) 3, o_ald (.aload_n 2) 2, o_alen, o_icmpne 8 11, o_ald (.aload_n 0) 0, o_cv (.invokevirtual 129) 15 kJ4_grow 0 0, o_ast (.astore_n 2) 2, o_fall 11] :=
  fG mo_ild (sim_ild_n dJ4_add_2_0 rfl) <|
  fG mo_ald (sim_ald_n dJ4_add_2_1 rfl) <|
  fG mo_alen (sim_alen dJ4_add_2_2) <|
  fG mo_icmpne (sim_icmpne dJ4_add_2_3 rfl) <|
  fG mo_ald (sim_ald_n dJ4_add_2_6 rfl) <|
  fC (ic_cv (Or.inl rfl)) (sim_cv hG dJ4_add_2_7 (hG.2.1 15 _ hc_15).2.1 M_J4_grow (by rw [nm_J4_grow]; rfl) (by rw [nm_J4_grow]; exact q760) (by rw [nm_J4_grow]; exact q762) (by rw [nm_J4_grow]; exact qs17)) <|
  fG mo_ast (sim_ast_n dJ4_add_2_10 rfl) <|
  fF
theorem fJ4_add_2_11 {X : tp_X} {az : Array Value} (hG : tp_Good X az) (hSt : tp_Stat X) : tp_Fit X yJ4_add_2 cJ4_add_2 none 4 tp_nm tp_by tp_ml tp_rtt 11 [o_ald (.aload_n 2) 2, o_ild (.iload_n 3) 3, o_ald (.aload_n 1) 1, o_aast [6] [7, 8, 9, 10, 11, 12, 13, 14, 16], o_ald (.aload_n 0) 0, o_ild (.iload_n 3) 3, o_int (.iconst 1) 1, o_iadd, o_putf (.putfield 48) 15 2 0, o_vret] :=
  fG mo_ald (sim_ald_n dJ4_add_2_11 rfl) <|
  fG mo_ild (sim_ild_n dJ4_add_2_12 rfl) <|
  fG mo_ald (sim_ald_n dJ4_add_2_13 rfl) <|
  fG mo_aast (sim_aast hG dJ4_add_2_14 (Or.inl rfl) (by decide)) <|
  fG mo_ald (sim_ald_n dJ4_add_2_15 rfl) <|
  fG mo_ild (sim_ild_n dJ4_add_2_16 rfl) <|
  fG mo_int (sim_iconst dJ4_add_2_17 (by decide)) <|
  fG mo_iadd (sim_iadd dJ4_add_2_18) <|
  fG mo_putf (sim_putf hG dJ4_add_2_19 hc_15 (by decide) rfl (by decide) in_J4 tyJ4_ok nmJ4 (Or.inl ⟨rfl, rfl⟩) (fun _ _ _ h => h) rfl q447) <|
  fE ie_vret (sim_vret dJ4_add_2_22 rfl)
theorem F_J4_add_2 {X : tp_X} {az : Array Value} (hG : tp_Good X az) (hSt : tp_Stat X) (pc : Nat) : tp_Fit X yJ4_add_2 cJ4_add_2 none 4 tp_nm tp_by tp_ml tp_rtt pc (mJ4_add_2 pc) :=
  fI (fJ4_add_2_0 hG hSt) <| fI (fJ4_add_2_11 hG hSt) <| trivial
theorem fJ4_grow_0 {X : tp_X} {az : Array Value} (hG : tp_Good X az) (hSt : tp_Stat X) : tp_Fit X yJ4_grow cJ4_grow (some (.array (.object "java/lang/Object"))) 1 tp_nm tp_by tp_ml tp_rtt 0 [o_ald (.aload_n 0) 0, o_ald (.aload_n 0) 0, o_getf (.getfield 48) 15 2, o_int (.iconst 1) 1, o_iadd, o_cv (.invokevirtual 69) 15 kJ4_grow_2 1 0, o_aret] :=
  fG mo_ald (sim_ald_n dJ4_grow_0 rfl) <|
  fG mo_ald (sim_ald_n dJ4_grow_1 rfl) <|
  fG mo_getf (sim_getfG hG dJ4_grow_2 hc_15 (by decide) rfl in_J4 (fun _ _ _ h => h) (Or.inl q447)) <|
  fG mo_int (sim_iconst dJ4_grow_5 (by decide)) <|
  fG mo_iadd (sim_iadd dJ4_grow_6) <|
  fC (ic_cv (Or.inl rfl)) (sim_cv hG dJ4_grow_7 (hG.2.1 15 _ hc_15).2.1 M_J4_grow_2 (by rw [nm_J4_grow_2]; rfl) (by rw [nm_J4_grow_2]; exact q764) (by rw [nm_J4_grow_2]; exact q766) (by rw [nm_J4_grow_2]; exact qs18)) <|
  fE ie_aret (sim_aret dJ4_grow_10 rfl (Or.inr ⟨_, rfl⟩))
theorem F_J4_grow {X : tp_X} {az : Array Value} (hG : tp_Good X az) (hSt : tp_Stat X) (pc : Nat) : tp_Fit X yJ4_grow cJ4_grow (some (.array (.object "java/lang/Object"))) 1 tp_nm tp_by tp_ml tp_rtt pc (mJ4_grow pc) :=
  fI (fJ4_grow_0 hG hSt) <| trivial
theorem fJ4_grow_2_0 {X : tp_X} {az : Array Value} (hG : tp_Good X az) (hSt : tp_Stat X) : tp_Fit X yJ4_grow_2 cJ4_grow_2 (some (.array (.object "java/lang/Object"))) 4 tp_nm tp_by tp_ml tp_rtt 0 [o_ald (.aload_n 0) 0, o_getf (.getfield 9) 15 1, o_alen, o_ist (.istore_n 2) 2, o_ild (.iload_n 2) 2, o_ifgt 13 20, o_ald (.aload_n 0) 0, o_getf (.getfield 9) 15 1, o_gs (.getstatic 39) 3, o_acmpeq 28 45, o_fall 20] :=
  fG mo_ald (sim_ald_n dJ4_grow_2_0 rfl) <|
  fG mo_getf (sim_getfG hG dJ4_grow_2_1 hc_15 (by decide) rfl in_J4 (fun _ _ _ h => h) (Or.inl q446)) <|
  fG mo_alen (sim_alen dJ4_grow_2_4) <|
  fG mo_ist (sim_ist_n dJ4_grow_2_5 rfl) <|
  fG mo_ild (sim_ild_n dJ4_grow_2_6 rfl) <|
  fG mo_ifgt (sim_ifgt dJ4_grow_2_7 rfl) <|
  fG mo_ald (sim_ald_n dJ4_grow_2_10 rfl) <|
  fG mo_getf (sim_getfG hG dJ4_grow_2_11 hc_15 (by decide) rfl in_J4 (fun _ _ _ h => h) (Or.inl q446)) <|
  fG mo_gs (sim_gs hG dJ4_grow_2_14 hSt.2.2.2.1 q444 rfl) <|
  fG mo_acmpeq (sim_acmpeq dJ4_grow_2_17 rfl) <|
  fF
theorem fJ4_grow_2_20 {X : tp_X} {az : Array Value} (hG : tp_Good X az) (hSt : tp_Stat X) : tp_Fit X yJ4_grow_2 cJ4_grow_2 (some (.array (.object "java/lang/Object"))) 4 tp_nm tp_by tp_ml tp_rtt 20 [o_ild (.iload_n 2) 2, o_ild (.iload_n 1) 1, o_ild (.iload_n 2) 2, o_isub, o_ild (.iload_n 2) 2, o_int (.iconst 1) 1, o_ishr, o_cs (.invokestatic 73) kJ14_newLength 3 0, o_ist (.istore_n 3) 3, o_ald (.aload_n 0) 0, o_ald (.aload_n 0) 0, o_getf (.getfield 9) 15 1, o_ild (.iload_n 3) 3, o_cs (.invokestatic 66) kJ0_copyOf 2 0, o_dup_x1, o_putf (.putfield 9) 15 1 4, o_aret] :=
  fG mo_ild (sim_ild_n dJ4_grow_2_20 rfl) <|
  fG mo_ild (sim_ild_n dJ4_grow_2_21 rfl) <|
  fG mo_ild (sim_ild_n dJ4_grow_2_22 rfl) <|
  fG mo_isub (sim_isub dJ4_grow_2_23) <|
  fG mo_ild (sim_ild_n dJ4_grow_2_24 rfl) <|
  fG mo_int (sim_iconst dJ4_grow_2_25 (by decide)) <|
  fG mo_ishr (sim_ishr dJ4_grow_2_26) <|
  fC (ic_cs (Or.inl rfl)) (sim_cs hG dJ4_grow_2_27 M_J14_newLength (by rw [nm_J14_newLength]; rfl) (by rw [nm_J14_newLength]; exact q768) (by rw [nm_J14_newLength]; exact q769)) <|
  fG mo_ist (sim_ist_n dJ4_grow_2_30 rfl) <|
  fG mo_ald (sim_ald_n dJ4_grow_2_31 rfl) <|
  fG mo_ald (sim_ald_n dJ4_grow_2_32 rfl) <|
  fG mo_getf (sim_getfG hG dJ4_grow_2_33 hc_15 (by decide) rfl in_J4 (fun _ _ _ h => h) (Or.inl q446)) <|
  fG mo_ild (sim_ild_n dJ4_grow_2_36 rfl) <|
  fC (ic_cs (Or.inl rfl)) (sim_cs hG dJ4_grow_2_37 M_J0_copyOf (by rw [nm_J0_copyOf]; rfl) (by rw [nm_J0_copyOf]; exact q776) (by rw [nm_J0_copyOf]; exact q777)) <|
  fG mo_dup_x1 (sim_dup_x1 dJ4_grow_2_40) <|
  fG mo_putf (sim_putf hG dJ4_grow_2_41 hc_15 (by decide) rfl (by decide) in_J4 tyJ4_ok nmJ4 (Or.inr (Or.inr (Or.inr (Or.inr ⟨Or.inr ⟨_, rfl⟩, by decide⟩)))) (fun _ _ _ h => h) rfl q446) <|
  fE ie_aret (sim_aret dJ4_grow_2_44 rfl (Or.inr ⟨_, rfl⟩))
theorem fJ4_grow_2_45 {X : tp_X} {az : Array Value} (hG : tp_Good X az) (hSt : tp_Stat X) : tp_Fit X yJ4_grow_2 cJ4_grow_2 (some (.array (.object "java/lang/Object"))) 4 tp_nm tp_by tp_ml tp_rtt 45 [o_ald (.aload_n 0) 0, o_int (.bipush 10) 10, o_ild (.iload_n 1) 1, o_mmax (.invokestatic 79), o_newa (.anewarray 7) 6, o_dup_x1, o_putf (.putfield 9) 15 1 4, o_aret] :=
  fG mo_ald (sim_ald_n dJ4_grow_2_45 rfl) <|
  fG mo_int (sim_bipush dJ4_grow_2_46 (by decide)) <|
  fG mo_ild (sim_ild_n dJ4_grow_2_48 rfl) <|
  fG mo_mmax (sim_mmax hG dJ4_grow_2_49 q807 q241 q128 q242) <|
  fG mo_newa (sim_anew hG dJ4_grow_2_52 q808 q803 rfl (Or.inl rfl)) <|
  fG mo_dup_x1 (sim_dup_x1 dJ4_grow_2_55) <|
  fG mo_putf (sim_putf hG dJ4_grow_2_56 hc_15 (by decide) rfl (by decide) in_J4 tyJ4_ok nmJ4 (Or.inr (Or.inr (Or.inr (Or.inr ⟨Or.inr ⟨_, rfl⟩, by decide⟩)))) (fun _ _ _ h => h) rfl q446) <|
  fE ie_aret (sim_aret dJ4_grow_2_59 rfl (Or.inr ⟨_, rfl⟩))
theorem F_J4_grow_2 {X : tp_X} {az : Array Value} (hG : tp_Good X az) (hSt : tp_Stat X) (pc : Nat) : tp_Fit X yJ4_grow_2 cJ4_grow_2 (some (.array (.object "java/lang/Object"))) 4 tp_nm tp_by tp_ml tp_rtt pc (mJ4_grow_2 pc) :=
  fI (fJ4_grow_2_0 hG hSt) <| fI (fJ4_grow_2_20 hG hSt) <| fI (fJ4_grow_2_45 hG hSt) <| trivial
theorem fJ4_isEmpty_0 {X : tp_X} {az : Array Value} (hG : tp_Good X az) (hSt : tp_Stat X) : tp_Fit X yJ4_isEmpty cJ4_isEmpty (some .boolean) 1 tp_nm tp_by tp_ml tp_rtt 0 [o_ald (.aload_n 0) 0, o_getf (.getfield 48) 15 2, o_ifne 7 11, o_int (.iconst 1) 1, o_goto 4 12] :=
  fG mo_ald (sim_ald_n dJ4_isEmpty_0 rfl) <|
  fG mo_getf (sim_getfG hG dJ4_isEmpty_1 hc_15 (by decide) rfl in_J4 (fun _ _ _ h => h) (Or.inl q447)) <|
  fG mo_ifne (sim_ifne dJ4_isEmpty_4 rfl) <|
  fG mo_int (sim_iconst dJ4_isEmpty_7 (by decide)) <|
  fG mo_goto (sim_goto dJ4_isEmpty_8 rfl) <|
  trivial
theorem fJ4_isEmpty_11 {X : tp_X} {az : Array Value} (hG : tp_Good X az) (hSt : tp_Stat X) : tp_Fit X yJ4_isEmpty cJ4_isEmpty (some .boolean) 1 tp_nm tp_by tp_ml tp_rtt 11 [o_int (.iconst 0) 0, o_fall 12] :=
  fG mo_int (sim_iconst dJ4_isEmpty_11 (by decide)) <|
  fF
theorem fJ4_isEmpty_12 {X : tp_X} {az : Array Value} (hG : tp_Good X az) (hSt : tp_Stat X) : tp_Fit X yJ4_isEmpty cJ4_isEmpty (some .boolean) 1 tp_nm tp_by tp_ml tp_rtt 12 [o_iret 1] :=
  fE ie_iret (sim_iret dJ4_isEmpty_12 rfl (Or.inr (Or.inl ⟨rfl, rfl⟩)))
theorem F_J4_isEmpty {X : tp_X} {az : Array Value} (hG : tp_Good X az) (hSt : tp_Stat X) (pc : Nat) : tp_Fit X yJ4_isEmpty cJ4_isEmpty (some .boolean) 1 tp_nm tp_by tp_ml tp_rtt pc (mJ4_isEmpty pc) :=
  fI (fJ4_isEmpty_0 hG hSt) <| fI (fJ4_isEmpty_11 hG hSt) <| fI (fJ4_isEmpty_12 hG hSt) <| trivial
theorem fJ4_size_0 {X : tp_X} {az : Array Value} (hG : tp_Good X az) (hSt : tp_Stat X) : tp_Fit X yJ4_size cJ4_size (some .int) 1 tp_nm tp_by tp_ml tp_rtt 0 [o_ald (.aload_n 0) 0, o_getf (.getfield 48) 15 2, o_iret 0] :=
  fG mo_ald (sim_ald_n dJ4_size_0 rfl) <|
  fG mo_getf (sim_getfG hG dJ4_size_1 hc_15 (by decide) rfl in_J4 (fun _ _ _ h => h) (Or.inl q447)) <|
  fE ie_iret (sim_iret dJ4_size_4 rfl (Or.inl ⟨rfl, rfl⟩))
theorem F_J4_size {X : tp_X} {az : Array Value} (hG : tp_Good X az) (hSt : tp_Stat X) (pc : Nat) : tp_Fit X yJ4_size cJ4_size (some .int) 1 tp_nm tp_by tp_ml tp_rtt pc (mJ4_size pc) :=
  fI (fJ4_size_0 hG hSt) <| trivial
theorem fJ4_get_0 {X : tp_X} {az : Array Value} (hG : tp_Good X az) (hSt : tp_Stat X) : tp_Fit X yJ4_get cJ4_get (some (.object "java/lang/Object")) 2 tp_nm tp_by tp_ml tp_rtt 0 [o_ild (.iload_n 1) 1, o_ald (.aload_n 0) 0, o_getf (.getfield 48) 15 2, o_cs (.invokestatic 118) kJ15_checkIndex 2 0, o_pop, o_ald (.aload_n 0) 0, o_ild (.iload_n 1) 1, o_cv (.invokevirtual 123) 15 kJ4_elementData 1 0, o_aret] :=
  fG mo_ild (sim_ild_n dJ4_get_0 rfl) <|
  fG mo_ald (sim_ald_n dJ4_get_1 rfl) <|
  fG mo_getf (sim_getfG hG dJ4_get_2 hc_15 (by decide) rfl in_J4 (fun _ _ _ h => h) (Or.inl q447)) <|
  fC (ic_cs (Or.inl rfl)) (sim_cs hG dJ4_get_5 M_J15_checkIndex (by rw [nm_J15_checkIndex]; rfl) (by rw [nm_J15_checkIndex]; exact q842) (by rw [nm_J15_checkIndex]; exact q843)) <|
  fG mo_pop (sim_pop dJ4_get_8) <|
  fG mo_ald (sim_ald_n dJ4_get_9 rfl) <|
  fG mo_ild (sim_ild_n dJ4_get_10 rfl) <|
  fC (ic_cv (Or.inl rfl)) (sim_cv hG dJ4_get_11 (hG.2.1 15 _ hc_15).2.1 M_J4_elementData (by rw [nm_J4_elementData]; rfl) (by rw [nm_J4_elementData]; exact q846) (by rw [nm_J4_elementData]; exact q847) (by rw [nm_J4_elementData]; exact q848)) <|
  fE ie_aret (sim_aret dJ4_get_14 rfl (Or.inl ⟨_, rfl⟩))
theorem F_J4_get {X : tp_X} {az : Array Value} (hG : tp_Good X az) (hSt : tp_Stat X) (pc : Nat) : tp_Fit X yJ4_get cJ4_get (some (.object "java/lang/Object")) 2 tp_nm tp_by tp_ml tp_rtt pc (mJ4_get pc) :=
  fI (fJ4_get_0 hG hSt) <| trivial
theorem fJ4_elementData_0 {X : tp_X} {az : Array Value} (hG : tp_Good X az) (hSt : tp_Stat X) : tp_Fit X yJ4_elementData cJ4_elementData (some (.object "java/lang/Object")) 2 tp_nm tp_by tp_ml tp_rtt 0 [o_ald (.aload_n 0) 0, o_getf (.getfield 9) 15 1, o_ild (.iload_n 1) 1, o_lda .aaload [4, 5, 6, 7, 28, 29], o_aret] :=
  fG mo_ald (sim_ald_n dJ4_elementData_0 rfl) <|
  fG mo_getf (sim_getfG hG dJ4_elementData_1 hc_15 (by decide) rfl in_J4 (fun _ _ _ h => h) (Or.inl q446)) <|
  fG mo_ild (sim_ild_n dJ4_elementData_4 rfl) <|
  fG mo_lda (sim_aald dJ4_elementData_5) <|
  fE ie_aret (sim_aret dJ4_elementData_6 rfl (Or.inl ⟨_, rfl⟩))
theorem F_J4_elementData {X : tp_X} {az : Array Value} (hG : tp_Good X az) (hSt : tp_Stat X) (pc : Nat) : tp_Fit X yJ4_elementData cJ4_elementData (some (.object "java/lang/Object")) 2 tp_nm tp_by tp_ml tp_rtt pc (mJ4_elementData pc) :=
  fI (fJ4_elementData_0 hG hSt) <| trivial
theorem fJ5_length_0 {X : tp_X} {az : Array Value} (hG : tp_Good X az) (hSt : tp_Stat X) : tp_Fit X yJ5_length cJ5_length (some .int) 1 tp_nm tp_by tp_ml tp_rtt 0 [o_ald (.aload_n 0) 0, o_getf (.getfield 9) 17 0, o_alen, o_ald (.aload_n 0) 0, o_cv (.invokevirtual 335) 17 kJ5_coder 0 0, o_ishr, o_iret 0] :=
  fG mo_ald (sim_ald_n dJ5_length_0 rfl) <|
  fG mo_getf (sim_getfS hG dJ5_length_1 (by decide) rfl q1930) <|
  fG mo_alen (sim_alen dJ5_length_4) <|
  fG mo_ald (sim_ald_n dJ5_length_5 rfl) <|
  fC (ic_cv (Or.inl rfl)) (sim_cv hG dJ5_length_6 hG.2.2.2.2.1 M_J5_coder (by rw [nm_J5_coder]; rfl) (by rw [nm_J5_coder]; exact q507) (by rw [nm_J5_coder]; exact q508) (by rw [nm_J5_coder]; exact q509)) <|
  fG mo_ishr (sim_ishr dJ5_length_9) <|
  fE ie_iret (sim_iret dJ5_length_10 rfl (Or.inl ⟨rfl, rfl⟩))
theorem F_J5_length {X : tp_X} {az : Array Value} (hG : tp_Good X az) (hSt : tp_Stat X) (pc : Nat) : tp_Fit X yJ5_length cJ5_length (some .int) 1 tp_nm tp_by tp_ml tp_rtt pc (mJ5_length pc) :=
  fI (fJ5_length_0 hG hSt) <| trivial
theorem fJ5_coder_0 {X : tp_X} {az : Array Value} (hG : tp_Good X az) (hSt : tp_Stat X) : tp_Fit X yJ5_coder cJ5_coder (some .byte) 1 tp_nm tp_by tp_ml tp_rtt 0 [o_gs (.getstatic 38) 4, o_ifeq 10 13, o_ald (.aload_n 0) 0, o_getf (.getfield 15) 17 1, o_goto 4 14] :=
  fG mo_gs (sim_gs hG dJ5_coder_0 hSt.2.2.2.2.1 q511 rfl) <|
  fG mo_ifeq (sim_ifeq dJ5_coder_3 rfl) <|
  fG mo_ald (sim_ald_n dJ5_coder_6 rfl) <|
  fG mo_getf (sim_getfS hG dJ5_coder_7 (by decide) rfl q1931) <|
  fG mo_goto (sim_goto dJ5_coder_10 rfl) <|
  trivial
theorem fJ5_coder_13 {X : tp_X} {az : Array Value} (hG : tp_Good X az) (hSt : tp_Stat X) : tp_Fit X yJ5_coder cJ5_coder (some .byte) 1 tp_nm tp_by tp_ml tp_rtt 13 [o_int (.iconst 1) 1, o_fall 14] :=
  fG mo_int (sim_iconst dJ5_coder_13 (by decide)) <|
  fF
theorem fJ5_coder_14 {X : tp_X} {az : Array Value} (hG : tp_Good X az) (hSt : tp_Stat X) : tp_Fit X yJ5_coder cJ5_coder (some .byte) 1 tp_nm tp_by tp_ml tp_rtt 14 [o_iret 2] :=
  fE ie_iret (sim_iret dJ5_coder_14 rfl (Or.inr (Or.inr (Or.inl ⟨rfl, rfl⟩))))
theorem F_J5_coder {X : tp_X} {az : Array Value} (hG : tp_Good X az) (hSt : tp_Stat X) (pc : Nat) : tp_Fit X yJ5_coder cJ5_coder (some .byte) 1 tp_nm tp_by tp_ml tp_rtt pc (mJ5_coder pc) :=
  fI (fJ5_coder_0 hG hSt) <| fI (fJ5_coder_13 hG hSt) <| fI (fJ5_coder_14 hG hSt) <| trivial
theorem fJ5_charAt_0 {X : tp_X} {az : Array Value} (hG : tp_Good X az) (hSt : tp_Stat X) : tp_Fit X yJ5_charAt cJ5_charAt (some .char) 2 tp_nm tp_by tp_ml tp_rtt 0 [o_ald (.aload_n 0) 0, o_cv (.invokevirtual 492) 17 kJ5_isLatin1 0 0, o_ifeq 12 16, o_ald (.aload_n 0) 0, o_getf (.getfield 9) 17 0, o_ild (.iload_n 1) 1, o_cs (.invokestatic 495) kJ6_charAt 2 0, o_iret 9] :=
  fG mo_ald (sim_ald_n dJ5_charAt_0 rfl) <|
  fC (ic_cv (Or.inl rfl)) (sim_cv hG dJ5_charAt_1 hG.2.2.2.2.1 M_J5_isLatin1 (by rw [nm_J5_isLatin1]; rfl) (by rw [nm_J5_isLatin1]; exact q517) (by rw [nm_J5_isLatin1]; exact q518) (by rw [nm_J5_isLatin1]; exact q519)) <|
  fG mo_ifeq (sim_ifeq dJ5_charAt_4 rfl) <|
  fG mo_ald (sim_ald_n dJ5_charAt_7 rfl) <|
  fG mo_getf (sim_getfS hG dJ5_charAt_8 (by decide) rfl q1930) <|
  fG mo_ild (sim_ild_n dJ5_charAt_11 rfl) <|
  fC (ic_cs (Or.inl rfl)) (sim_cs hG dJ5_charAt_12 M_J6_charAt (by rw [nm_J6_charAt]; rfl) (by rw [nm_J6_charAt]; exact q521) (by rw [nm_J6_charAt]; exact q522)) <|
  fE ie_iret (sim_iret dJ5_charAt_15 rfl (Or.inr (Or.inr (Or.inr ⟨rfl, rfl⟩))))
theorem fJ5_charAt_16 {X : tp_X} {az : Array Value} (hG : tp_Good X az) (hSt : tp_Stat X) : tp_Fit X yJ5_charAt cJ5_charAt (some .char) 2 tp_nm tp_by tp_ml tp_rtt 16 [o_ald (.aload_n 0) 0, o_getf (.getfield 9) 17 0, o_ild (.iload_n 1) 1, o_dead (.invokestatic 498), o_iret 9] :=
  fG mo_ald (sim_ald_n dJ5_charAt_16 rfl) <|
  fG mo_getf (sim_getfS hG dJ5_charAt_17 (by decide) rfl q1930) <|
  fG mo_ild (sim_ild_n dJ5_charAt_20 rfl) <|
  fD
theorem F_J5_charAt {X : tp_X} {az : Array Value} (hG : tp_Good X az) (hSt : tp_Stat X) (pc : Nat) : tp_Fit X yJ5_charAt cJ5_charAt (some .char) 2 tp_nm tp_by tp_ml tp_rtt pc (mJ5_charAt pc) :=
  fI (fJ5_charAt_0 hG hSt) <| fI (fJ5_charAt_16 hG hSt) <| trivial
theorem fJ5_isLatin1_0 {X : tp_X} {az : Array Value} (hG : tp_Good X az) (hSt : tp_Stat X) : tp_Fit X yJ5_isLatin1 cJ5_isLatin1 (some .boolean) 1 tp_nm tp_by tp_ml tp_rtt 0 [o_gs (.getstatic 38) 4, o_ifeq 14 17, o_ald (.aload_n 0) 0, o_getf (.getfield 15) 17 1, o_ifne 7 17, o_int (.iconst 1) 1, o_goto 4 18] :=
  fG mo_gs (sim_gs hG dJ5_isLatin1_0 hSt.2.2.2.2.1 q511 rfl) <|
  fG mo_ifeq (sim_ifeq dJ5_isLatin1_3 rfl) <|
  fG mo_ald (sim_ald_n dJ5_isLatin1_6 rfl) <|
  fG mo_getf (sim_getfS hG dJ5_isLatin1_7 (by decide) rfl q1931) <|
  fG mo_ifne (sim_ifne dJ5_isLatin1_10 rfl) <|
  fG mo_int (sim_iconst dJ5_isLatin1_13 (by decide)) <|
  fG mo_goto (sim_goto dJ5_isLatin1_14 rfl) <|
  trivial
theorem fJ5_isLatin1_17 {X : tp_X} {az : Array Value} (hG : tp_Good X az) (hSt : tp_Stat X) : tp_Fit X yJ5_isLatin1 cJ5_isLatin1 (some .boolean) 1 tp_nm tp_by tp_ml tp_rtt 17 [o_int (.iconst 0) 0, o_fall 18] :=
  fG mo_int (sim_iconst dJ5_isLatin1_17 (by decide)) <|
  fF
theorem fJ5_isLatin1_18 {X : tp_X} {az : Array Value} (hG : tp_Good X az) (hSt : tp_Stat X) : tp_Fit X yJ5_isLatin1 cJ5_isLatin1 (some .boolean) 1 tp_nm tp_by tp_ml tp_rtt 18 [o_iret 1] :=
  fE ie_iret (sim_iret dJ5_isLatin1_18 rfl (Or.inr (Or.inl ⟨rfl, rfl⟩)))
theorem F_J5_isLatin1 {X : tp_X} {az : Array Value} (hG : tp_Good X az) (hSt : tp_Stat X) (pc : Nat) : tp_Fit X yJ5_isLatin1 cJ5_isLatin1 (some .boolean) 1 tp_nm tp_by tp_ml tp_rtt pc (mJ5_isLatin1 pc) :=
  fI (fJ5_isLatin1_0 hG hSt) <| fI (fJ5_isLatin1_17 hG hSt) <| fI (fJ5_isLatin1_18 hG hSt) <| trivial
theorem fJ5_checkIndex_0 {X : tp_X} {az : Array Value} (hG : tp_Good X az) (hSt : tp_Stat X) : tp_Fit X yJ5_checkIndex cJ5_checkIndex none 2 tp_nm tp_by tp_ml tp_rtt 0 [o_ild (.iload_n 0) 0, o_ild (.iload_n 1) 1, o_gs (.getstatic 1053) 8, o_cs (.invokestatic 1059) kJ7_checkIndex 3 0, o_pop, o_vret] :=
  fG mo_ild (sim_ild_n dJ5_checkIndex_0 rfl) <|
  fG mo_ild (sim_ild_n dJ5_checkIndex_1 rfl) <|
  fG mo_gs (sim_gs hG dJ5_checkIndex_2 hSt.2.2.2.2.2.2.2.2.1 q527 rfl) <|
  fC (ic_cs (Or.inl rfl)) (sim_cs hG dJ5_checkIndex_5 M_J7_checkIndex (by rw [nm_J7_checkIndex]; rfl) (by rw [nm_J7_checkIndex]; exact q529) (by rw [nm_J7_checkIndex]; exact q530)) <|
  fG mo_pop (sim_pop dJ5_checkIndex_8) <|
  fE ie_vret (sim_vret dJ5_checkIndex_9 rfl)
theorem F_J5_checkIndex {X : tp_X} {az : Array Value} (hG : tp_Good X az) (hSt : tp_Stat X) (pc : Nat) : tp_Fit X yJ5_checkIndex cJ5_checkIndex none 2 tp_nm tp_by tp_ml tp_rtt pc (mJ5_checkIndex pc) :=
  fI (fJ5_checkIndex_0 hG hSt) <| trivial
theorem fJ6_charAt_0 {X : tp_X} {az : Array Value} (hG : tp_Good X az) (hSt : tp_Stat X) : tp_Fit X yJ6_charAt cJ6_charAt (some .char) 2 tp_nm tp_by tp_ml tp_rtt 0 [o_ild (.iload_n 1) 1, o_ald (.aload_n 0) 0, o_alen, o_cs (.invokestatic 9) kJ5_checkIndex 2 0, o_ald (.aload_n 0) 0, o_ild (.iload_n 1) 1, o_lda .baload [1, 2, 22], o_int (.sipush 255) 255, o_iand, o_i2c, o_iret 9] :=
  fG mo_ild (sim_ild_n dJ6_charAt_0 rfl) <|
  fG mo_ald (sim_ald_n dJ6_charAt_1 rfl) <|
  fG mo_alen (sim_alen dJ6_charAt_2) <|
  fC (ic_cs (Or.inl rfl)) (sim_cs hG dJ6_charAt_3 M_J5_checkIndex (by rw [nm_J5_checkIndex]; rfl) (by rw [nm_J5_checkIndex]; exact q524) (by rw [nm_J5_checkIndex]; exact q525)) <|
  fG mo_ald (sim_ald_n dJ6_charAt_6 rfl) <|
  fG mo_ild (sim_ild_n dJ6_charAt_7 rfl) <|
  fG mo_lda (sim_bald dJ6_charAt_8) <|
  fG mo_int (sim_sipush dJ6_charAt_9 (by decide)) <|
  fG mo_iand (sim_iand dJ6_charAt_12) <|
  fG mo_i2c (sim_i2c dJ6_charAt_13) <|
  fE ie_iret (sim_iret dJ6_charAt_14 rfl (Or.inr (Or.inr (Or.inr ⟨rfl, rfl⟩))))
theorem F_J6_charAt {X : tp_X} {az : Array Value} (hG : tp_Good X az) (hSt : tp_Stat X) (pc : Nat) : tp_Fit X yJ6_charAt cJ6_charAt (some .char) 2 tp_nm tp_by tp_ml tp_rtt pc (mJ6_charAt pc) :=
  fI (fJ6_charAt_0 hG hSt) <| trivial
theorem fJ7_checkIndex_0 {X : tp_X} {az : Array Value} (hG : tp_Good X az) (hSt : tp_Stat X) : tp_Fit X yJ7_checkIndex cJ7_checkIndex (some .int) 3 tp_nm tp_by tp_ml tp_rtt 0 [o_ild (.iload_n 0) 0, o_iflt 8 9, o_ild (.iload_n 0) 0, o_ild (.iload_n 1) 1, o_icmplt 10 16, o_fall 9] :=
  fG mo_ild (sim_ild_n dJ7_checkIndex_0 rfl) <|
  fG mo_iflt (sim_iflt dJ7_checkIndex_1 rfl) <|
  fG mo_ild (sim_ild_n dJ7_checkIndex_4 rfl) <|
  fG mo_ild (sim_ild_n dJ7_checkIndex_5 rfl) <|
  fG mo_icmplt (sim_icmplt dJ7_checkIndex_6 rfl) <|
  fF
theorem fJ7_checkIndex_9 {X : tp_X} {az : Array Value} (hG : tp_Good X az) (hSt : tp_Stat X) : tp_Fit X yJ7_checkIndex cJ7_checkIndex (some .int) 3 tp_nm tp_by tp_ml tp_rtt 9 [o_ald (.aload_n 2) 2, o_ild (.iload_n 0) 0, o_ild (.iload_n 1) 1, o_dead (.invokestatic 95), o_thr] :=
  fG mo_ald (sim_ald_n dJ7_checkIndex_9 rfl) <|
  fG mo_ild (sim_ild_n dJ7_checkIndex_10 rfl) <|
  fG mo_ild (sim_ild_n dJ7_checkIndex_11 rfl) <|
  fD
theorem fJ7_checkIndex_16 {X : tp_X} {az : Array Value} (hG : tp_Good X az) (hSt : tp_Stat X) : tp_Fit X yJ7_checkIndex cJ7_checkIndex (some .int) 3 tp_nm tp_by tp_ml tp_rtt 16 [o_ild (.iload_n 0) 0, o_iret 0] :=
  fG mo_ild (sim_ild_n dJ7_checkIndex_16 rfl) <|
  fE ie_iret (sim_iret dJ7_checkIndex_17 rfl (Or.inl ⟨rfl, rfl⟩))
theorem F_J7_checkIndex {X : tp_X} {az : Array Value} (hG : tp_Good X az) (hSt : tp_Stat X) (pc : Nat) : tp_Fit X yJ7_checkIndex cJ7_checkIndex (some .int) 3 tp_nm tp_by tp_ml tp_rtt pc (mJ7_checkIndex pc) :=
  fI (fJ7_checkIndex_0 hG hSt) <| fI (fJ7_checkIndex_9 hG hSt) <| fI (fJ7_checkIndex_16 hG hSt) <| trivial
theorem fL_law_0 {X : tp_X} {az : Array Value} (hG : tp_Good X az) (hSt : tp_Stat X) : tp_Fit X x cL_law (some .boolean) 4 tp_nm tp_by tp_ml tp_rtt 0 [o_new (.new 7) 1 23 [xN, xN, xI 0, xI 0, xI 0, xN, xI 0, xI 0, xI 0, xN, xN, xI 0, xN, xN, xN, xN, xI 0, xN, xN, xN, xN, xN, xN], o_dup, o_ald (.aload_n 0) 0, o_int (.iconst 0) 0, o_cs (.invokestatic 9) kX0_cell 2 0, o_ald (.aload_n 0) 0, o_int (.iconst 1) 1, o_cs (.invokestatic 9) kX0_cell 2 0, o_cp (.invokespecial 15) kX1_init 2 0, o_ast (.astore_n 1) 1, o_new (.new 18) 3 47 [xI 0, xI 0, xI 0, xN, xN, xN, xN, xI 0, xI 0, xI 0, xI 0, xI 0, xI 0, xI 0, xJ 0, xI 0, xI 0, xI 0, xI 0, xN, xI 0, xI 0, xI 0, xI 0, xI 0, xN, xN, xN, xN, xN, xN, xN, xI 0, xN, xN, xN, xN, xN, xN, xI 0, xN, xI 0, xI 0, xI 0, xI 0, xI 0, xI 0], o_dup, o_ald (.aload_n 0) 0, o_int (.iconst 0) 0, o_cs (.invokestatic 9) kX0_cell 2 0, o_ald (.aload_n 0) 0, o_int (.iconst 1) 1, o_cs (.invokestatic 9) kX0_cell 2 0, o_cp (.invokespecial 20) kX3_init 2 0, o_ast (.astore_n 2) 2, o_int (.iconst 2) 2, o_ist (.istore_n 3) 3, o_fall 38] :=
  fG mo_new (sim_new hG dL_law_0 hc_1 rfl (by decide) (by decide) in_X1 tyX1_ok q157 q158 q125 df_X1) <|
  fG mo_dup (sim_dup dL_law_3) <|
  fG mo_ald (sim_ald_n dL_law_4 rfl) <|
  fG mo_int (sim_iconst dL_law_5 (by decide)) <|
  fC (ic_cs (Or.inl rfl)) (sim_cs hG dL_law_6 M_X0_cell (by rw [nm_X0_cell]; rfl) (by rw [nm_X0_cell]; exact q1239) (by rw [nm_X0_cell]; exact q1240)) <|
  fG mo_ald (sim_ald_n dL_law_9 rfl) <|
  fG mo_int (sim_iconst dL_law_10 (by decide)) <|
  fC (ic_cs (Or.inl rfl)) (sim_cs hG dL_law_11 M_X0_cell (by rw [nm_X0_cell]; rfl) (by rw [nm_X0_cell]; exact q1239) (by rw [nm_X0_cell]; exact q1240)) <|
  fC (ic_cp (Or.inl rfl)) (sim_cp hG dL_law_14 M_X1_init (by rw [nm_X1_init]; rfl) rt_X1_init (by rw [nm_X1_init]; rfl) (by rw [nm_X1_init]; exact q159) (by rw [nm_X1_init]; exact q160)) <|
  fG mo_ast (sim_ast_n dL_law_17 rfl) <|
  fG mo_new (sim_new hG dL_law_18 hc_3 rfl (by decide) (by decide) in_X3 tyX3_ok q1242 q1243 q130 df_X3) <|
  fG mo_dup (sim_dup dL_law_21) <|
  fG mo_ald (sim_ald_n dL_law_22 rfl) <|
  fG mo_int (sim_iconst dL_law_23 (by decide)) <|
  fC (ic_cs (Or.inl rfl)) (sim_cs hG dL_law_24 M_X0_cell (by rw [nm_X0_cell]; rfl) (by rw [nm_X0_cell]; exact q1239) (by rw [nm_X0_cell]; exact q1240)) <|
  fG mo_ald (sim_ald_n dL_law_27 rfl) <|
  fG mo_int (sim_iconst dL_law_28 (by decide)) <|
  fC (ic_cs (Or.inl rfl)) (sim_cs hG dL_law_29 M_X0_cell (by rw [nm_X0_cell]; rfl) (by rw [nm_X0_cell]; exact q1239) (by rw [nm_X0_cell]; exact q1240)) <|
  fC (ic_cp (Or.inl rfl)) (sim_cp hG dL_law_32 M_X3_init (by rw [nm_X3_init]; rfl) rt_X3_init (by rw [nm_X3_init]; rfl) (by rw [nm_X3_init]; exact q1244) (by rw [nm_X3_init]; exact q1245)) <|
  fG mo_ast (sim_ast_n dL_law_35 rfl) <|
  fG mo_int (sim_iconst dL_law_36 (by decide)) <|
  fG mo_ist (sim_ist_n dL_law_37 rfl) <|
  fF
theorem fL_law_38 {X : tp_X} {az : Array Value} (hG : tp_Good X az) (hSt : tp_Stat X) : tp_Fit X x cL_law (some .boolean) 4 tp_nm tp_by tp_ml tp_rtt 38 [o_ild (.iload_n 3) 3, o_ald (.aload_n 0) 0, o_alen, o_int (.bipush 6) 6, o_isub, o_icmpgt 1378 1422, o_ald (.aload_n 0) 0, o_ild (.iload_n 3) 3, o_lda .iaload [0, 20], o_int (.bipush 63) 63, o_iand, o_sw (.tableswitch 1363 0 37 #[167, 200, 223, 298, 321, 364, 427, 470, 513, 536, 599, 622, 635, 658, 681, 714, 757, 790, 823, 856, 879, 892, 925, 948, 971, 984, 1007, 1020, 1043, 1076, 1099, 1132, 1165, 1198, 1251, 1314, 1327, 1340]) [(0, 220), (1, 253), (2, 276), (3, 351), (4, 374), (5, 417), (6, 480), (7, 523), (8, 566), (9, 589), (10, 652), (11, 675), (12, 688), (13, 711), (14, 734), (15, 767), (16, 810), (17, 843), (18, 876), (19, 909), (20, 932), (21, 945), (22, 978), (23, 1001), (24, 1024), (25, 1037), (26, 1060), (27, 1073), (28, 1096), (29, 1129), (30, 1152), (31, 1185), (32, 1218), (33, 1251), (34, 1304), (35, 1367), (36, 1380), (37, 1393)] 1416] :=
  fG mo_ild (sim_ild_n dL_law_38 rfl) <|
  fG mo_ald (sim_ald_n dL_law_39 rfl) <|
  fG mo_alen (sim_alen dL_law_40) <|
  fG mo_int (sim_bipush dL_law_41 (by decide)) <|
  fG mo_isub (sim_isub dL_law_43) <|
  fG mo_icmpgt (sim_icmpgt dL_law_44 rfl) <|
  fG mo_ald (sim_ald_n dL_law_47 rfl) <|
  fG mo_ild (sim_ild_n dL_law_48 rfl) <|
  fG mo_lda (sim_iald dL_law_49) <|
  fG mo_int (sim_bipush dL_law_50 (by decide)) <|
  fG mo_iand (sim_iand dL_law_52) <|
  fG mo_sw (sim_tsw dL_law_53 (by decide +kernel) (by decide +kernel)) <|
  trivial
theorem fL_law_220 {X : tp_X} {az : Array Value} (hG : tp_Good X az) (hSt : tp_Stat X) : tp_Fit X x cL_law (some .boolean) 4 tp_nm tp_by tp_ml tp_rtt 220 [o_ald (.aload_n 1) 1, o_ald (.aload_n 0) 0, o_ild (.iload_n 3) 3, o_int (.iconst 1) 1, o_iadd, o_lda .iaload [0, 20], o_ald (.aload_n 0) 0, o_ild (.iload_n 3) 3, o_int (.iconst 2) 2, o_iadd, o_lda .iaload [0, 20], o_cv (.invokevirtual 21) 1 kX1_ice 2 0, o_ald (.aload_n 2) 2, o_ald (.aload_n 0) 0, o_ild (.iload_n 3) 3, o_int (.iconst 1) 1, o_iadd, o_lda .iaload [0, 20], o_ald (.aload_n 0) 0, o_ild (.iload_n 3) 3, o_int (.iconst 2) 2, o_iadd, o_lda .iaload [0, 20], o_cv (.invokevirtual 25) 3 kX3_ice 2 0, o_icmpeq 1168 1416, o_int (.iconst 0) 0, o_iret 1] :=
  fG mo_ald (sim_ald_n dL_law_220 rfl) <|
  fG mo_ald (sim_ald_n dL_law_221 rfl) <|
  fG mo_ild (sim_ild_n dL_law_222 rfl) <|
  fG mo_int (sim_iconst dL_law_223 (by decide)) <|
  fG mo_iadd (sim_iadd dL_law_224) <|
  fG mo_lda (sim_iald dL_law_225) <|
  fG mo_ald (sim_ald_n dL_law_226 rfl) <|
  fG mo_ild (sim_ild_n dL_law_227 rfl) <|
  fG mo_int (sim_iconst dL_law_228 (by decide)) <|
  fG mo_iadd (sim_iadd dL_law_229) <|
  fG mo_lda (sim_iald dL_law_230) <|
  fC (ic_cv (Or.inl rfl)) (sim_cv hG dL_law_231 (hG.2.1 1 _ hc_1).2.1 M_X1_ice (by rw [nm_X1_ice]; rfl) (by rw [nm_X1_ice]; exact q327) (by rw [nm_X1_ice]; exact q328) (by rw [nm_X1_ice]; exact q329)) <|
  fG mo_ald (sim_ald_n dL_law_234 rfl) <|
  fG mo_ald (sim_ald_n dL_law_235 rfl) <|
  fG mo_ild (sim_ild_n dL_law_236 rfl) <|
  fG mo_int (sim_iconst dL_law_237 (by decide)) <|
  fG mo_iadd (sim_iadd dL_law_238) <|
  fG mo_lda (sim_iald dL_law_239) <|
  fG mo_ald (sim_ald_n dL_law_240 rfl) <|
  fG mo_ild (sim_ild_n dL_law_241 rfl) <|
  fG mo_int (sim_iconst dL_law_242 (by decide)) <|
  fG mo_iadd (sim_iadd dL_law_243) <|
  fG mo_lda (sim_iald dL_law_244) <|
  fC (ic_cv (Or.inl rfl)) (sim_cv hG dL_law_245 (hG.2.1 3 _ hc_3).2.1 M_X3_ice (by rw [nm_X3_ice]; rfl) (by rw [nm_X3_ice]; exact q1392) (by rw [nm_X3_ice]; exact q1393) (by rw [nm_X3_ice]; exact q1394)) <|
  fG mo_icmpeq (sim_icmpeq dL_law_248 rfl) <|
  fG mo_int (sim_iconst dL_law_251 (by decide)) <|
  fE ie_iret (sim_iret dL_law_252 rfl (Or.inr (Or.inl ⟨rfl, rfl⟩)))
theorem fL_law_253 {X : tp_X} {az : Array Value} (hG : tp_Good X az) (hSt : tp_Stat X) : tp_Fit X x cL_law (some .boolean) 4 tp_nm tp_by tp_ml tp_rtt 253 [o_ald (.aload_n 1) 1, o_ald (.aload_n 0) 0, o_ild (.iload_n 3) 3, o_int (.iconst 1) 1, o_iadd, o_lda .iaload [0, 20], o_cv (.invokevirtual 26) 1 kX1_iceAt 1 0, o_ald (.aload_n 2) 2, o_ald (.aload_n 0) 0, o_ild (.iload_n 3) 3, o_int (.iconst 1) 1, o_iadd, o_lda .iaload [0, 20], o_cv (.invokevirtual 30) 3 kX3_iceAt 1 0, o_icmpeq 1145 1416, o_int (.iconst 0) 0, o_iret 1] :=
  fG mo_ald (sim_ald_n dL_law_253 rfl) <|
  fG mo_ald (sim_ald_n dL_law_254 rfl) <|
  fG mo_ild (sim_ild_n dL_law_255 rfl) <|
  fG mo_int (sim_iconst dL_law_256 (by decide)) <|
  fG mo_iadd (sim_iadd dL_law_257) <|
  fG mo_lda (sim_iald dL_law_258) <|
  fC (ic_cv (Or.inl rfl)) (sim_cv hG dL_law_259 (hG.2.1 1 _ hc_1).2.1 M_X1_iceAt (by rw [nm_X1_iceAt]; rfl) (by rw [nm_X1_iceAt]; exact q338) (by rw [nm_X1_iceAt]; exact q339) (by rw [nm_X1_iceAt]; exact q340)) <|
  fG mo_ald (sim_ald_n dL_law_262 rfl) <|
  fG mo_ald (sim_ald_n dL_law_263 rfl) <|
  fG mo_ild (sim_ild_n dL_law_264 rfl) <|
  fG mo_int (sim_iconst dL_law_265 (by decide)) <|
  fG mo_iadd (sim_iadd dL_law_266) <|
  fG mo_lda (sim_iald dL_law_267) <|
  fC (ic_cv (Or.inl rfl)) (sim_cv hG dL_law_268 (hG.2.1 3 _ hc_3).2.1 M_X3_iceAt (by rw [nm_X3_iceAt]; rfl) (by rw [nm_X3_iceAt]; exact q1403) (by rw [nm_X3_iceAt]; exact q1404) (by rw [nm_X3_iceAt]; exact q1405)) <|
  fG mo_icmpeq (sim_icmpeq dL_law_271 rfl) <|
  fG mo_int (sim_iconst dL_law_274 (by decide)) <|
  fE ie_iret (sim_iret dL_law_275 rfl (Or.inr (Or.inl ⟨rfl, rfl⟩)))
theorem fL_law_276 {X : tp_X} {az : Array Value} (hG : tp_Good X az) (hSt : tp_Stat X) : tp_Fit X x cL_law (some .boolean) 4 tp_nm tp_by tp_ml tp_rtt 276 [o_ald (.aload_n 1) 1, o_ald (.aload_n 0) 0, o_ild (.iload_n 3) 3, o_int (.iconst 1) 1, o_iadd, o_lda .iaload [0, 20], o_ald (.aload_n 0) 0, o_ild (.iload_n 3) 3, o_int (.iconst 2) 2, o_iadd, o_lda .iaload [0, 20], o_ifeq 7 294, o_int (.iconst 1) 1, o_goto 4 295] :=
  fG mo_ald (sim_ald_n dL_law_276 rfl) <|
  fG mo_ald (sim_ald_n dL_law_277 rfl) <|
  fG mo_ild (sim_ild_n dL_law_278 rfl) <|
  fG mo_int (sim_iconst dL_law_279 (by decide)) <|
  fG mo_iadd (sim_iadd dL_law_280) <|
  fG mo_lda (sim_iald dL_law_281) <|
  fG mo_ald (sim_ald_n dL_law_282 rfl) <|
  fG mo_ild (sim_ild_n dL_law_283 rfl) <|
  fG mo_int (sim_iconst dL_law_284 (by decide)) <|
  fG mo_iadd (sim_iadd dL_law_285) <|
  fG mo_lda (sim_iald dL_law_286) <|
  fG mo_ifeq (sim_ifeq dL_law_287 rfl) <|
  fG mo_int (sim_iconst dL_law_290 (by decide)) <|
  fG mo_goto (sim_goto dL_law_291 rfl) <|
  trivial
theorem fL_law_294 {X : tp_X} {az : Array Value} (hG : tp_Good X az) (hSt : tp_Stat X) : tp_Fit X x cL_law (some .boolean) 4 tp_nm tp_by tp_ml tp_rtt 294 [o_int (.iconst 0) 0, o_fall 295] :=
  fG mo_int (sim_iconst dL_law_294 (by decide)) <|
  fF
theorem fL_law_295 {X : tp_X} {az : Array Value} (hG : tp_Good X az) (hSt : tp_Stat X) : tp_Fit X x cL_law (some .boolean) 4 tp_nm tp_by tp_ml tp_rtt 295 [o_ald (.aload_n 0) 0, o_ild (.iload_n 3) 3, o_int (.iconst 3) 3, o_iadd, o_lda .iaload [0, 20], o_ifeq 7 307, o_int (.iconst 1) 1, o_goto 4 308] :=
  fG mo_ald (sim_ald_n dL_law_295 rfl) <|
  fG mo_ild (sim_ild_n dL_law_296 rfl) <|
  fG mo_int (sim_iconst dL_law_297 (by decide)) <|
  fG mo_iadd (sim_iadd dL_law_298) <|
  fG mo_lda (sim_iald dL_law_299) <|
  fG mo_ifeq (sim_ifeq dL_law_300 rfl) <|
  fG mo_int (sim_iconst dL_law_303 (by decide)) <|
  fG mo_goto (sim_goto dL_law_304 rfl) <|
  trivial
theorem fL_law_307 {X : tp_X} {az : Array Value} (hG : tp_Good X az) (hSt : tp_Stat X) : tp_Fit X x cL_law (some .boolean) 4 tp_nm tp_by tp_ml tp_rtt 307 [o_int (.iconst 0) 0, o_fall 308] :=
  fG mo_int (sim_iconst dL_law_307 (by decide)) <|
  fF
theorem fL_law_308 {X : tp_X} {az : Array Value} (hG : tp_Good X az) (hSt : tp_Stat X) : tp_Fit X x cL_law (some .boolean) 4 tp_nm tp_by tp_ml tp_rtt 308 [o_cv (.invokevirtual 31) 1 kX1_mark 3 0, o_ald (.aload_n 2) 2, o_ald (.aload_n 0) 0, o_ild (.iload_n 3) 3, o_int (.iconst 1) 1, o_iadd, o_lda .iaload [0, 20], o_ald (.aload_n 0) 0, o_ild (.iload_n 3) 3, o_int (.iconst 2) 2, o_iadd, o_lda .iaload [0, 20], o_ifeq 7 329, o_int (.iconst 1) 1, o_goto 4 330] :=
  fC (ic_cv (Or.inl rfl)) (sim_cv hG dL_law_308 (hG.2.1 1 _ hc_1).2.1 M_X1_mark (by rw [nm_X1_mark]; rfl) (by rw [nm_X1_mark]; exact q342) (by rw [nm_X1_mark]; exact q343) (by rw [nm_X1_mark]; exact q344)) <|
  fG mo_ald (sim_ald_n dL_law_311 rfl) <|
  fG mo_ald (sim_ald_n dL_law_312 rfl) <|
  fG mo_ild (sim_ild_n dL_law_313 rfl) <|
  fG mo_int (sim_iconst dL_law_314 (by decide)) <|
  fG mo_iadd (sim_iadd dL_law_315) <|
  fG mo_lda (sim_iald dL_law_316) <|
  fG mo_ald (sim_ald_n dL_law_317 rfl) <|
  fG mo_ild (sim_ild_n dL_law_318 rfl) <|
  fG mo_int (sim_iconst dL_law_319 (by decide)) <|
  fG mo_iadd (sim_iadd dL_law_320) <|
  fG mo_lda (sim_iald dL_law_321) <|
  fG mo_ifeq (sim_ifeq dL_law_322 rfl) <|
  fG mo_int (sim_iconst dL_law_325 (by decide)) <|
  fG mo_goto (sim_goto dL_law_326 rfl) <|
  trivial
theorem fL_law_329 {X : tp_X} {az : Array Value} (hG : tp_Good X az) (hSt : tp_Stat X) : tp_Fit X x cL_law (some .boolean) 4 tp_nm tp_by tp_ml tp_rtt 329 [o_int (.iconst 0) 0, o_fall 330] :=
  fG mo_int (sim_iconst dL_law_329 (by decide)) <|
  fF
theorem fL_law_330 {X : tp_X} {az : Array Value} (hG : tp_Good X az) (hSt : tp_Stat X) : tp_Fit X x cL_law (some .boolean) 4 tp_nm tp_by tp_ml tp_rtt 330 [o_ald (.aload_n 0) 0, o_ild (.iload_n 3) 3, o_int (.iconst 3) 3, o_iadd, o_lda .iaload [0, 20], o_ifeq 7 342, o_int (.iconst 1) 1, o_goto 4 343] :=
  fG mo_ald (sim_ald_n dL_law_330 rfl) <|
  fG mo_ild (sim_ild_n dL_law_331 rfl) <|
  fG mo_int (sim_iconst dL_law_332 (by decide)) <|
  fG mo_iadd (sim_iadd dL_law_333) <|
  fG mo_lda (sim_iald dL_law_334) <|
  fG mo_ifeq (sim_ifeq dL_law_335 rfl) <|
  fG mo_int (sim_iconst dL_law_338 (by decide)) <|
  fG mo_goto (sim_goto dL_law_339 rfl) <|
  trivial
theorem fL_law_342 {X : tp_X} {az : Array Value} (hG : tp_Good X az) (hSt : tp_Stat X) : tp_Fit X x cL_law (some .boolean) 4 tp_nm tp_by tp_ml tp_rtt 342 [o_int (.iconst 0) 0, o_fall 343] :=
  fG mo_int (sim_iconst dL_law_342 (by decide)) <|
  fF
theorem fL_law_343 {X : tp_X} {az : Array Value} (hG : tp_Good X az) (hSt : tp_Stat X) : tp_Fit X x cL_law (some .boolean) 4 tp_nm tp_by tp_ml tp_rtt 343 [o_cv (.invokevirtual 35) 3 kX3_mark 3 0, o_icmpeq 1070 1416, o_int (.iconst 0) 0, o_iret 1] :=
  fC (ic_cv (Or.inl rfl)) (sim_cv hG dL_law_343 (hG.2.1 3 _ hc_3).2.1 M_X3_mark (by rw [nm_X3_mark]; rfl) (by rw [nm_X3_mark]; exact q1407) (by rw [nm_X3_mark]; exact q1408) (by rw [nm_X3_mark]; exact q1409)) <|
  fG mo_icmpeq (sim_icmpeq dL_law_346 rfl) <|
  fG mo_int (sim_iconst dL_law_349 (by decide)) <|
  fE ie_iret (sim_iret dL_law_350 rfl (Or.inr (Or.inl ⟨rfl, rfl⟩)))
theorem fL_law_351 {X : tp_X} {az : Array Value} (hG : tp_Good X az) (hSt : tp_Stat X) : tp_Fit X x cL_law (some .boolean) 4 tp_nm tp_by tp_ml tp_rtt 351 [o_ald (.aload_n 1) 1, o_ald (.aload_n 0) 0, o_ild (.iload_n 3) 3, o_int (.iconst 1) 1, o_iadd, o_lda .iaload [0, 20], o_cv (.invokevirtual 36) 1 kX1_edge 1 0, o_ald (.aload_n 2) 2, o_ald (.aload_n 0) 0, o_ild (.iload_n 3) 3, o_int (.iconst 1) 1, o_iadd, o_lda .iaload [0, 20], o_cv (.invokevirtual 40) 3 kX3_edge 1 0, o_icmpeq 1047 1416, o_int (.iconst 0) 0, o_iret 1] :=
  fG mo_ald (sim_ald_n dL_law_351 rfl) <|
  fG mo_ald (sim_ald_n dL_law_352 rfl) <|
  fG mo_ild (sim_ild_n dL_law_353 rfl) <|
  fG mo_int (sim_iconst dL_law_354 (by decide)) <|
  fG mo_iadd (sim_iadd dL_law_355) <|
  fG mo_lda (sim_iald dL_law_356) <|
  fC (ic_cv (Or.inl rfl)) (sim_cv hG dL_law_357 (hG.2.1 1 _ hc_1).2.1 M_X1_edge (by rw [nm_X1_edge]; rfl) (by rw [nm_X1_edge]; exact q346) (by rw [nm_X1_edge]; exact q347) (by rw [nm_X1_edge]; exact q348)) <|
  fG mo_ald (sim_ald_n dL_law_360 rfl) <|
  fG mo_ald (sim_ald_n dL_law_361 rfl) <|
  fG mo_ild (sim_ild_n dL_law_362 rfl) <|
  fG mo_int (sim_iconst dL_law_363 (by decide)) <|
  fG mo_iadd (sim_iadd dL_law_364) <|
  fG mo_lda (sim_iald dL_law_365) <|
  fC (ic_cv (Or.inl rfl)) (sim_cv hG dL_law_366 (hG.2.1 3 _ hc_3).2.1 M_X3_edge (by rw [nm_X3_edge]; rfl) (by rw [nm_X3_edge]; exact q1411) (by rw [nm_X3_edge]; exact q1412) (by rw [nm_X3_edge]; exact q1413)) <|
  fG mo_icmpeq (sim_icmpeq dL_law_369 rfl) <|
  fG mo_int (sim_iconst dL_law_372 (by decide)) <|
  fE ie_iret (sim_iret dL_law_373 rfl (Or.inr (Or.inl ⟨rfl, rfl⟩)))
theorem fL_law_374 {X : tp_X} {az : Array Value} (hG : tp_Good X az) (hSt : tp_Stat X) : tp_Fit X x cL_law (some .boolean) 4 tp_nm tp_by tp_ml tp_rtt 374 [o_ald (.aload_n 1) 1, o_ald (.aload_n 0) 0, o_ild (.iload_n 3) 3, o_int (.iconst 1) 1, o_iadd, o_lda .iaload [0, 20], o_ald (.aload_n 0) 0, o_ild (.iload_n 3) 3, o_int (.iconst 2) 2, o_iadd, o_lda .iaload [0, 20], o_ald (.aload_n 0) 0, o_ild (.iload_n 3) 3, o_int (.iconst 3) 3, o_iadd, o_lda .iaload [0, 20], o_cv (.invokevirtual 41) 1 kX1_drift 3 0, o_ald (.aload_n 2) 2, o_ald (.aload_n 0) 0, o_ild (.iload_n 3) 3, o_int (.iconst 1) 1, o_iadd, o_lda .iaload [0, 20], o_ald (.aload_n 0) 0, o_ild (.iload_n 3) 3, o_int (.iconst 2) 2, o_iadd, o_lda .iaload [0, 20], o_ald (.aload_n 0) 0, o_ild (.iload_n 3) 3, o_int (.iconst 3) 3, o_iadd, o_lda .iaload [0, 20], o_cv (.invokevirtual 45) 3 kX3_drift 3 0, o_icmpeq 1004 1416, o_int (.iconst 0) 0, o_iret 1] :=
  fG mo_ald (sim_ald_n dL_law_374 rfl) <|
  fG mo_ald (sim_ald_n dL_law_375 rfl) <|
  fG mo_ild (sim_ild_n dL_law_376 rfl) <|
  fG mo_int (sim_iconst dL_law_377 (by decide)) <|
  fG mo_iadd (sim_iadd dL_law_378) <|
  fG mo_lda (sim_iald dL_law_379) <|
  fG mo_ald (sim_ald_n dL_law_380 rfl) <|
  fG mo_ild (sim_ild_n dL_law_381 rfl) <|
  fG mo_int (sim_iconst dL_law_382 (by decide)) <|
  fG mo_iadd (sim_iadd dL_law_383) <|
  fG mo_lda (sim_iald dL_law_384) <|
  fG mo_ald (sim_ald_n dL_law_385 rfl) <|
  fG mo_ild (sim_ild_n dL_law_386 rfl) <|
  fG mo_int (sim_iconst dL_law_387 (by decide)) <|
  fG mo_iadd (sim_iadd dL_law_388) <|
  fG mo_lda (sim_iald dL_law_389) <|
  fC (ic_cv (Or.inl rfl)) (sim_cv hG dL_law_390 (hG.2.1 1 _ hc_1).2.1 M_X1_drift (by rw [nm_X1_drift]; rfl) (by rw [nm_X1_drift]; exact q350) (by rw [nm_X1_drift]; exact q351) (by rw [nm_X1_drift]; exact q352)) <|
  fG mo_ald (sim_ald_n dL_law_393 rfl) <|
  fG mo_ald (sim_ald_n dL_law_394 rfl) <|
  fG mo_ild (sim_ild_n dL_law_395 rfl) <|
  fG mo_int (sim_iconst dL_law_396 (by decide)) <|
  fG mo_iadd (sim_iadd dL_law_397) <|
  fG mo_lda (sim_iald dL_law_398) <|
  fG mo_ald (sim_ald_n dL_law_399 rfl) <|
  fG mo_ild (sim_ild_n dL_law_400 rfl) <|
  fG mo_int (sim_iconst dL_law_401 (by decide)) <|
  fG mo_iadd (sim_iadd dL_law_402) <|
  fG mo_lda (sim_iald dL_law_403) <|
  fG mo_ald (sim_ald_n dL_law_404 rfl) <|
  fG mo_ild (sim_ild_n dL_law_405 rfl) <|
  fG mo_int (sim_iconst dL_law_406 (by decide)) <|
  fG mo_iadd (sim_iadd dL_law_407) <|
  fG mo_lda (sim_iald dL_law_408) <|
  fC (ic_cv (Or.inl rfl)) (sim_cv hG dL_law_409 (hG.2.1 3 _ hc_3).2.1 M_X3_drift (by rw [nm_X3_drift]; rfl) (by rw [nm_X3_drift]; exact q1415) (by rw [nm_X3_drift]; exact q1416) (by rw [nm_X3_drift]; exact q1417)) <|
  fG mo_icmpeq (sim_icmpeq dL_law_412 rfl) <|
  fG mo_int (sim_iconst dL_law_415 (by decide)) <|
  fE ie_iret (sim_iret dL_law_416 rfl (Or.inr (Or.inl ⟨rfl, rfl⟩)))
theorem fL_law_417 {X : tp_X} {az : Array Value} (hG : tp_Good X az) (hSt : tp_Stat X) : tp_Fit X x cL_law (some .boolean) 4 tp_nm tp_by tp_ml tp_rtt 417 [o_ald (.aload_n 1) 1, o_ald (.aload_n 0) 0, o_ild (.iload_n 3) 3, o_int (.iconst 1) 1, o_iadd, o_lda .iaload [0, 20], o_ald (.aload_n 0) 0, o_ild (.iload_n 3) 3, o_int (.iconst 2) 2, o_iadd, o_lda .iaload [0, 20], o_ald (.aload_n 0) 0, o_ild (.iload_n 3) 3, o_int (.iconst 3) 3, o_iadd, o_lda .iaload [0, 20], o_ald (.aload_n 0) 0, o_ild (.iload_n 3) 3, o_int (.iconst 4) 4, o_iadd, o_lda .iaload [0, 20], o_ald (.aload_n 0) 0, o_ild (.iload_n 3) 3, o_int (.iconst 5) 5, o_iadd, o_lda .iaload [0, 20], o_cv (.invokevirtual 46) 1 kX1_chances 5 0, o_ald (.aload_n 2) 2, o_ald (.aload_n 0) 0, o_ild (.iload_n 3) 3, o_int (.iconst 1) 1, o_iadd, o_lda .iaload [0, 20], o_ald (.aload_n 0) 0, o_ild (.iload_n 3) 3, o_int (.iconst 2) 2, o_iadd, o_lda .iaload [0, 20], o_ald (.aload_n 0) 0, o_ild (.iload_n 3) 3, o_int (.iconst 3) 3, o_iadd, o_lda .iaload [0, 20], o_ald (.aload_n 0) 0, o_ild (.iload_n 3) 3, o_int (.iconst 4) 4, o_iadd, o_lda .iaload [0, 20], o_ald (.aload_n 0) 0, o_ild (.iload_n 3) 3, o_int (.iconst 5) 5, o_iadd, o_lda .iaload [0, 20], o_cv (.invokevirtual 50) 3 kX3_chances 5 0, o_icmpeq 941 1416, o_int (.iconst 0) 0, o_iret 1] :=
  fG mo_ald (sim_ald_n dL_law_417 rfl) <|
  fG mo_ald (sim_ald_n dL_law_418 rfl) <|
  fG mo_ild (sim_ild_n dL_law_419 rfl) <|
  fG mo_int (sim_iconst dL_law_420 (by decide)) <|
  fG mo_iadd (sim_iadd dL_law_421) <|
  fG mo_lda (sim_iald dL_law_422) <|
  fG mo_ald (sim_ald_n dL_law_423 rfl) <|
  fG mo_ild (sim_ild_n dL_law_424 rfl) <|
  fG mo_int (sim_iconst dL_law_425 (by decide)) <|
  fG mo_iadd (sim_iadd dL_law_426) <|
  fG mo_lda (sim_iald dL_law_427) <|
  fG mo_ald (sim_ald_n dL_law_428 rfl) <|
  fG mo_ild (sim_ild_n dL_law_429 rfl) <|
  fG mo_int (sim_iconst dL_law_430 (by decide)) <|
  fG mo_iadd (sim_iadd dL_law_431) <|
  fG mo_lda (sim_iald dL_law_432) <|
  fG mo_ald (sim_ald_n dL_law_433 rfl) <|
  fG mo_ild (sim_ild_n dL_law_434 rfl) <|
  fG mo_int (sim_iconst dL_law_435 (by decide)) <|
  fG mo_iadd (sim_iadd dL_law_436) <|
  fG mo_lda (sim_iald dL_law_437) <|
  fG mo_ald (sim_ald_n dL_law_438 rfl) <|
  fG mo_ild (sim_ild_n dL_law_439 rfl) <|
  fG mo_int (sim_iconst dL_law_440 (by decide)) <|
  fG mo_iadd (sim_iadd dL_law_441) <|
  fG mo_lda (sim_iald dL_law_442) <|
  fC (ic_cv (Or.inl rfl)) (sim_cv hG dL_law_443 (hG.2.1 1 _ hc_1).2.1 M_X1_chances (by rw [nm_X1_chances]; rfl) (by rw [nm_X1_chances]; exact q357) (by rw [nm_X1_chances]; exact q358) (by rw [nm_X1_chances]; exact q359)) <|
  fG mo_ald (sim_ald_n dL_law_446 rfl) <|
  fG mo_ald (sim_ald_n dL_law_447 rfl) <|
  fG mo_ild (sim_ild_n dL_law_448 rfl) <|
  fG mo_int (sim_iconst dL_law_449 (by decide)) <|
  fG mo_iadd (sim_iadd dL_law_450) <|
  fG mo_lda (sim_iald dL_law_451) <|
  fG mo_ald (sim_ald_n dL_law_452 rfl) <|
  fG mo_ild (sim_ild_n dL_law_453 rfl) <|
  fG mo_int (sim_iconst dL_law_454 (by decide)) <|
  fG mo_iadd (sim_iadd dL_law_455) <|
  fG mo_lda (sim_iald dL_law_456) <|
  fG mo_ald (sim_ald_n dL_law_457 rfl) <|
  fG mo_ild (sim_ild_n dL_law_458 rfl) <|
  fG mo_int (sim_iconst dL_law_459 (by decide)) <|
  fG mo_iadd (sim_iadd dL_law_460) <|
  fG mo_lda (sim_iald dL_law_461) <|
  fG mo_ald (sim_ald_n dL_law_462 rfl) <|
  fG mo_ild (sim_ild_n dL_law_463 rfl) <|
  fG mo_int (sim_iconst dL_law_464 (by decide)) <|
  fG mo_iadd (sim_iadd dL_law_465) <|
  fG mo_lda (sim_iald dL_law_466) <|
  fG mo_ald (sim_ald_n dL_law_467 rfl) <|
  fG mo_ild (sim_ild_n dL_law_468 rfl) <|
  fG mo_int (sim_iconst dL_law_469 (by decide)) <|
  fG mo_iadd (sim_iadd dL_law_470) <|
  fG mo_lda (sim_iald dL_law_471) <|
  fC (ic_cv (Or.inl rfl)) (sim_cv hG dL_law_472 (hG.2.1 3 _ hc_3).2.1 M_X3_chances (by rw [nm_X3_chances]; rfl) (by rw [nm_X3_chances]; exact q1422) (by rw [nm_X3_chances]; exact q1423) (by rw [nm_X3_chances]; exact q1424)) <|
  fG mo_icmpeq (sim_icmpeq dL_law_475 rfl) <|
  fG mo_int (sim_iconst dL_law_478 (by decide)) <|
  fE ie_iret (sim_iret dL_law_479 rfl (Or.inr (Or.inl ⟨rfl, rfl⟩)))
theorem fL_law_480 {X : tp_X} {az : Array Value} (hG : tp_Good X az) (hSt : tp_Stat X) : tp_Fit X x cL_law (some .boolean) 4 tp_nm tp_by tp_ml tp_rtt 480 [o_ald (.aload_n 1) 1, o_ald (.aload_n 0) 0, o_ild (.iload_n 3) 3, o_int (.iconst 1) 1, o_iadd, o_lda .iaload [0, 20], o_ald (.aload_n 0) 0, o_ild (.iload_n 3) 3, o_int (.iconst 2) 2, o_iadd, o_lda .iaload [0, 20], o_ald (.aload_n 0) 0, o_ild (.iload_n 3) 3, o_int (.iconst 3) 3, o_iadd, o_lda .iaload [0, 20], o_cv (.invokevirtual 51) 1 kX1_ship 3 0, o_ald (.aload_n 2) 2, o_ald (.aload_n 0) 0, o_ild (.iload_n 3) 3, o_int (.iconst 1) 1, o_iadd, o_lda .iaload [0, 20], o_ald (.aload_n 0) 0, o_ild (.iload_n 3) 3, o_int (.iconst 2) 2, o_iadd, o_lda .iaload [0, 20], o_ald (.aload_n 0) 0, o_ild (.iload_n 3) 3, o_int (.iconst 3) 3, o_iadd, o_lda .iaload [0, 20], o_cv (.invokevirtual 54) 3 kX3_ship 3 0, o_icmpeq 898 1416, o_int (.iconst 0) 0, o_iret 1] :=
  fG mo_ald (sim_ald_n dL_law_480 rfl) <|
  fG mo_ald (sim_ald_n dL_law_481 rfl) <|
  fG mo_ild (sim_ild_n dL_law_482 rfl) <|
  fG mo_int (sim_iconst dL_law_483 (by decide)) <|
  fG mo_iadd (sim_iadd dL_law_484) <|
  fG mo_lda (sim_iald dL_law_485) <|
  fG mo_ald (sim_ald_n dL_law_486 rfl) <|
  fG mo_ild (sim_ild_n dL_law_487 rfl) <|
  fG mo_int (sim_iconst dL_law_488 (by decide)) <|
  fG mo_iadd (sim_iadd dL_law_489) <|
  fG mo_lda (sim_iald dL_law_490) <|
  fG mo_ald (sim_ald_n dL_law_491 rfl) <|
  fG mo_ild (sim_ild_n dL_law_492 rfl) <|
  fG mo_int (sim_iconst dL_law_493 (by decide)) <|
  fG mo_iadd (sim_iadd dL_law_494) <|
  fG mo_lda (sim_iald dL_law_495) <|
  fC (ic_cv (Or.inl rfl)) (sim_cv hG dL_law_496 (hG.2.1 1 _ hc_1).2.1 M_X1_ship (by rw [nm_X1_ship]; rfl) (by rw [nm_X1_ship]; exact q362) (by rw [nm_X1_ship]; exact q363) (by rw [nm_X1_ship]; exact q364)) <|
  fG mo_ald (sim_ald_n dL_law_499 rfl) <|
  fG mo_ald (sim_ald_n dL_law_500 rfl) <|
  fG mo_ild (sim_ild_n dL_law_501 rfl) <|
  fG mo_int (sim_iconst dL_law_502 (by decide)) <|
  fG mo_iadd (sim_iadd dL_law_503) <|
  fG mo_lda (sim_iald dL_law_504) <|
  fG mo_ald (sim_ald_n dL_law_505 rfl) <|
  fG mo_ild (sim_ild_n dL_law_506 rfl) <|
  fG mo_int (sim_iconst dL_law_507 (by decide)) <|
  fG mo_iadd (sim_iadd dL_law_508) <|
  fG mo_lda (sim_iald dL_law_509) <|
  fG mo_ald (sim_ald_n dL_law_510 rfl) <|
  fG mo_ild (sim_ild_n dL_law_511 rfl) <|
  fG mo_int (sim_iconst dL_law_512 (by decide)) <|
  fG mo_iadd (sim_iadd dL_law_513) <|
  fG mo_lda (sim_iald dL_law_514) <|
  fC (ic_cv (Or.inl rfl)) (sim_cv hG dL_law_515 (hG.2.1 3 _ hc_3).2.1 M_X3_ship (by rw [nm_X3_ship]; rfl) (by rw [nm_X3_ship]; exact q1426) (by rw [nm_X3_ship]; exact q1427) (by rw [nm_X3_ship]; exact q1428)) <|
  fG mo_icmpeq (sim_icmpeq dL_law_518 rfl) <|
  fG mo_int (sim_iconst dL_law_521 (by decide)) <|
  fE ie_iret (sim_iret dL_law_522 rfl (Or.inr (Or.inl ⟨rfl, rfl⟩)))
theorem fL_law_523 {X : tp_X} {az : Array Value} (hG : tp_Good X az) (hSt : tp_Stat X) : tp_Fit X x cL_law (some .boolean) 4 tp_nm tp_by tp_ml tp_rtt 523 [o_ald (.aload_n 1) 1, o_ald (.aload_n 0) 0, o_ild (.iload_n 3) 3, o_int (.iconst 1) 1, o_iadd, o_lda .iaload [0, 20], o_ald (.aload_n 0) 0, o_ild (.iload_n 3) 3, o_int (.iconst 2) 2, o_iadd, o_lda .iaload [0, 20], o_ald (.aload_n 0) 0, o_ild (.iload_n 3) 3, o_int (.iconst 3) 3, o_iadd, o_lda .iaload [0, 20], o_cv (.invokevirtual 55) 1 kX1_costs 3 0, o_ald (.aload_n 2) 2, o_ald (.aload_n 0) 0, o_ild (.iload_n 3) 3, o_int (.iconst 1) 1, o_iadd, o_lda .iaload [0, 20], o_ald (.aload_n 0) 0, o_ild (.iload_n 3) 3, o_int (.iconst 2) 2, o_iadd, o_lda .iaload [0, 20], o_ald (.aload_n 0) 0, o_ild (.iload_n 3) 3, o_int (.iconst 3) 3, o_iadd, o_lda .iaload [0, 20], o_cv (.invokevirtual 58) 3 kX3_costs 3 0, o_icmpeq 855 1416, o_int (.iconst 0) 0, o_iret 1] :=
  fG mo_ald (sim_ald_n dL_law_523 rfl) <|
  fG mo_ald (sim_ald_n dL_law_524 rfl) <|
  fG mo_ild (sim_ild_n dL_law_525 rfl) <|
  fG mo_int (sim_iconst dL_law_526 (by decide)) <|
  fG mo_iadd (sim_iadd dL_law_527) <|
  fG mo_lda (sim_iald dL_law_528) <|
  fG mo_ald (sim_ald_n dL_law_529 rfl) <|
  fG mo_ild (sim_ild_n dL_law_530 rfl) <|
  fG mo_int (sim_iconst dL_law_531 (by decide)) <|
  fG mo_iadd (sim_iadd dL_law_532) <|
  fG mo_lda (sim_iald dL_law_533) <|
  fG mo_ald (sim_ald_n dL_law_534 rfl) <|
  fG mo_ild (sim_ild_n dL_law_535 rfl) <|
  fG mo_int (sim_iconst dL_law_536 (by decide)) <|
  fG mo_iadd (sim_iadd dL_law_537) <|
  fG mo_lda (sim_iald dL_law_538) <|
  fC (ic_cv (Or.inl rfl)) (sim_cv hG dL_law_539 (hG.2.1 1 _ hc_1).2.1 M_X1_costs (by rw [nm_X1_costs]; rfl) (by rw [nm_X1_costs]; exact q366) (by rw [nm_X1_costs]; exact q367) (by rw [nm_X1_costs]; exact q368)) <|
  fG mo_ald (sim_ald_n dL_law_542 rfl) <|
  fG mo_ald (sim_ald_n dL_law_543 rfl) <|
  fG mo_ild (sim_ild_n dL_law_544 rfl) <|
  fG mo_int (sim_iconst dL_law_545 (by decide)) <|
  fG mo_iadd (sim_iadd dL_law_546) <|
  fG mo_lda (sim_iald dL_law_547) <|
  fG mo_ald (sim_ald_n dL_law_548 rfl) <|
  fG mo_ild (sim_ild_n dL_law_549 rfl) <|
  fG mo_int (sim_iconst dL_law_550 (by decide)) <|
  fG mo_iadd (sim_iadd dL_law_551) <|
  fG mo_lda (sim_iald dL_law_552) <|
  fG mo_ald (sim_ald_n dL_law_553 rfl) <|
  fG mo_ild (sim_ild_n dL_law_554 rfl) <|
  fG mo_int (sim_iconst dL_law_555 (by decide)) <|
  fG mo_iadd (sim_iadd dL_law_556) <|
  fG mo_lda (sim_iald dL_law_557) <|
  fC (ic_cv (Or.inl rfl)) (sim_cv hG dL_law_558 (hG.2.1 3 _ hc_3).2.1 M_X3_costs (by rw [nm_X3_costs]; rfl) (by rw [nm_X3_costs]; exact q1436) (by rw [nm_X3_costs]; exact q1437) (by rw [nm_X3_costs]; exact q1438)) <|
  fG mo_icmpeq (sim_icmpeq dL_law_561 rfl) <|
  fG mo_int (sim_iconst dL_law_564 (by decide)) <|
  fE ie_iret (sim_iret dL_law_565 rfl (Or.inr (Or.inl ⟨rfl, rfl⟩)))
theorem fL_law_566 {X : tp_X} {az : Array Value} (hG : tp_Good X az) (hSt : tp_Stat X) : tp_Fit X x cL_law (some .boolean) 4 tp_nm tp_by tp_ml tp_rtt 566 [o_ald (.aload_n 1) 1, o_ald (.aload_n 0) 0, o_ild (.iload_n 3) 3, o_int (.iconst 1) 1, o_iadd, o_lda .iaload [0, 20], o_cv (.invokevirtual 59) 1 kX1_wind 1 0, o_ald (.aload_n 2) 2, o_ald (.aload_n 0) 0, o_ild (.iload_n 3) 3, o_int (.iconst 1) 1, o_iadd, o_lda .iaload [0, 20], o_cv (.invokevirtual 62) 3 kX3_wind 1 0, o_icmpeq 832 1416, o_int (.iconst 0) 0, o_iret 1] :=
  fG mo_ald (sim_ald_n dL_law_566 rfl) <|
  fG mo_ald (sim_ald_n dL_law_567 rfl) <|
  fG mo_ild (sim_ild_n dL_law_568 rfl) <|
  fG mo_int (sim_iconst dL_law_569 (by decide)) <|
  fG mo_iadd (sim_iadd dL_law_570) <|
  fG mo_lda (sim_iald dL_law_571) <|
  fC (ic_cv (Or.inl rfl)) (sim_cv hG dL_law_572 (hG.2.1 1 _ hc_1).2.1 M_X1_wind (by rw [nm_X1_wind]; rfl) (by rw [nm_X1_wind]; exact q370) (by rw [nm_X1_wind]; exact q371) (by rw [nm_X1_wind]; exact q372)) <|
  fG mo_ald (sim_ald_n dL_law_575 rfl) <|
  fG mo_ald (sim_ald_n dL_law_576 rfl) <|
  fG mo_ild (sim_ild_n dL_law_577 rfl) <|
  fG mo_int (sim_iconst dL_law_578 (by decide)) <|
  fG mo_iadd (sim_iadd dL_law_579) <|
  fG mo_lda (sim_iald dL_law_580) <|
  fC (ic_cv (Or.inl rfl)) (sim_cv hG dL_law_581 (hG.2.1 3 _ hc_3).2.1 M_X3_wind (by rw [nm_X3_wind]; rfl) (by rw [nm_X3_wind]; exact q1440) (by rw [nm_X3_wind]; exact q1441) (by rw [nm_X3_wind]; exact q1442)) <|
  fG mo_icmpeq (sim_icmpeq dL_law_584 rfl) <|
  fG mo_int (sim_iconst dL_law_587 (by decide)) <|
  fE ie_iret (sim_iret dL_law_588 rfl (Or.inr (Or.inl ⟨rfl, rfl⟩)))
theorem fL_law_589 {X : tp_X} {az : Array Value} (hG : tp_Good X az) (hSt : tp_Stat X) : tp_Fit X x cL_law (some .boolean) 4 tp_nm tp_by tp_ml tp_rtt 589 [o_ald (.aload_n 1) 1, o_ald (.aload_n 0) 0, o_ild (.iload_n 3) 3, o_int (.iconst 1) 1, o_iadd, o_lda .iaload [0, 20], o_ald (.aload_n 0) 0, o_ild (.iload_n 3) 3, o_int (.iconst 2) 2, o_iadd, o_lda .iaload [0, 20], o_ald (.aload_n 0) 0, o_ild (.iload_n 3) 3, o_int (.iconst 3) 3, o_iadd, o_lda .iaload [0, 20], o_ald (.aload_n 0) 0, o_ild (.iload_n 3) 3, o_int (.iconst 4) 4, o_iadd, o_lda .iaload [0, 20], o_ald (.aload_n 0) 0, o_ild (.iload_n 3) 3, o_int (.iconst 5) 5, o_iadd, o_lda .iaload [0, 20], o_cv (.invokevirtual 63) 1 kX1_feed 5 0, o_ald (.aload_n 2) 2, o_ald (.aload_n 0) 0, o_ild (.iload_n 3) 3, o_int (.iconst 1) 1, o_iadd, o_lda .iaload [0, 20], o_ald (.aload_n 0) 0, o_ild (.iload_n 3) 3, o_int (.iconst 2) 2, o_iadd, o_lda .iaload [0, 20], o_ald (.aload_n 0) 0, o_ild (.iload_n 3) 3, o_int (.iconst 3) 3, o_iadd, o_lda .iaload [0, 20], o_ald (.aload_n 0) 0, o_ild (.iload_n 3) 3, o_int (.iconst 4) 4, o_iadd, o_lda .iaload [0, 20], o_ald (.aload_n 0) 0, o_ild (.iload_n 3) 3, o_int (.iconst 5) 5, o_iadd, o_lda .iaload [0, 20], o_cv (.invokevirtual 67) 3 kX3_feed 5 0, o_icmpeq 769 1416, o_int (.iconst 0) 0, o_iret 1] :=
  fG mo_ald (sim_ald_n dL_law_589 rfl) <|
  fG mo_ald (sim_ald_n dL_law_590 rfl) <|
  fG mo_ild (sim_ild_n dL_law_591 rfl) <|
  fG mo_int (sim_iconst dL_law_592 (by decide)) <|
  fG mo_iadd (sim_iadd dL_law_593) <|
  fG mo_lda (sim_iald dL_law_594) <|
  fG mo_ald (sim_ald_n dL_law_595 rfl) <|
  fG mo_ild (sim_ild_n dL_law_596 rfl) <|
  fG mo_int (sim_iconst dL_law_597 (by decide)) <|
  fG mo_iadd (sim_iadd dL_law_598) <|
  fG mo_lda (sim_iald dL_law_599) <|
  fG mo_ald (sim_ald_n dL_law_600 rfl) <|
  fG mo_ild (sim_ild_n dL_law_601 rfl) <|
  fG mo_int (sim_iconst dL_law_602 (by decide)) <|
  fG mo_iadd (sim_iadd dL_law_603) <|
  fG mo_lda (sim_iald dL_law_604) <|
  fG mo_ald (sim_ald_n dL_law_605 rfl) <|
  fG mo_ild (sim_ild_n dL_law_606 rfl) <|
  fG mo_int (sim_iconst dL_law_607 (by decide)) <|
  fG mo_iadd (sim_iadd dL_law_608) <|
  fG mo_lda (sim_iald dL_law_609) <|
  fG mo_ald (sim_ald_n dL_law_610 rfl) <|
  fG mo_ild (sim_ild_n dL_law_611 rfl) <|
  fG mo_int (sim_iconst dL_law_612 (by decide)) <|
  fG mo_iadd (sim_iadd dL_law_613) <|
  fG mo_lda (sim_iald dL_law_614) <|
  fC (ic_cv (Or.inl rfl)) (sim_cv hG dL_law_615 (hG.2.1 1 _ hc_1).2.1 M_X1_feed (by rw [nm_X1_feed]; rfl) (by rw [nm_X1_feed]; exact q374) (by rw [nm_X1_feed]; exact q375) (by rw [nm_X1_feed]; exact q376)) <|
  fG mo_ald (sim_ald_n dL_law_618 rfl) <|
  fG mo_ald (sim_ald_n dL_law_619 rfl) <|
  fG mo_ild (sim_ild_n dL_law_620 rfl) <|
  fG mo_int (sim_iconst dL_law_621 (by decide)) <|
  fG mo_iadd (sim_iadd dL_law_622) <|
  fG mo_lda (sim_iald dL_law_623) <|
  fG mo_ald (sim_ald_n dL_law_624 rfl) <|
  fG mo_ild (sim_ild_n dL_law_625 rfl) <|
  fG mo_int (sim_iconst dL_law_626 (by decide)) <|
  fG mo_iadd (sim_iadd dL_law_627) <|
  fG mo_lda (sim_iald dL_law_628) <|
  fG mo_ald (sim_ald_n dL_law_629 rfl) <|
  fG mo_ild (sim_ild_n dL_law_630 rfl) <|
  fG mo_int (sim_iconst dL_law_631 (by decide)) <|
  fG mo_iadd (sim_iadd dL_law_632) <|
  fG mo_lda (sim_iald dL_law_633) <|
  fG mo_ald (sim_ald_n dL_law_634 rfl) <|
  fG mo_ild (sim_ild_n dL_law_635 rfl) <|
  fG mo_int (sim_iconst dL_law_636 (by decide)) <|
  fG mo_iadd (sim_iadd dL_law_637) <|
  fG mo_lda (sim_iald dL_law_638) <|
  fG mo_ald (sim_ald_n dL_law_639 rfl) <|
  fG mo_ild (sim_ild_n dL_law_640 rfl) <|
  fG mo_int (sim_iconst dL_law_641 (by decide)) <|
  fG mo_iadd (sim_iadd dL_law_642) <|
  fG mo_lda (sim_iald dL_law_643) <|
  fC (ic_cv (Or.inl rfl)) (sim_cv hG dL_law_644 (hG.2.1 3 _ hc_3).2.1 M_X3_feed (by rw [nm_X3_feed]; rfl) (by rw [nm_X3_feed]; exact q1444) (by rw [nm_X3_feed]; exact q1445) (by rw [nm_X3_feed]; exact q1446)) <|
  fG mo_icmpeq (sim_icmpeq dL_law_647 rfl) <|
  fG mo_int (sim_iconst dL_law_650 (by decide)) <|
  fE ie_iret (sim_iret dL_law_651 rfl (Or.inr (Or.inl ⟨rfl, rfl⟩)))
theorem fL_law_652 {X : tp_X} {az : Array Value} (hG : tp_Good X az) (hSt : tp_Stat X) : tp_Fit X x cL_law (some .boolean) 4 tp_nm tp_by tp_ml tp_rtt 652 [o_ald (.aload_n 1) 1, o_ald (.aload_n 0) 0, o_ild (.iload_n 3) 3, o_int (.iconst 1) 1, o_iadd, o_lda .iaload [0, 20], o_cv (.invokevirtual 68) 1 kX1_end 1 0, o_ald (.aload_n 2) 2, o_ald (.aload_n 0) 0, o_ild (.iload_n 3) 3, o_int (.iconst 1) 1, o_iadd, o_lda .iaload [0, 20], o_cv (.invokevirtual 71) 3 kX3_end 1 0, o_icmpeq 746 1416, o_int (.iconst 0) 0, o_iret 1] :=
  fG mo_ald (sim_ald_n dL_law_652 rfl) <|
  fG mo_ald (sim_ald_n dL_law_653 rfl) <|
  fG mo_ild (sim_ild_n dL_law_654 rfl) <|
  fG mo_int (sim_iconst dL_law_655 (by decide)) <|
  fG mo_iadd (sim_iadd dL_law_656) <|
  fG mo_lda (sim_iald dL_law_657) <|
  fC (ic_cv (Or.inl rfl)) (sim_cv hG dL_law_658 (hG.2.1 1 _ hc_1).2.1 M_X1_end (by rw [nm_X1_end]; rfl) (by rw [nm_X1_end]; exact q382) (by rw [nm_X1_end]; exact q383) (by rw [nm_X1_end]; exact q384)) <|
  fG mo_ald (sim_ald_n dL_law_661 rfl) <|
  fG mo_ald (sim_ald_n dL_law_662 rfl) <|
  fG mo_ild (sim_ild_n dL_law_663 rfl) <|
  fG mo_int (sim_iconst dL_law_664 (by decide)) <|
  fG mo_iadd (sim_iadd dL_law_665) <|
  fG mo_lda (sim_iald dL_law_666) <|
  fC (ic_cv (Or.inl rfl)) (sim_cv hG dL_law_667 (hG.2.1 3 _ hc_3).2.1 M_X3_end (by rw [nm_X3_end]; rfl) (by rw [nm_X3_end]; exact q1452) (by rw [nm_X3_end]; exact q1453) (by rw [nm_X3_end]; exact q1454)) <|
  fG mo_icmpeq (sim_icmpeq dL_law_670 rfl) <|
  fG mo_int (sim_iconst dL_law_673 (by decide)) <|
  fE ie_iret (sim_iret dL_law_674 rfl (Or.inr (Or.inl ⟨rfl, rfl⟩)))
theorem fL_law_675 {X : tp_X} {az : Array Value} (hG : tp_Good X az) (hSt : tp_Stat X) : tp_Fit X x cL_law (some .boolean) 4 tp_nm tp_by tp_ml tp_rtt 675 [o_ald (.aload_n 1) 1, o_cv (.invokevirtual 72) 1 kX1_text 0 0, o_ald (.aload_n 2) 2, o_cv (.invokevirtual 76) 3 kX3_text 0 0, o_icmpeq 733 1416, o_int (.iconst 0) 0, o_iret 1] :=
  fG mo_ald (sim_ald_n dL_law_675 rfl) <|
  fC (ic_cv (Or.inl rfl)) (sim_cvW hG dL_law_676 (hG.2.1 1 _ hc_1).2.1 M_X1_text (by rw [nm_X1_text]; decide) (by rw [nm_X1_text]; exact q386) (by rw [nm_X1_text]; exact q387) (by rw [nm_X1_text]; exact q388)) <|
  fG mo_ald (sim_ald_n dL_law_679 rfl) <|
  fC (ic_cv (Or.inl rfl)) (sim_cv hG dL_law_680 (hG.2.1 3 _ hc_3).2.1 M_X3_text (by rw [nm_X3_text]; rfl) (by rw [nm_X3_text]; exact q1456) (by rw [nm_X3_text]; exact q1457) (by rw [nm_X3_text]; exact q1458)) <|
  fG mo_icmpeq (sim_icmpeq dL_law_683 rfl) <|
  fG mo_int (sim_iconst dL_law_686 (by decide)) <|
  fE ie_iret (sim_iret dL_law_687 rfl (Or.inr (Or.inl ⟨rfl, rfl⟩)))
theorem fL_law_688 {X : tp_X} {az : Array Value} (hG : tp_Good X az) (hSt : tp_Stat X) : tp_Fit X x cL_law (some .boolean) 4 tp_nm tp_by tp_ml tp_rtt 688 [o_ald (.aload_n 1) 1, o_ald (.aload_n 0) 0, o_ild (.iload_n 3) 3, o_int (.iconst 1) 1, o_iadd, o_lda .iaload [0, 20], o_cv (.invokevirtual 77) 1 kX1_fault 1 0, o_ald (.aload_n 2) 2, o_ald (.aload_n 0) 0, o_ild (.iload_n 3) 3, o_int (.iconst 1) 1, o_iadd, o_lda .iaload [0, 20], o_cv (.invokevirtual 80) 3 kX3_fault 1 0, o_icmpeq 710 1416, o_int (.iconst 0) 0, o_iret 1] :=
  fG mo_ald (sim_ald_n dL_law_688 rfl) <|
  fG mo_ald (sim_ald_n dL_law_689 rfl) <|
  fG mo_ild (sim_ild_n dL_law_690 rfl) <|
  fG mo_int (sim_iconst dL_law_691 (by decide)) <|
  fG mo_iadd (sim_iadd dL_law_692) <|
  fG mo_lda (sim_iald dL_law_693) <|
  fC (ic_cv (Or.inl rfl)) (sim_cv hG dL_law_694 (hG.2.1 1 _ hc_1).2.1 M_X1_fault (by rw [nm_X1_fault]; rfl) (by rw [nm_X1_fault]; exact q877) (by rw [nm_X1_fault]; exact q878) (by rw [nm_X1_fault]; exact q879)) <|
  fG mo_ald (sim_ald_n dL_law_697 rfl) <|
  fG mo_ald (sim_ald_n dL_law_698 rfl) <|
  fG mo_ild (sim_ild_n dL_law_699 rfl) <|
  fG mo_int (sim_iconst dL_law_700 (by decide)) <|
  fG mo_iadd (sim_iadd dL_law_701) <|
  fG mo_lda (sim_iald dL_law_702) <|
  fC (ic_cv (Or.inl rfl)) (sim_cv hG dL_law_703 (hG.2.1 3 _ hc_3).2.1 M_X3_fault (by rw [nm_X3_fault]; rfl) (by rw [nm_X3_fault]; exact q1567) (by rw [nm_X3_fault]; exact q1568) (by rw [nm_X3_fault]; exact q1569)) <|
  fG mo_icmpeq (sim_icmpeq dL_law_706 rfl) <|
  fG mo_int (sim_iconst dL_law_709 (by decide)) <|
  fE ie_iret (sim_iret dL_law_710 rfl (Or.inr (Or.inl ⟨rfl, rfl⟩)))
theorem fL_law_711 {X : tp_X} {az : Array Value} (hG : tp_Good X az) (hSt : tp_Stat X) : tp_Fit X x cL_law (some .boolean) 4 tp_nm tp_by tp_ml tp_rtt 711 [o_ald (.aload_n 1) 1, o_ald (.aload_n 0) 0, o_ild (.iload_n 3) 3, o_int (.iconst 1) 1, o_iadd, o_lda .iaload [0, 20], o_cv (.invokevirtual 81) 1 kX1_by 1 0, o_ald (.aload_n 2) 2, o_ald (.aload_n 0) 0, o_ild (.iload_n 3) 3, o_int (.iconst 1) 1, o_iadd, o_lda .iaload [0, 20], o_cv (.invokevirtual 84) 3 kX3_by 1 0, o_icmpeq 687 1416, o_int (.iconst 0) 0, o_iret 1] :=
  fG mo_ald (sim_ald_n dL_law_711 rfl) <|
  fG mo_ald (sim_ald_n dL_law_712 rfl) <|
  fG mo_ild (sim_ild_n dL_law_713 rfl) <|
  fG mo_int (sim_iconst dL_law_714 (by decide)) <|
  fG mo_iadd (sim_iadd dL_law_715) <|
  fG mo_lda (sim_iald dL_law_716) <|
  fC (ic_cv (Or.inl rfl)) (sim_cv hG dL_law_717 (hG.2.1 1 _ hc_1).2.1 M_X1_by (by rw [nm_X1_by]; rfl) (by rw [nm_X1_by]; exact q881) (by rw [nm_X1_by]; exact q882) (by rw [nm_X1_by]; exact q883)) <|
  fG mo_ald (sim_ald_n dL_law_720 rfl) <|
  fG mo_ald (sim_ald_n dL_law_721 rfl) <|
  fG mo_ild (sim_ild_n dL_law_722 rfl) <|
  fG mo_int (sim_iconst dL_law_723 (by decide)) <|
  fG mo_iadd (sim_iadd dL_law_724) <|
  fG mo_lda (sim_iald dL_law_725) <|
  fC (ic_cv (Or.inl rfl)) (sim_cv hG dL_law_726 (hG.2.1 3 _ hc_3).2.1 M_X3_by (by rw [nm_X3_by]; rfl) (by rw [nm_X3_by]; exact q1571) (by rw [nm_X3_by]; exact q1572) (by rw [nm_X3_by]; exact q1573)) <|
  fG mo_icmpeq (sim_icmpeq dL_law_729 rfl) <|
  fG mo_int (sim_iconst dL_law_732 (by decide)) <|
  fE ie_iret (sim_iret dL_law_733 rfl (Or.inr (Or.inl ⟨rfl, rfl⟩)))
theorem fL_law_734 {X : tp_X} {az : Array Value} (hG : tp_Good X az) (hSt : tp_Stat X) : tp_Fit X x cL_law (some .boolean) 4 tp_nm tp_by tp_ml tp_rtt 734 [o_ald (.aload_n 1) 1, o_ald (.aload_n 0) 0, o_ild (.iload_n 3) 3, o_int (.iconst 1) 1, o_iadd, o_lda .iaload [0, 20], o_ald (.aload_n 0) 0, o_ild (.iload_n 3) 3, o_int (.iconst 2) 2, o_iadd, o_lda .iaload [0, 20], o_cv (.invokevirtual 85) 1 kX1_can 2 0, o_ald (.aload_n 2) 2, o_ald (.aload_n 0) 0, o_ild (.iload_n 3) 3, o_int (.iconst 1) 1, o_iadd, o_lda .iaload [0, 20], o_ald (.aload_n 0) 0, o_ild (.iload_n 3) 3, o_int (.iconst 2) 2, o_iadd, o_lda .iaload [0, 20], o_cv (.invokevirtual 88) 3 kX3_can 2 0, o_icmpeq 654 1416, o_int (.iconst 0) 0, o_iret 1] :=
  fG mo_ald (sim_ald_n dL_law_734 rfl) <|
  fG mo_ald (sim_ald_n dL_law_735 rfl) <|
  fG mo_ild (sim_ild_n dL_law_736 rfl) <|
  fG mo_int (sim_iconst dL_law_737 (by decide)) <|
  fG mo_iadd (sim_iadd dL_law_738) <|
  fG mo_lda (sim_iald dL_law_739) <|
  fG mo_ald (sim_ald_n dL_law_740 rfl) <|
  fG mo_ild (sim_ild_n dL_law_741 rfl) <|
  fG mo_int (sim_iconst dL_law_742 (by decide)) <|
  fG mo_iadd (sim_iadd dL_law_743) <|
  fG mo_lda (sim_iald dL_law_744) <|
  fC (ic_cv (Or.inl rfl)) (sim_cv hG dL_law_745 (hG.2.1 1 _ hc_1).2.1 M_X1_can (by rw [nm_X1_can]; rfl) (by rw [nm_X1_can]; exact q889) (by rw [nm_X1_can]; exact q890) (by rw [nm_X1_can]; exact q891)) <|
  fG mo_ald (sim_ald_n dL_law_748 rfl) <|
  fG mo_ald (sim_ald_n dL_law_749 rfl) <|
  fG mo_ild (sim_ild_n dL_law_750 rfl) <|
  fG mo_int (sim_iconst dL_law_751 (by decide)) <|
  fG mo_iadd (sim_iadd dL_law_752) <|
  fG mo_lda (sim_iald dL_law_753) <|
  fG mo_ald (sim_ald_n dL_law_754 rfl) <|
  fG mo_ild (sim_ild_n dL_law_755 rfl) <|
  fG mo_int (sim_iconst dL_law_756 (by decide)) <|
  fG mo_iadd (sim_iadd dL_law_757) <|
  fG mo_lda (sim_iald dL_law_758) <|
  fC (ic_cv (Or.inl rfl)) (sim_cv hG dL_law_759 (hG.2.1 3 _ hc_3).2.1 M_X3_can (by rw [nm_X3_can]; rfl) (by rw [nm_X3_can]; exact q1575) (by rw [nm_X3_can]; exact q1576) (by rw [nm_X3_can]; exact q1577)) <|
  fG mo_icmpeq (sim_icmpeq dL_law_762 rfl) <|
  fG mo_int (sim_iconst dL_law_765 (by decide)) <|
  fE ie_iret (sim_iret dL_law_766 rfl (Or.inr (Or.inl ⟨rfl, rfl⟩)))
theorem fL_law_767 {X : tp_X} {az : Array Value} (hG : tp_Good X az) (hSt : tp_Stat X) : tp_Fit X x cL_law (some .boolean) 4 tp_nm tp_by tp_ml tp_rtt 767 [o_ald (.aload_n 1) 1, o_ald (.aload_n 0) 0, o_ild (.iload_n 3) 3, o_int (.iconst 1) 1, o_iadd, o_lda .iaload [0, 20], o_ald (.aload_n 0) 0, o_ild (.iload_n 3) 3, o_int (.iconst 2) 2, o_iadd, o_lda .iaload [0, 20], o_ald (.aload_n 0) 0, o_ild (.iload_n 3) 3, o_int (.iconst 3) 3, o_iadd, o_lda .iaload [0, 20], o_cv (.invokevirtual 89) 1 kX1_watch 3 0, o_ald (.aload_n 2) 2, o_ald (.aload_n 0) 0, o_ild (.iload_n 3) 3, o_int (.iconst 1) 1, o_iadd, o_lda .iaload [0, 20], o_ald (.aload_n 0) 0, o_ild (.iload_n 3) 3, o_int (.iconst 2) 2, o_iadd, o_lda .iaload [0, 20], o_ald (.aload_n 0) 0, o_ild (.iload_n 3) 3, o_int (.iconst 3) 3, o_iadd, o_lda .iaload [0, 20], o_cv (.invokevirtual 93) 3 kX3_watch 3 0, o_icmpeq 611 1416, o_int (.iconst 0) 0, o_iret 1] :=
  fG mo_ald (sim_ald_n dL_law_767 rfl) <|
  fG mo_ald (sim_ald_n dL_law_768 rfl) <|
  fG mo_ild (sim_ild_n dL_law_769 rfl) <|
  fG mo_int (sim_iconst dL_law_770 (by decide)) <|
  fG mo_iadd (sim_iadd dL_law_771) <|
  fG mo_lda (sim_iald dL_law_772) <|
  fG mo_ald (sim_ald_n dL_law_773 rfl) <|
  fG mo_ild (sim_ild_n dL_law_774 rfl) <|
  fG mo_int (sim_iconst dL_law_775 (by decide)) <|
  fG mo_iadd (sim_iadd dL_law_776) <|
  fG mo_lda (sim_iald dL_law_777) <|
  fG mo_ald (sim_ald_n dL_law_778 rfl) <|
  fG mo_ild (sim_ild_n dL_law_779 rfl) <|
  fG mo_int (sim_iconst dL_law_780 (by decide)) <|
  fG mo_iadd (sim_iadd dL_law_781) <|
  fG mo_lda (sim_iald dL_law_782) <|
  fC (ic_cv (Or.inl rfl)) (sim_cv hG dL_law_783 (hG.2.1 1 _ hc_1).2.1 M_X1_watch (by rw [nm_X1_watch]; rfl) (by rw [nm_X1_watch]; exact q1015) (by rw [nm_X1_watch]; exact q1016) (by rw [nm_X1_watch]; exact q1017)) <|
  fG mo_ald (sim_ald_n dL_law_786 rfl) <|
  fG mo_ald (sim_ald_n dL_law_787 rfl) <|
  fG mo_ild (sim_ild_n dL_law_788 rfl) <|
  fG mo_int (sim_iconst dL_law_789 (by decide)) <|
  fG mo_iadd (sim_iadd dL_law_790) <|
  fG mo_lda (sim_iald dL_law_791) <|
  fG mo_ald (sim_ald_n dL_law_792 rfl) <|
  fG mo_ild (sim_ild_n dL_law_793 rfl) <|
  fG mo_int (sim_iconst dL_law_794 (by decide)) <|
  fG mo_iadd (sim_iadd dL_law_795) <|
  fG mo_lda (sim_iald dL_law_796) <|
  fG mo_ald (sim_ald_n dL_law_797 rfl) <|
  fG mo_ild (sim_ild_n dL_law_798 rfl) <|
  fG mo_int (sim_iconst dL_law_799 (by decide)) <|
  fG mo_iadd (sim_iadd dL_law_800) <|
  fG mo_lda (sim_iald dL_law_801) <|
  fC (ic_cv (Or.inl rfl)) (sim_cv hG dL_law_802 (hG.2.1 3 _ hc_3).2.1 M_X3_watch (by rw [nm_X3_watch]; rfl) (by rw [nm_X3_watch]; exact q1650) (by rw [nm_X3_watch]; exact q1651) (by rw [nm_X3_watch]; exact q1652)) <|
  fG mo_icmpeq (sim_icmpeq dL_law_805 rfl) <|
  fG mo_int (sim_iconst dL_law_808 (by decide)) <|
  fE ie_iret (sim_iret dL_law_809 rfl (Or.inr (Or.inl ⟨rfl, rfl⟩)))
theorem fL_law_810 {X : tp_X} {az : Array Value} (hG : tp_Good X az) (hSt : tp_Stat X) : tp_Fit X x cL_law (some .boolean) 4 tp_nm tp_by tp_ml tp_rtt 810 [o_ald (.aload_n 1) 1, o_ald (.aload_n 0) 0, o_ild (.iload_n 3) 3, o_int (.iconst 1) 1, o_iadd, o_lda .iaload [0, 20], o_ald (.aload_n 0) 0, o_ild (.iload_n 3) 3, o_int (.iconst 2) 2, o_iadd, o_lda .iaload [0, 20], o_cv (.invokevirtual 94) 1 kX1_of 2 0, o_ald (.aload_n 2) 2, o_ald (.aload_n 0) 0, o_ild (.iload_n 3) 3, o_int (.iconst 1) 1, o_iadd, o_lda .iaload [0, 20], o_ald (.aload_n 0) 0, o_ild (.iload_n 3) 3, o_int (.iconst 2) 2, o_iadd, o_lda .iaload [0, 20], o_cv (.invokevirtual 98) 3 kX3_of 2 0, o_icmpeq 578 1416, o_int (.iconst 0) 0, o_iret 1] :=
  fG mo_ald (sim_ald_n dL_law_810 rfl) <|
  fG mo_ald (sim_ald_n dL_law_811 rfl) <|
  fG mo_ild (sim_ild_n dL_law_812 rfl) <|
  fG mo_int (sim_iconst dL_law_813 (by decide)) <|
  fG mo_iadd (sim_iadd dL_law_814) <|
  fG mo_lda (sim_iald dL_law_815) <|
  fG mo_ald (sim_ald_n dL_law_816 rfl) <|
  fG mo_ild (sim_ild_n dL_law_817 rfl) <|
  fG mo_int (sim_iconst dL_law_818 (by decide)) <|
  fG mo_iadd (sim_iadd dL_law_819) <|
  fG mo_lda (sim_iald dL_law_820) <|
  fC (ic_cv (Or.inl rfl)) (sim_cv hG dL_law_821 (hG.2.1 1 _ hc_1).2.1 M_X1_of (by rw [nm_X1_of]; rfl) (by rw [nm_X1_of]; exact q1036) (by rw [nm_X1_of]; exact q1037) (by rw [nm_X1_of]; exact q1038)) <|
  fG mo_ald (sim_ald_n dL_law_824 rfl) <|
  fG mo_ald (sim_ald_n dL_law_825 rfl) <|
  fG mo_ild (sim_ild_n dL_law_826 rfl) <|
  fG mo_int (sim_iconst dL_law_827 (by decide)) <|
  fG mo_iadd (sim_iadd dL_law_828) <|
  fG mo_lda (sim_iald dL_law_829) <|
  fG mo_ald (sim_ald_n dL_law_830 rfl) <|
  fG mo_ild (sim_ild_n dL_law_831 rfl) <|
  fG mo_int (sim_iconst dL_law_832 (by decide)) <|
  fG mo_iadd (sim_iadd dL_law_833) <|
  fG mo_lda (sim_iald dL_law_834) <|
  fC (ic_cv (Or.inl rfl)) (sim_cv hG dL_law_835 (hG.2.1 3 _ hc_3).2.1 M_X3_of (by rw [nm_X3_of]; rfl) (by rw [nm_X3_of]; exact q1681) (by rw [nm_X3_of]; exact q1682) (by rw [nm_X3_of]; exact q1683)) <|
  fG mo_icmpeq (sim_icmpeq dL_law_838 rfl) <|
  fG mo_int (sim_iconst dL_law_841 (by decide)) <|
  fE ie_iret (sim_iret dL_law_842 rfl (Or.inr (Or.inl ⟨rfl, rfl⟩)))
theorem fL_law_843 {X : tp_X} {az : Array Value} (hG : tp_Good X az) (hSt : tp_Stat X) : tp_Fit X x cL_law (some .boolean) 4 tp_nm tp_by tp_ml tp_rtt 843 [o_ald (.aload_n 1) 1, o_ald (.aload_n 0) 0, o_ild (.iload_n 3) 3, o_int (.iconst 1) 1, o_iadd, o_lda .iaload [0, 20], o_ald (.aload_n 0) 0, o_ild (.iload_n 3) 3, o_int (.iconst 2) 2, o_iadd, o_lda .iaload [0, 20], o_cv (.invokevirtual 99) 1 kX1_ahead 2 0, o_ald (.aload_n 2) 2, o_ald (.aload_n 0) 0, o_ild (.iload_n 3) 3, o_int (.iconst 1) 1, o_iadd, o_lda .iaload [0, 20], o_ald (.aload_n 0) 0, o_ild (.iload_n 3) 3, o_int (.iconst 2) 2, o_iadd, o_lda .iaload [0, 20], o_cv (.invokevirtual 102) 3 kX3_ahead 2 0, o_icmpeq 545 1416, o_int (.iconst 0) 0, o_iret 1] :=
  fG mo_ald (sim_ald_n dL_law_843 rfl) <|
  fG mo_ald (sim_ald_n dL_law_844 rfl) <|
  fG mo_ild (sim_ild_n dL_law_845 rfl) <|
  fG mo_int (sim_iconst dL_law_846 (by decide)) <|
  fG mo_iadd (sim_iadd dL_law_847) <|
  fG mo_lda (sim_iald dL_law_848) <|
  fG mo_ald (sim_ald_n dL_law_849 rfl) <|
  fG mo_ild (sim_ild_n dL_law_850 rfl) <|
  fG mo_int (sim_iconst dL_law_851 (by decide)) <|
  fG mo_iadd (sim_iadd dL_law_852) <|
  fG mo_lda (sim_iald dL_law_853) <|
  fC (ic_cv (Or.inl rfl)) (sim_cv hG dL_law_854 (hG.2.1 1 _ hc_1).2.1 M_X1_ahead (by rw [nm_X1_ahead]; rfl) (by rw [nm_X1_ahead]; exact q1089) (by rw [nm_X1_ahead]; exact q1090) (by rw [nm_X1_ahead]; exact q1091)) <|
  fG mo_ald (sim_ald_n dL_law_857 rfl) <|
  fG mo_ald (sim_ald_n dL_law_858 rfl) <|
  fG mo_ild (sim_ild_n dL_law_859 rfl) <|
  fG mo_int (sim_iconst dL_law_860 (by decide)) <|
  fG mo_iadd (sim_iadd dL_law_861) <|
  fG mo_lda (sim_iald dL_law_862) <|
  fG mo_ald (sim_ald_n dL_law_863 rfl) <|
  fG mo_ild (sim_ild_n dL_law_864 rfl) <|
  fG mo_int (sim_iconst dL_law_865 (by decide)) <|
  fG mo_iadd (sim_iadd dL_law_866) <|
  fG mo_lda (sim_iald dL_law_867) <|
  fC (ic_cv (Or.inl rfl)) (sim_cv hG dL_law_868 (hG.2.1 3 _ hc_3).2.1 M_X3_ahead (by rw [nm_X3_ahead]; rfl) (by rw [nm_X3_ahead]; exact q1685) (by rw [nm_X3_ahead]; exact q1686) (by rw [nm_X3_ahead]; exact q1687)) <|
  fG mo_icmpeq (sim_icmpeq dL_law_871 rfl) <|
  fG mo_int (sim_iconst dL_law_874 (by decide)) <|
  fE ie_iret (sim_iret dL_law_875 rfl (Or.inr (Or.inl ⟨rfl, rfl⟩)))
theorem fL_law_876 {X : tp_X} {az : Array Value} (hG : tp_Good X az) (hSt : tp_Stat X) : tp_Fit X x cL_law (some .boolean) 4 tp_nm tp_by tp_ml tp_rtt 876 [o_ald (.aload_n 1) 1, o_ald (.aload_n 0) 0, o_ild (.iload_n 3) 3, o_int (.iconst 1) 1, o_iadd, o_lda .iaload [0, 20], o_ald (.aload_n 0) 0, o_ild (.iload_n 3) 3, o_int (.iconst 2) 2, o_iadd, o_lda .iaload [0, 20], o_cv (.invokevirtual 103) 1 kX1_many 2 0, o_ald (.aload_n 2) 2, o_ald (.aload_n 0) 0, o_ild (.iload_n 3) 3, o_int (.iconst 1) 1, o_iadd, o_lda .iaload [0, 20], o_ald (.aload_n 0) 0, o_ild (.iload_n 3) 3, o_int (.iconst 2) 2, o_iadd, o_lda .iaload [0, 20], o_cv (.invokevirtual 106) 3 kX3_many 2 0, o_icmpeq 512 1416, o_int (.iconst 0) 0, o_iret 1] :=
  fG mo_ald (sim_ald_n dL_law_876 rfl) <|
  fG mo_ald (sim_ald_n dL_law_877 rfl) <|
  fG mo_ild (sim_ild_n dL_law_878 rfl) <|
  fG mo_int (sim_iconst dL_law_879 (by decide)) <|
  fG mo_iadd (sim_iadd dL_law_880) <|
  fG mo_lda (sim_iald dL_law_881) <|
  fG mo_ald (sim_ald_n dL_law_882 rfl) <|
  fG mo_ild (sim_ild_n dL_law_883 rfl) <|
  fG mo_int (sim_iconst dL_law_884 (by decide)) <|
  fG mo_iadd (sim_iadd dL_law_885) <|
  fG mo_lda (sim_iald dL_law_886) <|
  fC (ic_cv (Or.inl rfl)) (sim_cv hG dL_law_887 (hG.2.1 1 _ hc_1).2.1 M_X1_many (by rw [nm_X1_many]; rfl) (by rw [nm_X1_many]; exact q1093) (by rw [nm_X1_many]; exact q1094) (by rw [nm_X1_many]; exact q1095)) <|
  fG mo_ald (sim_ald_n dL_law_890 rfl) <|
  fG mo_ald (sim_ald_n dL_law_891 rfl) <|
  fG mo_ild (sim_ild_n dL_law_892 rfl) <|
  fG mo_int (sim_iconst dL_law_893 (by decide)) <|
  fG mo_iadd (sim_iadd dL_law_894) <|
  fG mo_lda (sim_iald dL_law_895) <|
  fG mo_ald (sim_ald_n dL_law_896 rfl) <|
  fG mo_ild (sim_ild_n dL_law_897 rfl) <|
  fG mo_int (sim_iconst dL_law_898 (by decide)) <|
  fG mo_iadd (sim_iadd dL_law_899) <|
  fG mo_lda (sim_iald dL_law_900) <|
  fC (ic_cv (Or.inl rfl)) (sim_cv hG dL_law_901 (hG.2.1 3 _ hc_3).2.1 M_X3_many (by rw [nm_X3_many]; rfl) (by rw [nm_X3_many]; exact q1689) (by rw [nm_X3_many]; exact q1690) (by rw [nm_X3_many]; exact q1691)) <|
  fG mo_icmpeq (sim_icmpeq dL_law_904 rfl) <|
  fG mo_int (sim_iconst dL_law_907 (by decide)) <|
  fE ie_iret (sim_iret dL_law_908 rfl (Or.inr (Or.inl ⟨rfl, rfl⟩)))
theorem fL_law_909 {X : tp_X} {az : Array Value} (hG : tp_Good X az) (hSt : tp_Stat X) : tp_Fit X x cL_law (some .boolean) 4 tp_nm tp_by tp_ml tp_rtt 909 [o_ald (.aload_n 1) 1, o_ald (.aload_n 0) 0, o_ild (.iload_n 3) 3, o_int (.iconst 1) 1, o_iadd, o_lda .iaload [0, 20], o_cv (.invokevirtual 107) 1 kX1_soonest 1 0, o_ald (.aload_n 2) 2, o_ald (.aload_n 0) 0, o_ild (.iload_n 3) 3, o_int (.iconst 1) 1, o_iadd, o_lda .iaload [0, 20], o_cv (.invokevirtual 110) 3 kX3_soonest 1 0, o_icmpeq 489 1416, o_int (.iconst 0) 0, o_iret 1] :=
  fG mo_ald (sim_ald_n dL_law_909 rfl) <|
  fG mo_ald (sim_ald_n dL_law_910 rfl) <|
  fG mo_ild (sim_ild_n dL_law_911 rfl) <|
  fG mo_int (sim_iconst dL_law_912 (by decide)) <|
  fG mo_iadd (sim_iadd dL_law_913) <|
  fG mo_lda (sim_iald dL_law_914) <|
  fC (ic_cv (Or.inl rfl)) (sim_cv hG dL_law_915 (hG.2.1 1 _ hc_1).2.1 M_X1_soonest (by rw [nm_X1_soonest]; rfl) (by rw [nm_X1_soonest]; exact q1040) (by rw [nm_X1_soonest]; exact q1041) (by rw [nm_X1_soonest]; exact q1042)) <|
  fG mo_ald (sim_ald_n dL_law_918 rfl) <|
  fG mo_ald (sim_ald_n dL_law_919 rfl) <|
  fG mo_ild (sim_ild_n dL_law_920 rfl) <|
  fG mo_int (sim_iconst dL_law_921 (by decide)) <|
  fG mo_iadd (sim_iadd dL_law_922) <|
  fG mo_lda (sim_iald dL_law_923) <|
  fC (ic_cv (Or.inl rfl)) (sim_cv hG dL_law_924 (hG.2.1 3 _ hc_3).2.1 M_X3_soonest (by rw [nm_X3_soonest]; rfl) (by rw [nm_X3_soonest]; exact q1693) (by rw [nm_X3_soonest]; exact q1694) (by rw [nm_X3_soonest]; exact q1695)) <|
  fG mo_icmpeq (sim_icmpeq dL_law_927 rfl) <|
  fG mo_int (sim_iconst dL_law_930 (by decide)) <|
  fE ie_iret (sim_iret dL_law_931 rfl (Or.inr (Or.inl ⟨rfl, rfl⟩)))
theorem fL_law_932 {X : tp_X} {az : Array Value} (hG : tp_Good X az) (hSt : tp_Stat X) : tp_Fit X x cL_law (some .boolean) 4 tp_nm tp_by tp_ml tp_rtt 932 [o_ald (.aload_n 1) 1, o_cv (.invokevirtual 111) 1 kX1_least 0 0, o_ald (.aload_n 2) 2, o_cv (.invokevirtual 114) 3 kX3_least 0 0, o_icmpeq 476 1416, o_int (.iconst 0) 0, o_iret 1] :=
  fG mo_ald (sim_ald_n dL_law_932 rfl) <|
  fC (ic_cv (Or.inl rfl)) (sim_cv hG dL_law_933 (hG.2.1 1 _ hc_1).2.1 M_X1_least (by rw [nm_X1_least]; rfl) (by rw [nm_X1_least]; exact q1085) (by rw [nm_X1_least]; exact q1086) (by rw [nm_X1_least]; exact q1087)) <|
  fG mo_ald (sim_ald_n dL_law_936 rfl) <|
  fC (ic_cv (Or.inl rfl)) (sim_cv hG dL_law_937 (hG.2.1 3 _ hc_3).2.1 M_X3_least (by rw [nm_X3_least]; rfl) (by rw [nm_X3_least]; exact q1740) (by rw [nm_X3_least]; exact q1741) (by rw [nm_X3_least]; exact q1742)) <|
  fG mo_icmpeq (sim_icmpeq dL_law_940 rfl) <|
  fG mo_int (sim_iconst dL_law_943 (by decide)) <|
  fE ie_iret (sim_iret dL_law_944 rfl (Or.inr (Or.inl ⟨rfl, rfl⟩)))
theorem fL_law_945 {X : tp_X} {az : Array Value} (hG : tp_Good X az) (hSt : tp_Stat X) : tp_Fit X x cL_law (some .boolean) 4 tp_nm tp_by tp_ml tp_rtt 945 [o_ald (.aload_n 1) 1, o_ald (.aload_n 0) 0, o_ild (.iload_n 3) 3, o_int (.iconst 1) 1, o_iadd, o_lda .iaload [0, 20], o_ald (.aload_n 0) 0, o_ild (.iload_n 3) 3, o_int (.iconst 2) 2, o_iadd, o_lda .iaload [0, 20], o_cv (.invokevirtual 115) 1 kX1_order 2 0, o_ald (.aload_n 2) 2, o_ald (.aload_n 0) 0, o_ild (.iload_n 3) 3, o_int (.iconst 1) 1, o_iadd, o_lda .iaload [0, 20], o_ald (.aload_n 0) 0, o_ild (.iload_n 3) 3, o_int (.iconst 2) 2, o_iadd, o_lda .iaload [0, 20], o_cv (.invokevirtual 118) 3 kX3_order 2 0, o_icmpeq 443 1416, o_int (.iconst 0) 0, o_iret 1] :=
  fG mo_ald (sim_ald_n dL_law_945 rfl) <|
  fG mo_ald (sim_ald_n dL_law_946 rfl) <|
  fG mo_ild (sim_ild_n dL_law_947 rfl) <|
  fG mo_int (sim_iconst dL_law_948 (by decide)) <|
  fG mo_iadd (sim_iadd dL_law_949) <|
  fG mo_lda (sim_iald dL_law_950) <|
  fG mo_ald (sim_ald_n dL_law_951 rfl) <|
  fG mo_ild (sim_ild_n dL_law_952 rfl) <|
  fG mo_int (sim_iconst dL_law_953 (by decide)) <|
  fG mo_iadd (sim_iadd dL_law_954) <|
  fG mo_lda (sim_iald dL_law_955) <|
  fC (ic_cv (Or.inl rfl)) (sim_cv hG dL_law_956 (hG.2.1 1 _ hc_1).2.1 M_X1_order (by rw [nm_X1_order]; rfl) (by rw [nm_X1_order]; exact q1097) (by rw [nm_X1_order]; exact q1098) (by rw [nm_X1_order]; exact q1099)) <|
  fG mo_ald (sim_ald_n dL_law_959 rfl) <|
  fG mo_ald (sim_ald_n dL_law_960 rfl) <|
  fG mo_ild (sim_ild_n dL_law_961 rfl) <|
  fG mo_int (sim_iconst dL_law_962 (by decide)) <|
  fG mo_iadd (sim_iadd dL_law_963) <|
  fG mo_lda (sim_iald dL_law_964) <|
  fG mo_ald (sim_ald_n dL_law_965 rfl) <|
  fG mo_ild (sim_ild_n dL_law_966 rfl) <|
  fG mo_int (sim_iconst dL_law_967 (by decide)) <|
  fG mo_iadd (sim_iadd dL_law_968) <|
  fG mo_lda (sim_iald dL_law_969) <|
  fC (ic_cv (Or.inl rfl)) (sim_cv hG dL_law_970 (hG.2.1 3 _ hc_3).2.1 M_X3_order (by rw [nm_X3_order]; rfl) (by rw [nm_X3_order]; exact q1744) (by rw [nm_X3_order]; exact q1745) (by rw [nm_X3_order]; exact q1746)) <|
  fG mo_icmpeq (sim_icmpeq dL_law_973 rfl) <|
  fG mo_int (sim_iconst dL_law_976 (by decide)) <|
  fE ie_iret (sim_iret dL_law_977 rfl (Or.inr (Or.inl ⟨rfl, rfl⟩)))
theorem fL_law_978 {X : tp_X} {az : Array Value} (hG : tp_Good X az) (hSt : tp_Stat X) : tp_Fit X x cL_law (some .boolean) 4 tp_nm tp_by tp_ml tp_rtt 978 [o_ald (.aload_n 1) 1, o_ald (.aload_n 0) 0, o_ild (.iload_n 3) 3, o_int (.iconst 1) 1, o_iadd, o_lda .iaload [0, 20], o_cv (.invokevirtual 119) 1 kX1_told 1 0, o_ald (.aload_n 2) 2, o_ald (.aload_n 0) 0, o_ild (.iload_n 3) 3, o_int (.iconst 1) 1, o_iadd, o_lda .iaload [0, 20], o_cv (.invokevirtual 122) 3 kX3_told 1 0, o_icmpeq 420 1416, o_int (.iconst 0) 0, o_iret 1] :=
  fG mo_ald (sim_ald_n dL_law_978 rfl) <|
  fG mo_ald (sim_ald_n dL_law_979 rfl) <|
  fG mo_ild (sim_ild_n dL_law_980 rfl) <|
  fG mo_int (sim_iconst dL_law_981 (by decide)) <|
  fG mo_iadd (sim_iadd dL_law_982) <|
  fG mo_lda (sim_iald dL_law_983) <|
  fC (ic_cv (Or.inl rfl)) (sim_cv hG dL_law_984 (hG.2.1 1 _ hc_1).2.1 M_X1_told (by rw [nm_X1_told]; rfl) (by rw [nm_X1_told]; exact q1101) (by rw [nm_X1_told]; exact q1102) (by rw [nm_X1_told]; exact q1103)) <|
  fG mo_ald (sim_ald_n dL_law_987 rfl) <|
  fG mo_ald (sim_ald_n dL_law_988 rfl) <|
  fG mo_ild (sim_ild_n dL_law_989 rfl) <|
  fG mo_int (sim_iconst dL_law_990 (by decide)) <|
  fG mo_iadd (sim_iadd dL_law_991) <|
  fG mo_lda (sim_iald dL_law_992) <|
  fC (ic_cv (Or.inl rfl)) (sim_cv hG dL_law_993 (hG.2.1 3 _ hc_3).2.1 M_X3_told (by rw [nm_X3_told]; rfl) (by rw [nm_X3_told]; exact q1748) (by rw [nm_X3_told]; exact q1749) (by rw [nm_X3_told]; exact q1750)) <|
  fG mo_icmpeq (sim_icmpeq dL_law_996 rfl) <|
  fG mo_int (sim_iconst dL_law_999 (by decide)) <|
  fE ie_iret (sim_iret dL_law_1000 rfl (Or.inr (Or.inl ⟨rfl, rfl⟩)))
theorem fL_law_1001 {X : tp_X} {az : Array Value} (hG : tp_Good X az) (hSt : tp_Stat X) : tp_Fit X x cL_law (some .boolean) 4 tp_nm tp_by tp_ml tp_rtt 1001 [o_ald (.aload_n 1) 1, o_ald (.aload_n 0) 0, o_ild (.iload_n 3) 3, o_int (.iconst 1) 1, o_iadd, o_lda .iaload [0, 20], o_cv (.invokevirtual 123) 1 kX1_home 1 0, o_ald (.aload_n 2) 2, o_ald (.aload_n 0) 0, o_ild (.iload_n 3) 3, o_int (.iconst 1) 1, o_iadd, o_lda .iaload [0, 20], o_cv (.invokevirtual 126) 3 kX3_home 1 0, o_icmpeq 397 1416, o_int (.iconst 0) 0, o_iret 1] :=
  fG mo_ald (sim_ald_n dL_law_1001 rfl) <|
  fG mo_ald (sim_ald_n dL_law_1002 rfl) <|
  fG mo_ild (sim_ild_n dL_law_1003 rfl) <|
  fG mo_int (sim_iconst dL_law_1004 (by decide)) <|
  fG mo_iadd (sim_iadd dL_law_1005) <|
  fG mo_lda (sim_iald dL_law_1006) <|
  fC (ic_cv (Or.inl rfl)) (sim_cv hG dL_law_1007 (hG.2.1 1 _ hc_1).2.1 M_X1_home (by rw [nm_X1_home]; rfl) (by rw [nm_X1_home]; exact q1109) (by rw [nm_X1_home]; exact q1110) (by rw [nm_X1_home]; exact q1111)) <|
  fG mo_ald (sim_ald_n dL_law_1010 rfl) <|
  fG mo_ald (sim_ald_n dL_law_1011 rfl) <|
  fG mo_ild (sim_ild_n dL_law_1012 rfl) <|
  fG mo_int (sim_iconst dL_law_1013 (by decide)) <|
  fG mo_iadd (sim_iadd dL_law_1014) <|
  fG mo_lda (sim_iald dL_law_1015) <|
  fC (ic_cv (Or.inl rfl)) (sim_cv hG dL_law_1016 (hG.2.1 3 _ hc_3).2.1 M_X3_home (by rw [nm_X3_home]; rfl) (by rw [nm_X3_home]; exact q1756) (by rw [nm_X3_home]; exact q1757) (by rw [nm_X3_home]; exact q1758)) <|
  fG mo_icmpeq (sim_icmpeq dL_law_1019 rfl) <|
  fG mo_int (sim_iconst dL_law_1022 (by decide)) <|
  fE ie_iret (sim_iret dL_law_1023 rfl (Or.inr (Or.inl ⟨rfl, rfl⟩)))
theorem fL_law_1024 {X : tp_X} {az : Array Value} (hG : tp_Good X az) (hSt : tp_Stat X) : tp_Fit X x cL_law (some .boolean) 4 tp_nm tp_by tp_ml tp_rtt 1024 [o_ald (.aload_n 1) 1, o_cv (.invokevirtual 127) 1 kX1_last 0 0, o_ald (.aload_n 2) 2, o_cv (.invokevirtual 130) 3 kX3_last 0 0, o_icmpeq 384 1416, o_int (.iconst 0) 0, o_iret 1] :=
  fG mo_ald (sim_ald_n dL_law_1024 rfl) <|
  fC (ic_cv (Or.inl rfl)) (sim_cv hG dL_law_1025 (hG.2.1 1 _ hc_1).2.1 M_X1_last (by rw [nm_X1_last]; rfl) (by rw [nm_X1_last]; exact q1113) (by rw [nm_X1_last]; exact q1114) (by rw [nm_X1_last]; exact q1115)) <|
  fG mo_ald (sim_ald_n dL_law_1028 rfl) <|
  fC (ic_cv (Or.inl rfl)) (sim_cv hG dL_law_1029 (hG.2.1 3 _ hc_3).2.1 M_X3_last (by rw [nm_X3_last]; rfl) (by rw [nm_X3_last]; exact q1760) (by rw [nm_X3_last]; exact q1761) (by rw [nm_X3_last]; exact q1762)) <|
  fG mo_icmpeq (sim_icmpeq dL_law_1032 rfl) <|
  fG mo_int (sim_iconst dL_law_1035 (by decide)) <|
  fE ie_iret (sim_iret dL_law_1036 rfl (Or.inr (Or.inl ⟨rfl, rfl⟩)))
theorem fL_law_1037 {X : tp_X} {az : Array Value} (hG : tp_Good X az) (hSt : tp_Stat X) : tp_Fit X x cL_law (some .boolean) 4 tp_nm tp_by tp_ml tp_rtt 1037 [o_ald (.aload_n 1) 1, o_ald (.aload_n 0) 0, o_ild (.iload_n 3) 3, o_int (.iconst 1) 1, o_iadd, o_lda .iaload [0, 20], o_cv (.invokevirtual 131) 1 kX1_walk 1 0, o_ald (.aload_n 2) 2, o_ald (.aload_n 0) 0, o_ild (.iload_n 3) 3, o_int (.iconst 1) 1, o_iadd, o_lda .iaload [0, 20], o_cv (.invokevirtual 134) 3 kX3_walk 1 0, o_icmpeq 361 1416, o_int (.iconst 0) 0, o_iret 1] :=
  fG mo_ald (sim_ald_n dL_law_1037 rfl) <|
  fG mo_ald (sim_ald_n dL_law_1038 rfl) <|
  fG mo_ild (sim_ild_n dL_law_1039 rfl) <|
  fG mo_int (sim_iconst dL_law_1040 (by decide)) <|
  fG mo_iadd (sim_iadd dL_law_1041) <|
  fG mo_lda (sim_iald dL_law_1042) <|
  fC (ic_cv (Or.inl rfl)) (sim_cv hG dL_law_1043 (hG.2.1 1 _ hc_1).2.1 M_X1_walk (by rw [nm_X1_walk]; rfl) (by rw [nm_X1_walk]; exact q1121) (by rw [nm_X1_walk]; exact q1122) (by rw [nm_X1_walk]; exact q1123)) <|
  fG mo_ald (sim_ald_n dL_law_1046 rfl) <|
  fG mo_ald (sim_ald_n dL_law_1047 rfl) <|
  fG mo_ild (sim_ild_n dL_law_1048 rfl) <|
  fG mo_int (sim_iconst dL_law_1049 (by decide)) <|
  fG mo_iadd (sim_iadd dL_law_1050) <|
  fG mo_lda (sim_iald dL_law_1051) <|
  fC (ic_cv (Or.inl rfl)) (sim_cv hG dL_law_1052 (hG.2.1 3 _ hc_3).2.1 M_X3_walk (by rw [nm_X3_walk]; rfl) (by rw [nm_X3_walk]; exact q1768) (by rw [nm_X3_walk]; exact q1769) (by rw [nm_X3_walk]; exact q1770)) <|
  fG mo_icmpeq (sim_icmpeq dL_law_1055 rfl) <|
  fG mo_int (sim_iconst dL_law_1058 (by decide)) <|
  fE ie_iret (sim_iret dL_law_1059 rfl (Or.inr (Or.inl ⟨rfl, rfl⟩)))
theorem fL_law_1060 {X : tp_X} {az : Array Value} (hG : tp_Good X az) (hSt : tp_Stat X) : tp_Fit X x cL_law (some .boolean) 4 tp_nm tp_by tp_ml tp_rtt 1060 [o_ald (.aload_n 1) 1, o_cv (.invokevirtual 135) 1 kX1_leave 0 0, o_ald (.aload_n 2) 2, o_cv (.invokevirtual 138) 3 kX3_leave 0 0, o_icmpeq 348 1416, o_int (.iconst 0) 0, o_iret 1] :=
  fG mo_ald (sim_ald_n dL_law_1060 rfl) <|
  fC (ic_cv (Or.inl rfl)) (sim_cv hG dL_law_1061 (hG.2.1 1 _ hc_1).2.1 M_X1_leave (by rw [nm_X1_leave]; rfl) (by rw [nm_X1_leave]; exact q1133) (by rw [nm_X1_leave]; exact q1134) (by rw [nm_X1_leave]; exact q1135)) <|
  fG mo_ald (sim_ald_n dL_law_1064 rfl) <|
  fC (ic_cv (Or.inl rfl)) (sim_cv hG dL_law_1065 (hG.2.1 3 _ hc_3).2.1 M_X3_leave (by rw [nm_X3_leave]; rfl) (by rw [nm_X3_leave]; exact q1784) (by rw [nm_X3_leave]; exact q1785) (by rw [nm_X3_leave]; exact q1786)) <|
  fG mo_icmpeq (sim_icmpeq dL_law_1068 rfl) <|
  fG mo_int (sim_iconst dL_law_1071 (by decide)) <|
  fE ie_iret (sim_iret dL_law_1072 rfl (Or.inr (Or.inl ⟨rfl, rfl⟩)))
theorem fL_law_1073 {X : tp_X} {az : Array Value} (hG : tp_Good X az) (hSt : tp_Stat X) : tp_Fit X x cL_law (some .boolean) 4 tp_nm tp_by tp_ml tp_rtt 1073 [o_ald (.aload_n 1) 1, o_ald (.aload_n 0) 0, o_ild (.iload_n 3) 3, o_int (.iconst 1) 1, o_iadd, o_lda .iaload [0, 20], o_cv (.invokevirtual 139) 1 kX1_winter 1 0, o_ald (.aload_n 2) 2, o_ald (.aload_n 0) 0, o_ild (.iload_n 3) 3, o_int (.iconst 1) 1, o_iadd, o_lda .iaload [0, 20], o_cv (.invokevirtual 142) 3 kX3_winter 1 0, o_icmpeq 325 1416, o_int (.iconst 0) 0, o_iret 1] :=
  fG mo_ald (sim_ald_n dL_law_1073 rfl) <|
  fG mo_ald (sim_ald_n dL_law_1074 rfl) <|
  fG mo_ild (sim_ild_n dL_law_1075 rfl) <|
  fG mo_int (sim_iconst dL_law_1076 (by decide)) <|
  fG mo_iadd (sim_iadd dL_law_1077) <|
  fG mo_lda (sim_iald dL_law_1078) <|
  fC (ic_cv (Or.inl rfl)) (sim_cv hG dL_law_1079 (hG.2.1 1 _ hc_1).2.1 M_X1_winter (by rw [nm_X1_winter]; rfl) (by rw [nm_X1_winter]; exact q1137) (by rw [nm_X1_winter]; exact q1138) (by rw [nm_X1_winter]; exact q1139)) <|
  fG mo_ald (sim_ald_n dL_law_1082 rfl) <|
  fG mo_ald (sim_ald_n dL_law_1083 rfl) <|
  fG mo_ild (sim_ild_n dL_law_1084 rfl) <|
  fG mo_int (sim_iconst dL_law_1085 (by decide)) <|
  fG mo_iadd (sim_iadd dL_law_1086) <|
  fG mo_lda (sim_iald dL_law_1087) <|
  fC (ic_cv (Or.inl rfl)) (sim_cv hG dL_law_1088 (hG.2.1 3 _ hc_3).2.1 M_X3_winter (by rw [nm_X3_winter]; rfl) (by rw [nm_X3_winter]; exact q1788) (by rw [nm_X3_winter]; exact q1789) (by rw [nm_X3_winter]; exact q1790)) <|
  fG mo_icmpeq (sim_icmpeq dL_law_1091 rfl) <|
  fG mo_int (sim_iconst dL_law_1094 (by decide)) <|
  fE ie_iret (sim_iret dL_law_1095 rfl (Or.inr (Or.inl ⟨rfl, rfl⟩)))
theorem fL_law_1096 {X : tp_X} {az : Array Value} (hG : tp_Good X az) (hSt : tp_Stat X) : tp_Fit X x cL_law (some .boolean) 4 tp_nm tp_by tp_ml tp_rtt 1096 [o_ald (.aload_n 1) 1, o_ald (.aload_n 0) 0, o_ild (.iload_n 3) 3, o_int (.iconst 1) 1, o_iadd, o_lda .iaload [0, 20], o_ald (.aload_n 0) 0, o_ild (.iload_n 3) 3, o_int (.iconst 2) 2, o_iadd, o_lda .iaload [0, 20], o_cv (.invokevirtual 143) 1 kX1_surest 2 0, o_ald (.aload_n 2) 2, o_ald (.aload_n 0) 0, o_ild (.iload_n 3) 3, o_int (.iconst 1) 1, o_iadd, o_lda .iaload [0, 20], o_ald (.aload_n 0) 0, o_ild (.iload_n 3) 3, o_int (.iconst 2) 2, o_iadd, o_lda .iaload [0, 20], o_cv (.invokevirtual 146) 3 kX3_surest 2 0, o_icmpeq 292 1416, o_int (.iconst 0) 0, o_iret 1] :=
  fG mo_ald (sim_ald_n dL_law_1096 rfl) <|
  fG mo_ald (sim_ald_n dL_law_1097 rfl) <|
  fG mo_ild (sim_ild_n dL_law_1098 rfl) <|
  fG mo_int (sim_iconst dL_law_1099 (by decide)) <|
  fG mo_iadd (sim_iadd dL_law_1100) <|
  fG mo_lda (sim_iald dL_law_1101) <|
  fG mo_ald (sim_ald_n dL_law_1102 rfl) <|
  fG mo_ild (sim_ild_n dL_law_1103 rfl) <|
  fG mo_int (sim_iconst dL_law_1104 (by decide)) <|
  fG mo_iadd (sim_iadd dL_law_1105) <|
  fG mo_lda (sim_iald dL_law_1106) <|
  fC (ic_cv (Or.inl rfl)) (sim_cv hG dL_law_1107 (hG.2.1 1 _ hc_1).2.1 M_X1_surest (by rw [nm_X1_surest]; rfl) (by rw [nm_X1_surest]; exact q1145) (by rw [nm_X1_surest]; exact q1146) (by rw [nm_X1_surest]; exact q1147)) <|
  fG mo_ald (sim_ald_n dL_law_1110 rfl) <|
  fG mo_ald (sim_ald_n dL_law_1111 rfl) <|
  fG mo_ild (sim_ild_n dL_law_1112 rfl) <|
  fG mo_int (sim_iconst dL_law_1113 (by decide)) <|
  fG mo_iadd (sim_iadd dL_law_1114) <|
  fG mo_lda (sim_iald dL_law_1115) <|
  fG mo_ald (sim_ald_n dL_law_1116 rfl) <|
  fG mo_ild (sim_ild_n dL_law_1117 rfl) <|
  fG mo_int (sim_iconst dL_law_1118 (by decide)) <|
  fG mo_iadd (sim_iadd dL_law_1119) <|
  fG mo_lda (sim_iald dL_law_1120) <|
  fC (ic_cv (Or.inl rfl)) (sim_cv hG dL_law_1121 (hG.2.1 3 _ hc_3).2.1 M_X3_surest (by rw [nm_X3_surest]; rfl) (by rw [nm_X3_surest]; exact q1796) (by rw [nm_X3_surest]; exact q1797) (by rw [nm_X3_surest]; exact q1798)) <|
  fG mo_icmpeq (sim_icmpeq dL_law_1124 rfl) <|
  fG mo_int (sim_iconst dL_law_1127 (by decide)) <|
  fE ie_iret (sim_iret dL_law_1128 rfl (Or.inr (Or.inl ⟨rfl, rfl⟩)))
theorem fL_law_1129 {X : tp_X} {az : Array Value} (hG : tp_Good X az) (hSt : tp_Stat X) : tp_Fit X x cL_law (some .boolean) 4 tp_nm tp_by tp_ml tp_rtt 1129 [o_ald (.aload_n 1) 1, o_ald (.aload_n 0) 0, o_ild (.iload_n 3) 3, o_int (.iconst 1) 1, o_iadd, o_lda .iaload [0, 20], o_cv (.invokevirtual 147) 1 kX1_leads 1 0, o_ald (.aload_n 2) 2, o_ald (.aload_n 0) 0, o_ild (.iload_n 3) 3, o_int (.iconst 1) 1, o_iadd, o_lda .iaload [0, 20], o_cv (.invokevirtual 150) 3 kX3_leads 1 0, o_icmpeq 269 1416, o_int (.iconst 0) 0, o_iret 1] :=
  fG mo_ald (sim_ald_n dL_law_1129 rfl) <|
  fG mo_ald (sim_ald_n dL_law_1130 rfl) <|
  fG mo_ild (sim_ild_n dL_law_1131 rfl) <|
  fG mo_int (sim_iconst dL_law_1132 (by decide)) <|
  fG mo_iadd (sim_iadd dL_law_1133) <|
  fG mo_lda (sim_iald dL_law_1134) <|
  fC (ic_cv (Or.inl rfl)) (sim_cv hG dL_law_1135 (hG.2.1 1 _ hc_1).2.1 M_X1_leads (by rw [nm_X1_leads]; rfl) (by rw [nm_X1_leads]; exact q1169) (by rw [nm_X1_leads]; exact q1170) (by rw [nm_X1_leads]; exact q1171)) <|
  fG mo_ald (sim_ald_n dL_law_1138 rfl) <|
  fG mo_ald (sim_ald_n dL_law_1139 rfl) <|
  fG mo_ild (sim_ild_n dL_law_1140 rfl) <|
  fG mo_int (sim_iconst dL_law_1141 (by decide)) <|
  fG mo_iadd (sim_iadd dL_law_1142) <|
  fG mo_lda (sim_iald dL_law_1143) <|
  fC (ic_cv (Or.inl rfl)) (sim_cv hG dL_law_1144 (hG.2.1 3 _ hc_3).2.1 M_X3_leads (by rw [nm_X3_leads]; rfl) (by rw [nm_X3_leads]; exact q1832) (by rw [nm_X3_leads]; exact q1833) (by rw [nm_X3_leads]; exact q1834)) <|
  fG mo_icmpeq (sim_icmpeq dL_law_1147 rfl) <|
  fG mo_int (sim_iconst dL_law_1150 (by decide)) <|
  fE ie_iret (sim_iret dL_law_1151 rfl (Or.inr (Or.inl ⟨rfl, rfl⟩)))
theorem fL_law_1152 {X : tp_X} {az : Array Value} (hG : tp_Good X az) (hSt : tp_Stat X) : tp_Fit X x cL_law (some .boolean) 4 tp_nm tp_by tp_ml tp_rtt 1152 [o_ald (.aload_n 1) 1, o_ald (.aload_n 0) 0, o_ild (.iload_n 3) 3, o_int (.iconst 1) 1, o_iadd, o_lda .iaload [0, 20], o_ald (.aload_n 0) 0, o_ild (.iload_n 3) 3, o_int (.iconst 2) 2, o_iadd, o_lda .iaload [0, 20], o_cv (.invokevirtual 151) 1 kX1_prior 2 0, o_ald (.aload_n 2) 2, o_ald (.aload_n 0) 0, o_ild (.iload_n 3) 3, o_int (.iconst 1) 1, o_iadd, o_lda .iaload [0, 20], o_ald (.aload_n 0) 0, o_ild (.iload_n 3) 3, o_int (.iconst 2) 2, o_iadd, o_lda .iaload [0, 20], o_cv (.invokevirtual 154) 3 kX3_prior 2 0, o_icmpeq 236 1416, o_int (.iconst 0) 0, o_iret 1] :=
  fG mo_ald (sim_ald_n dL_law_1152 rfl) <|
  fG mo_ald (sim_ald_n dL_law_1153 rfl) <|
  fG mo_ild (sim_ild_n dL_law_1154 rfl) <|
  fG mo_int (sim_iconst dL_law_1155 (by decide)) <|
  fG mo_iadd (sim_iadd dL_law_1156) <|
  fG mo_lda (sim_iald dL_law_1157) <|
  fG mo_ald (sim_ald_n dL_law_1158 rfl) <|
  fG mo_ild (sim_ild_n dL_law_1159 rfl) <|
  fG mo_int (sim_iconst dL_law_1160 (by decide)) <|
  fG mo_iadd (sim_iadd dL_law_1161) <|
  fG mo_lda (sim_iald dL_law_1162) <|
  fC (ic_cv (Or.inl rfl)) (sim_cv hG dL_law_1163 (hG.2.1 1 _ hc_1).2.1 M_X1_prior (by rw [nm_X1_prior]; rfl) (by rw [nm_X1_prior]; exact q1173) (by rw [nm_X1_prior]; exact q1174) (by rw [nm_X1_prior]; exact q1175)) <|
  fG mo_ald (sim_ald_n dL_law_1166 rfl) <|
  fG mo_ald (sim_ald_n dL_law_1167 rfl) <|
  fG mo_ild (sim_ild_n dL_law_1168 rfl) <|
  fG mo_int (sim_iconst dL_law_1169 (by decide)) <|
  fG mo_iadd (sim_iadd dL_law_1170) <|
  fG mo_lda (sim_iald dL_law_1171) <|
  fG mo_ald (sim_ald_n dL_law_1172 rfl) <|
  fG mo_ild (sim_ild_n dL_law_1173 rfl) <|
  fG mo_int (sim_iconst dL_law_1174 (by decide)) <|
  fG mo_iadd (sim_iadd dL_law_1175) <|
  fG mo_lda (sim_iald dL_law_1176) <|
  fC (ic_cv (Or.inl rfl)) (sim_cv hG dL_law_1177 (hG.2.1 3 _ hc_3).2.1 M_X3_prior (by rw [nm_X3_prior]; rfl) (by rw [nm_X3_prior]; exact q1836) (by rw [nm_X3_prior]; exact q1837) (by rw [nm_X3_prior]; exact q1838)) <|
  fG mo_icmpeq (sim_icmpeq dL_law_1180 rfl) <|
  fG mo_int (sim_iconst dL_law_1183 (by decide)) <|
  fE ie_iret (sim_iret dL_law_1184 rfl (Or.inr (Or.inl ⟨rfl, rfl⟩)))
theorem fL_law_1185 {X : tp_X} {az : Array Value} (hG : tp_Good X az) (hSt : tp_Stat X) : tp_Fit X x cL_law (some .boolean) 4 tp_nm tp_by tp_ml tp_rtt 1185 [o_ald (.aload_n 1) 1, o_ald (.aload_n 0) 0, o_ild (.iload_n 3) 3, o_int (.iconst 1) 1, o_iadd, o_lda .iaload [0, 20], o_ald (.aload_n 0) 0, o_ild (.iload_n 3) 3, o_int (.iconst 2) 2, o_iadd, o_lda .iaload [0, 20], o_cv (.invokevirtual 155) 1 kX1_look 2 0, o_ald (.aload_n 2) 2, o_ald (.aload_n 0) 0, o_ild (.iload_n 3) 3, o_int (.iconst 1) 1, o_iadd, o_lda .iaload [0, 20], o_ald (.aload_n 0) 0, o_ild (.iload_n 3) 3, o_int (.iconst 2) 2, o_iadd, o_lda .iaload [0, 20], o_cv (.invokevirtual 158) 3 kX3_look_2 2 0, o_icmpeq 203 1416, o_int (.iconst 0) 0, o_iret 1] :=
  fG mo_ald (sim_ald_n dL_law_1185 rfl) <|
  fG mo_ald (sim_ald_n dL_law_1186 rfl) <|
  fG mo_ild (sim_ild_n dL_law_1187 rfl) <|
  fG mo_int (sim_iconst dL_law_1188 (by decide)) <|
  fG mo_iadd (sim_iadd dL_law_1189) <|
  fG mo_lda (sim_iald dL_law_1190) <|
  fG mo_ald (sim_ald_n dL_law_1191 rfl) <|
  fG mo_ild (sim_ild_n dL_law_1192 rfl) <|
  fG mo_int (sim_iconst dL_law_1193 (by decide)) <|
  fG mo_iadd (sim_iadd dL_law_1194) <|
  fG mo_lda (sim_iald dL_law_1195) <|
  fC (ic_cv (Or.inl rfl)) (sim_cv hG dL_law_1196 (hG.2.1 1 _ hc_1).2.1 M_X1_look (by rw [nm_X1_look]; rfl) (by rw [nm_X1_look]; exact q1180) (by rw [nm_X1_look]; exact q1181) (by rw [nm_X1_look]; exact q1182)) <|
  fG mo_ald (sim_ald_n dL_law_1199 rfl) <|
  fG mo_ald (sim_ald_n dL_law_1200 rfl) <|
  fG mo_ild (sim_ild_n dL_law_1201 rfl) <|
  fG mo_int (sim_iconst dL_law_1202 (by decide)) <|
  fG mo_iadd (sim_iadd dL_law_1203) <|
  fG mo_lda (sim_iald dL_law_1204) <|
  fG mo_ald (sim_ald_n dL_law_1205 rfl) <|
  fG mo_ild (sim_ild_n dL_law_1206 rfl) <|
  fG mo_int (sim_iconst dL_law_1207 (by decide)) <|
  fG mo_iadd (sim_iadd dL_law_1208) <|
  fG mo_lda (sim_iald dL_law_1209) <|
  fC (ic_cv (Or.inl rfl)) (sim_cv hG dL_law_1210 (hG.2.1 3 _ hc_3).2.1 M_X3_look_2 (by rw [nm_X3_look_2]; rfl) (by rw [nm_X3_look_2]; exact q1840) (by rw [nm_X3_look_2]; exact q1841) (by rw [nm_X3_look_2]; exact q1842)) <|
  fG mo_icmpeq (sim_icmpeq dL_law_1213 rfl) <|
  fG mo_int (sim_iconst dL_law_1216 (by decide)) <|
  fE ie_iret (sim_iret dL_law_1217 rfl (Or.inr (Or.inl ⟨rfl, rfl⟩)))
theorem fL_law_1218 {X : tp_X} {az : Array Value} (hG : tp_Good X az) (hSt : tp_Stat X) : tp_Fit X x cL_law (some .boolean) 4 tp_nm tp_by tp_ml tp_rtt 1218 [o_ald (.aload_n 1) 1, o_ald (.aload_n 0) 0, o_ild (.iload_n 3) 3, o_int (.iconst 1) 1, o_iadd, o_lda .iaload [0, 20], o_ald (.aload_n 0) 0, o_ild (.iload_n 3) 3, o_int (.iconst 2) 2, o_iadd, o_lda .iaload [0, 20], o_cv (.invokevirtual 159) 1 kX1_think 2 0, o_ald (.aload_n 2) 2, o_ald (.aload_n 0) 0, o_ild (.iload_n 3) 3, o_int (.iconst 1) 1, o_iadd, o_lda .iaload [0, 20], o_ald (.aload_n 0) 0, o_ild (.iload_n 3) 3, o_int (.iconst 2) 2, o_iadd, o_lda .iaload [0, 20], o_cv (.invokevirtual 162) 3 kX3_think 2 0, o_icmpeq 170 1416, o_int (.iconst 0) 0, o_iret 1] :=
  fG mo_ald (sim_ald_n dL_law_1218 rfl) <|
  fG mo_ald (sim_ald_n dL_law_1219 rfl) <|
  fG mo_ild (sim_ild_n dL_law_1220 rfl) <|
  fG mo_int (sim_iconst dL_law_1221 (by decide)) <|
  fG mo_iadd (sim_iadd dL_law_1222) <|
  fG mo_lda (sim_iald dL_law_1223) <|
  fG mo_ald (sim_ald_n dL_law_1224 rfl) <|
  fG mo_ild (sim_ild_n dL_law_1225 rfl) <|
  fG mo_int (sim_iconst dL_law_1226 (by decide)) <|
  fG mo_iadd (sim_iadd dL_law_1227) <|
  fG mo_lda (sim_iald dL_law_1228) <|
  fC (ic_cv (Or.inl rfl)) (sim_cv hG dL_law_1229 (hG.2.1 1 _ hc_1).2.1 M_X1_think (by rw [nm_X1_think]; rfl) (by rw [nm_X1_think]; exact q1184) (by rw [nm_X1_think]; exact q1185) (by rw [nm_X1_think]; exact q1186)) <|
  fG mo_ald (sim_ald_n dL_law_1232 rfl) <|
  fG mo_ald (sim_ald_n dL_law_1233 rfl) <|
  fG mo_ild (sim_ild_n dL_law_1234 rfl) <|
  fG mo_int (sim_iconst dL_law_1235 (by decide)) <|
  fG mo_iadd (sim_iadd dL_law_1236) <|
  fG mo_lda (sim_iald dL_law_1237) <|
  fG mo_ald (sim_ald_n dL_law_1238 rfl) <|
  fG mo_ild (sim_ild_n dL_law_1239 rfl) <|
  fG mo_int (sim_iconst dL_law_1240 (by decide)) <|
  fG mo_iadd (sim_iadd dL_law_1241) <|
  fG mo_lda (sim_iald dL_law_1242) <|
  fC (ic_cv (Or.inl rfl)) (sim_cv hG dL_law_1243 (hG.2.1 3 _ hc_3).2.1 M_X3_think (by rw [nm_X3_think]; rfl) (by rw [nm_X3_think]; exact q1844) (by rw [nm_X3_think]; exact q1845) (by rw [nm_X3_think]; exact q1846)) <|
  fG mo_icmpeq (sim_icmpeq dL_law_1246 rfl) <|
  fG mo_int (sim_iconst dL_law_1249 (by decide)) <|
  fE ie_iret (sim_iret dL_law_1250 rfl (Or.inr (Or.inl ⟨rfl, rfl⟩)))
theorem fL_law_1251 {X : tp_X} {az : Array Value} (hG : tp_Good X az) (hSt : tp_Stat X) : tp_Fit X x cL_law (some .boolean) 4 tp_nm tp_by tp_ml tp_rtt 1251 [o_ald (.aload_n 1) 1, o_ald (.aload_n 0) 0, o_ild (.iload_n 3) 3, o_int (.iconst 1) 1, o_iadd, o_lda .iaload [0, 20], o_ald (.aload_n 0) 0, o_ild (.iload_n 3) 3, o_int (.iconst 2) 2, o_iadd, o_lda .iaload [0, 20], o_ald (.aload_n 0) 0, o_ild (.iload_n 3) 3, o_int (.iconst 3) 3, o_iadd, o_lda .iaload [0, 20], o_ald (.aload_n 0) 0, o_ild (.iload_n 3) 3, o_int (.iconst 4) 4, o_iadd, o_lda .iaload [0, 20], o_cv (.invokevirtual 163) 1 kX1_run 4 0, o_ald (.aload_n 2) 2, o_ald (.aload_n 0) 0, o_ild (.iload_n 3) 3, o_int (.iconst 1) 1, o_iadd, o_lda .iaload [0, 20], o_ald (.aload_n 0) 0, o_ild (.iload_n 3) 3, o_int (.iconst 2) 2, o_iadd, o_lda .iaload [0, 20], o_ald (.aload_n 0) 0, o_ild (.iload_n 3) 3, o_int (.iconst 3) 3, o_iadd, o_lda .iaload [0, 20], o_ald (.aload_n 0) 0, o_ild (.iload_n 3) 3, o_int (.iconst 4) 4, o_iadd, o_lda .iaload [0, 20], o_cv (.invokevirtual 167) 3 kX3_run 4 0, o_icmpeq 117 1416, o_int (.iconst 0) 0, o_iret 1] :=
  fG mo_ald (sim_ald_n dL_law_1251 rfl) <|
  fG mo_ald (sim_ald_n dL_law_1252 rfl) <|
  fG mo_ild (sim_ild_n dL_law_1253 rfl) <|
  fG mo_int (sim_iconst dL_law_1254 (by decide)) <|
  fG mo_iadd (sim_iadd dL_law_1255) <|
  fG mo_lda (sim_iald dL_law_1256) <|
  fG mo_ald (sim_ald_n dL_law_1257 rfl) <|
  fG mo_ild (sim_ild_n dL_law_1258 rfl) <|
  fG mo_int (sim_iconst dL_law_1259 (by decide)) <|
  fG mo_iadd (sim_iadd dL_law_1260) <|
  fG mo_lda (sim_iald dL_law_1261) <|
  fG mo_ald (sim_ald_n dL_law_1262 rfl) <|
  fG mo_ild (sim_ild_n dL_law_1263 rfl) <|
  fG mo_int (sim_iconst dL_law_1264 (by decide)) <|
  fG mo_iadd (sim_iadd dL_law_1265) <|
  fG mo_lda (sim_iald dL_law_1266) <|
  fG mo_ald (sim_ald_n dL_law_1267 rfl) <|
  fG mo_ild (sim_ild_n dL_law_1268 rfl) <|
  fG mo_int (sim_iconst dL_law_1269 (by decide)) <|
  fG mo_iadd (sim_iadd dL_law_1270) <|
  fG mo_lda (sim_iald dL_law_1271) <|
  fC (ic_cv (Or.inl rfl)) (sim_cv hG dL_law_1272 (hG.2.1 1 _ hc_1).2.1 M_X1_run (by rw [nm_X1_run]; rfl) (by rw [nm_X1_run]; exact q1194) (by rw [nm_X1_run]; exact q1195) (by rw [nm_X1_run]; exact q1196)) <|
  fG mo_ald (sim_ald_n dL_law_1275 rfl) <|
  fG mo_ald (sim_ald_n dL_law_1276 rfl) <|
  fG mo_ild (sim_ild_n dL_law_1277 rfl) <|
  fG mo_int (sim_iconst dL_law_1278 (by decide)) <|
  fG mo_iadd (sim_iadd dL_law_1279) <|
  fG mo_lda (sim_iald dL_law_1280) <|
  fG mo_ald (sim_ald_n dL_law_1281 rfl) <|
  fG mo_ild (sim_ild_n dL_law_1282 rfl) <|
  fG mo_int (sim_iconst dL_law_1283 (by decide)) <|
  fG mo_iadd (sim_iadd dL_law_1284) <|
  fG mo_lda (sim_iald dL_law_1285) <|
  fG mo_ald (sim_ald_n dL_law_1286 rfl) <|
  fG mo_ild (sim_ild_n dL_law_1287 rfl) <|
  fG mo_int (sim_iconst dL_law_1288 (by decide)) <|
  fG mo_iadd (sim_iadd dL_law_1289) <|
  fG mo_lda (sim_iald dL_law_1290) <|
  fG mo_ald (sim_ald_n dL_law_1291 rfl) <|
  fG mo_ild (sim_ild_n dL_law_1292 rfl) <|
  fG mo_int (sim_iconst dL_law_1293 (by decide)) <|
  fG mo_iadd (sim_iadd dL_law_1294) <|
  fG mo_lda (sim_iald dL_law_1295) <|
  fC (ic_cv (Or.inl rfl)) (sim_cv hG dL_law_1296 (hG.2.1 3 _ hc_3).2.1 M_X3_run (by rw [nm_X3_run]; rfl) (by rw [nm_X3_run]; exact q1854) (by rw [nm_X3_run]; exact q1855) (by rw [nm_X3_run]; exact q1856)) <|
  fG mo_icmpeq (sim_icmpeq dL_law_1299 rfl) <|
  fG mo_int (sim_iconst dL_law_1302 (by decide)) <|
  fE ie_iret (sim_iret dL_law_1303 rfl (Or.inr (Or.inl ⟨rfl, rfl⟩)))
theorem fL_law_1304 {X : tp_X} {az : Array Value} (hG : tp_Good X az) (hSt : tp_Stat X) : tp_Fit X x cL_law (some .boolean) 4 tp_nm tp_by tp_ml tp_rtt 1304 [o_ald (.aload_n 1) 1, o_ald (.aload_n 0) 0, o_ild (.iload_n 3) 3, o_int (.iconst 1) 1, o_iadd, o_lda .iaload [0, 20], o_ald (.aload_n 0) 0, o_ild (.iload_n 3) 3, o_int (.iconst 2) 2, o_iadd, o_lda .iaload [0, 20], o_ald (.aload_n 0) 0, o_ild (.iload_n 3) 3, o_int (.iconst 3) 3, o_iadd, o_lda .iaload [0, 20], o_ald (.aload_n 0) 0, o_ild (.iload_n 3) 3, o_int (.iconst 4) 4, o_iadd, o_lda .iaload [0, 20], o_ald (.aload_n 0) 0, o_ild (.iload_n 3) 3, o_int (.iconst 5) 5, o_iadd, o_lda .iaload [0, 20], o_cv (.invokevirtual 168) 1 kX1_runs_2 5 0, o_ald (.aload_n 2) 2, o_ald (.aload_n 0) 0, o_ild (.iload_n 3) 3, o_int (.iconst 1) 1, o_iadd, o_lda .iaload [0, 20], o_ald (.aload_n 0) 0, o_ild (.iload_n 3) 3, o_int (.iconst 2) 2, o_iadd, o_lda .iaload [0, 20], o_ald (.aload_n 0) 0, o_ild (.iload_n 3) 3, o_int (.iconst 3) 3, o_iadd, o_lda .iaload [0, 20], o_ald (.aload_n 0) 0, o_ild (.iload_n 3) 3, o_int (.iconst 4) 4, o_iadd, o_lda .iaload [0, 20], o_ald (.aload_n 0) 0, o_ild (.iload_n 3) 3, o_int (.iconst 5) 5, o_iadd, o_lda .iaload [0, 20], o_cv (.invokevirtual 171) 3 kX3_runs 5 0, o_icmpeq 54 1416, o_int (.iconst 0) 0, o_iret 1] :=
  fG mo_ald (sim_ald_n dL_law_1304 rfl) <|
  fG mo_ald (sim_ald_n dL_law_1305 rfl) <|
  fG mo_ild (sim_ild_n dL_law_1306 rfl) <|
  fG mo_int (sim_iconst dL_law_1307 (by decide)) <|
  fG mo_iadd (sim_iadd dL_law_1308) <|
  fG mo_lda (sim_iald dL_law_1309) <|
  fG mo_ald (sim_ald_n dL_law_1310 rfl) <|
  fG mo_ild (sim_ild_n dL_law_1311 rfl) <|
  fG mo_int (sim_iconst dL_law_1312 (by decide)) <|
  fG mo_iadd (sim_iadd dL_law_1313) <|
  fG mo_lda (sim_iald dL_law_1314) <|
  fG mo_ald (sim_ald_n dL_law_1315 rfl) <|
  fG mo_ild (sim_ild_n dL_law_1316 rfl) <|
  fG mo_int (sim_iconst dL_law_1317 (by decide)) <|
  fG mo_iadd (sim_iadd dL_law_1318) <|
  fG mo_lda (sim_iald dL_law_1319) <|
  fG mo_ald (sim_ald_n dL_law_1320 rfl) <|
  fG mo_ild (sim_ild_n dL_law_1321 rfl) <|
  fG mo_int (sim_iconst dL_law_1322 (by decide)) <|
  fG mo_iadd (sim_iadd dL_law_1323) <|
  fG mo_lda (sim_iald dL_law_1324) <|
  fG mo_ald (sim_ald_n dL_law_1325 rfl) <|
  fG mo_ild (sim_ild_n dL_law_1326 rfl) <|
  fG mo_int (sim_iconst dL_law_1327 (by decide)) <|
  fG mo_iadd (sim_iadd dL_law_1328) <|
  fG mo_lda (sim_iald dL_law_1329) <|
  fC (ic_cv (Or.inl rfl)) (sim_cv hG dL_law_1330 (hG.2.1 1 _ hc_1).2.1 M_X1_runs_2 (by rw [nm_X1_runs_2]; rfl) (by rw [nm_X1_runs_2]; exact q1223) (by rw [nm_X1_runs_2]; exact q1224) (by rw [nm_X1_runs_2]; exact q1225)) <|
  fG mo_ald (sim_ald_n dL_law_1333 rfl) <|
  fG mo_ald (sim_ald_n dL_law_1334 rfl) <|
  fG mo_ild (sim_ild_n dL_law_1335 rfl) <|
  fG mo_int (sim_iconst dL_law_1336 (by decide)) <|
  fG mo_iadd (sim_iadd dL_law_1337) <|
  fG mo_lda (sim_iald dL_law_1338) <|
  fG mo_ald (sim_ald_n dL_law_1339 rfl) <|
  fG mo_ild (sim_ild_n dL_law_1340 rfl) <|
  fG mo_int (sim_iconst dL_law_1341 (by decide)) <|
  fG mo_iadd (sim_iadd dL_law_1342) <|
  fG mo_lda (sim_iald dL_law_1343) <|
  fG mo_ald (sim_ald_n dL_law_1344 rfl) <|
  fG mo_ild (sim_ild_n dL_law_1345 rfl) <|
  fG mo_int (sim_iconst dL_law_1346 (by decide)) <|
  fG mo_iadd (sim_iadd dL_law_1347) <|
  fG mo_lda (sim_iald dL_law_1348) <|
  fG mo_ald (sim_ald_n dL_law_1349 rfl) <|
  fG mo_ild (sim_ild_n dL_law_1350 rfl) <|
  fG mo_int (sim_iconst dL_law_1351 (by decide)) <|
  fG mo_iadd (sim_iadd dL_law_1352) <|
  fG mo_lda (sim_iald dL_law_1353) <|
  fG mo_ald (sim_ald_n dL_law_1354 rfl) <|
  fG mo_ild (sim_ild_n dL_law_1355 rfl) <|
  fG mo_int (sim_iconst dL_law_1356 (by decide)) <|
  fG mo_iadd (sim_iadd dL_law_1357) <|
  fG mo_lda (sim_iald dL_law_1358) <|
  fC (ic_cv (Or.inl rfl)) (sim_cv hG dL_law_1359 (hG.2.1 3 _ hc_3).2.1 M_X3_runs (by rw [nm_X3_runs]; rfl) (by rw [nm_X3_runs]; exact q1882) (by rw [nm_X3_runs]; exact q1883) (by rw [nm_X3_runs]; exact q1884)) <|
  fG mo_icmpeq (sim_icmpeq dL_law_1362 rfl) <|
  fG mo_int (sim_iconst dL_law_1365 (by decide)) <|
  fE ie_iret (sim_iret dL_law_1366 rfl (Or.inr (Or.inl ⟨rfl, rfl⟩)))
theorem fL_law_1367 {X : tp_X} {az : Array Value} (hG : tp_Good X az) (hSt : tp_Stat X) : tp_Fit X x cL_law (some .boolean) 4 tp_nm tp_by tp_ml tp_rtt 1367 [o_ald (.aload_n 1) 1, o_cv (.invokevirtual 172) 1 kX1_image 0 0, o_ald (.aload_n 2) 2, o_cv (.invokevirtual 175) 3 kX3_image 0 0, o_icmpeq 41 1416, o_int (.iconst 0) 0, o_iret 1] :=
  fG mo_ald (sim_ald_n dL_law_1367 rfl) <|
  fC (ic_cv (Or.inl rfl)) (sim_cv hG dL_law_1368 (hG.2.1 1 _ hc_1).2.1 M_X1_image (by rw [nm_X1_image]; rfl) (by rw [nm_X1_image]; exact q1227) (by rw [nm_X1_image]; exact q1228) (by rw [nm_X1_image]; exact q1229)) <|
  fG mo_ald (sim_ald_n dL_law_1371 rfl) <|
  fC (ic_cv (Or.inl rfl)) (sim_cv hG dL_law_1372 (hG.2.1 3 _ hc_3).2.1 M_X3_image (by rw [nm_X3_image]; rfl) (by rw [nm_X3_image]; exact q1886) (by rw [nm_X3_image]; exact q1887) (by rw [nm_X3_image]; exact q1888)) <|
  fG mo_icmpeq (sim_icmpeq dL_law_1375 rfl) <|
  fG mo_int (sim_iconst dL_law_1378 (by decide)) <|
  fE ie_iret (sim_iret dL_law_1379 rfl (Or.inr (Or.inl ⟨rfl, rfl⟩)))
theorem fL_law_1380 {X : tp_X} {az : Array Value} (hG : tp_Good X az) (hSt : tp_Stat X) : tp_Fit X x cL_law (some .boolean) 4 tp_nm tp_by tp_ml tp_rtt 1380 [o_ald (.aload_n 1) 1, o_cv (.invokevirtual 176) 1 kX1_back 0 0, o_ald (.aload_n 2) 2, o_cv (.invokevirtual 179) 3 kX3_back 0 0, o_icmpeq 28 1416, o_int (.iconst 0) 0, o_iret 1] :=
  fG mo_ald (sim_ald_n dL_law_1380 rfl) <|
  fC (ic_cv (Or.inl rfl)) (sim_cv hG dL_law_1381 (hG.2.1 1 _ hc_1).2.1 M_X1_back (by rw [nm_X1_back]; rfl) (by rw [nm_X1_back]; exact q1231) (by rw [nm_X1_back]; exact q1232) (by rw [nm_X1_back]; exact q1233)) <|
  fG mo_ald (sim_ald_n dL_law_1384 rfl) <|
  fC (ic_cv (Or.inl rfl)) (sim_cv hG dL_law_1385 (hG.2.1 3 _ hc_3).2.1 M_X3_back (by rw [nm_X3_back]; rfl) (by rw [nm_X3_back]; exact q1890) (by rw [nm_X3_back]; exact q1891) (by rw [nm_X3_back]; exact q1892)) <|
  fG mo_icmpeq (sim_icmpeq dL_law_1388 rfl) <|
  fG mo_int (sim_iconst dL_law_1391 (by decide)) <|
  fE ie_iret (sim_iret dL_law_1392 rfl (Or.inr (Or.inl ⟨rfl, rfl⟩)))
theorem fL_law_1393 {X : tp_X} {az : Array Value} (hG : tp_Good X az) (hSt : tp_Stat X) : tp_Fit X x cL_law (some .boolean) 4 tp_nm tp_by tp_ml tp_rtt 1393 [o_ald (.aload_n 1) 1, o_ald (.aload_n 0) 0, o_ild (.iload_n 3) 3, o_int (.iconst 1) 1, o_iadd, o_lda .iaload [0, 20], o_cv (.invokevirtual 180) 1 kX1_about 1 0, o_ald (.aload_n 2) 2, o_ald (.aload_n 0) 0, o_ild (.iload_n 3) 3, o_int (.iconst 1) 1, o_iadd, o_lda .iaload [0, 20], o_cv (.invokevirtual 183) 3 kX3_about 1 0, o_icmpeq 5 1416, o_int (.iconst 0) 0, o_iret 1] :=
  fG mo_ald (sim_ald_n dL_law_1393 rfl) <|
  fG mo_ald (sim_ald_n dL_law_1394 rfl) <|
  fG mo_ild (sim_ild_n dL_law_1395 rfl) <|
  fG mo_int (sim_iconst dL_law_1396 (by decide)) <|
  fG mo_iadd (sim_iadd dL_law_1397) <|
  fG mo_lda (sim_iald dL_law_1398) <|
  fC (ic_cv (Or.inl rfl)) (sim_cv hG dL_law_1399 (hG.2.1 1 _ hc_1).2.1 M_X1_about (by rw [nm_X1_about]; rfl) (by rw [nm_X1_about]; exact q1235) (by rw [nm_X1_about]; exact q1236) (by rw [nm_X1_about]; exact q1237)) <|
  fG mo_ald (sim_ald_n dL_law_1402 rfl) <|
  fG mo_ald (sim_ald_n dL_law_1403 rfl) <|
  fG mo_ild (sim_ild_n dL_law_1404 rfl) <|
  fG mo_int (sim_iconst dL_law_1405 (by decide)) <|
  fG mo_iadd (sim_iadd dL_law_1406) <|
  fG mo_lda (sim_iald dL_law_1407) <|
  fC (ic_cv (Or.inl rfl)) (sim_cv hG dL_law_1408 (hG.2.1 3 _ hc_3).2.1 M_X3_about (by rw [nm_X3_about]; rfl) (by rw [nm_X3_about]; exact q1894) (by rw [nm_X3_about]; exact q1895) (by rw [nm_X3_about]; exact q1896)) <|
  fG mo_icmpeq (sim_icmpeq dL_law_1411 rfl) <|
  fG mo_int (sim_iconst dL_law_1414 (by decide)) <|
  fE ie_iret (sim_iret dL_law_1415 rfl (Or.inr (Or.inl ⟨rfl, rfl⟩)))
theorem fL_law_1416 {X : tp_X} {az : Array Value} (hG : tp_Good X az) (hSt : tp_Stat X) : tp_Fit X x cL_law (some .boolean) 4 tp_nm tp_by tp_ml tp_rtt 1416 [o_inc 3 6, o_goto (-1381) 38] :=
  fG mo_inc (sim_inc dL_law_1416 (by decide)) <|
  fG mo_goto (sim_goto dL_law_1419 rfl) <|
  trivial
theorem fL_law_1422 {X : tp_X} {az : Array Value} (hG : tp_Good X az) (hSt : tp_Stat X) : tp_Fit X x cL_law (some .boolean) 4 tp_nm tp_by tp_ml tp_rtt 1422 [o_int (.iconst 1) 1, o_iret 1] :=
  fG mo_int (sim_iconst dL_law_1422 (by decide)) <|
  fE ie_iret (sim_iret dL_law_1423 rfl (Or.inr (Or.inl ⟨rfl, rfl⟩)))
theorem F_L_law {X : tp_X} {az : Array Value} (hG : tp_Good X az) (hSt : tp_Stat X) (pc : Nat) : tp_Fit X x cL_law (some .boolean) 4 tp_nm tp_by tp_ml tp_rtt pc (mL_law pc) :=
  fI (fL_law_0 hG hSt) <| fI (fL_law_38 hG hSt) <| fI (fL_law_220 hG hSt) <| fI (fL_law_253 hG hSt) <| fI (fL_law_276 hG hSt) <| fI (fL_law_294 hG hSt) <| fI (fL_law_295 hG hSt) <| fI (fL_law_307 hG hSt) <| fI (fL_law_308 hG hSt) <| fI (fL_law_329 hG hSt) <| fI (fL_law_330 hG hSt) <| fI (fL_law_342 hG hSt) <| fI (fL_law_343 hG hSt) <| fI (fL_law_351 hG hSt) <| fI (fL_law_374 hG hSt) <| fI (fL_law_417 hG hSt) <| fI (fL_law_480 hG hSt) <| fI (fL_law_523 hG hSt) <| fI (fL_law_566 hG hSt) <| fI (fL_law_589 hG hSt) <| fI (fL_law_652 hG hSt) <| fI (fL_law_675 hG hSt) <| fI (fL_law_688 hG hSt) <| fI (fL_law_711 hG hSt) <| fI (fL_law_734 hG hSt) <| fI (fL_law_767 hG hSt) <| fI (fL_law_810 hG hSt) <| fI (fL_law_843 hG hSt) <| fI (fL_law_876 hG hSt) <| fI (fL_law_909 hG hSt) <| fI (fL_law_932 hG hSt) <| fI (fL_law_945 hG hSt) <| fI (fL_law_978 hG hSt) <| fI (fL_law_1001 hG hSt) <| fI (fL_law_1024 hG hSt) <| fI (fL_law_1037 hG hSt) <| fI (fL_law_1060 hG hSt) <| fI (fL_law_1073 hG hSt) <| fI (fL_law_1096 hG hSt) <| fI (fL_law_1129 hG hSt) <| fI (fL_law_1152 hG hSt) <| fI (fL_law_1185 hG hSt) <| fI (fL_law_1218 hG hSt) <| fI (fL_law_1251 hG hSt) <| fI (fL_law_1304 hG hSt) <| fI (fL_law_1367 hG hSt) <| fI (fL_law_1380 hG hSt) <| fI (fL_law_1393 hG hSt) <| fI (fL_law_1416 hG hSt) <| fI (fL_law_1422 hG hSt) <| trivial
