/-! FITS 7 -/
set_option maxRecDepth 100000
theorem fX3_fault_0 {X : tp_X} {az : Array Value} (hG : tp_Good X az) (hSt : tp_Stat X) : tp_Fit X yX3_fault cX3_fault (some .int) 2 tp_nm tp_by tp_ml tp_rtt 0 [o_ild (.iload_n 1) 1, o_ifne 10 11, o_ald (.aload_n 0) 0, o_getf (.getfield 22) 3 8, o_goto 16 24] :=
  fG mo_ild (sim_ild_n dX3_fault_0 rfl) <|
  fG mo_ifne (sim_ifne dX3_fault_1 rfl) <|
  fG mo_ald (sim_ald_n dX3_fault_4 rfl) <|
  fG mo_getf (sim_getfG hG dX3_fault_5 hc_3 (by decide) rfl in_X3 (fun _ _ _ h => h) (Or.inl q1260)) <|
  fG mo_goto (sim_goto dX3_fault_8 rfl) <|
  trivial
theorem fX3_fault_11 {X : tp_X} {az : Array Value} (hG : tp_Good X az) (hSt : tp_Stat X) : tp_Fit X yX3_fault cX3_fault (some .int) 2 tp_nm tp_by tp_ml tp_rtt 11 [o_ild (.iload_n 1) 1, o_int (.iconst 1) 1, o_icmpne 10 23, o_ald (.aload_n 0) 0, o_getf (.getfield 26) 3 9, o_goto 4 24] :=
  fG mo_ild (sim_ild_n dX3_fault_11 rfl) <|
  fG mo_int (sim_iconst dX3_fault_12 (by decide)) <|
  fG mo_icmpne (sim_icmpne dX3_fault_13 rfl) <|
  fG mo_ald (sim_ald_n dX3_fault_16 rfl) <|
  fG mo_getf (sim_getfG hG dX3_fault_17 hc_3 (by decide) rfl in_X3 (fun _ _ _ h => h) (Or.inl q1261)) <|
  fG mo_goto (sim_goto dX3_fault_20 rfl) <|
  trivial
theorem fX3_fault_23 {X : tp_X} {az : Array Value} (hG : tp_Good X az) (hSt : tp_Stat X) : tp_Fit X yX3_fault cX3_fault (some .int) 2 tp_nm tp_by tp_ml tp_rtt 23 [o_int (.iconst (-1)) (-1), o_fall 24] :=
  fG mo_int (sim_iconst dX3_fault_23 (by decide)) <|
  fF
theorem fX3_fault_24 {X : tp_X} {az : Array Value} (hG : tp_Good X az) (hSt : tp_Stat X) : tp_Fit X yX3_fault cX3_fault (some .int) 2 tp_nm tp_by tp_ml tp_rtt 24 [o_iret 0] :=
  fE ie_iret (sim_iret dX3_fault_24 rfl (Or.inl ⟨rfl, rfl⟩))
theorem F_X3_fault {X : tp_X} {az : Array Value} (hG : tp_Good X az) (hSt : tp_Stat X) (pc : Nat) : tp_Fit X yX3_fault cX3_fault (some .int) 2 tp_nm tp_by tp_ml tp_rtt pc (mX3_fault pc) :=
  fI (fX3_fault_0 hG hSt) <| fI (fX3_fault_11 hG hSt) <| fI (fX3_fault_23 hG hSt) <| fI (fX3_fault_24 hG hSt) <| trivial
theorem fX3_by_0 {X : tp_X} {az : Array Value} (hG : tp_Good X az) (hSt : tp_Stat X) : tp_Fit X yX3_by cX3_by (some .boolean) 2 tp_nm tp_by tp_ml tp_rtt 0 [o_ild (.iload_n 1) 1, o_int (.iconst (-1)) (-1), o_ald (.aload_n 0) 0, o_getf (.getfield 7) 3 3, o_int (.iconst 2) 2, o_lda .iaload [0, 20], o_int (.iconst 1) 1, o_isub, o_cs (.invokestatic 90) kX3_isIn 3 0, o_ifne 5 18, o_int (.iconst 0) 0, o_iret 1] :=
  fG mo_ild (sim_ild_n dX3_by_0 rfl) <|
  fG mo_int (sim_iconst dX3_by_1 (by decide)) <|
  fG mo_ald (sim_ald_n dX3_by_2 rfl) <|
  fG mo_getf (sim_getfG hG dX3_by_3 hc_3 (by decide) rfl in_X3 (fun _ _ _ h => h) (Or.inl q1255)) <|
  fG mo_int (sim_iconst dX3_by_6 (by decide)) <|
  fG mo_lda (sim_iald dX3_by_7) <|
  fG mo_int (sim_iconst dX3_by_8 (by decide)) <|
  fG mo_isub (sim_isub dX3_by_9) <|
  fC (ic_cs (Or.inl rfl)) (sim_cs hG dX3_by_10 M_X3_isIn (by rw [nm_X3_isIn]; rfl) (by rw [nm_X3_isIn]; exact q1400) (by rw [nm_X3_isIn]; exact q1401)) <|
  fG mo_ifne (sim_ifne dX3_by_13 rfl) <|
  fG mo_int (sim_iconst dX3_by_16 (by decide)) <|
  fE ie_iret (sim_iret dX3_by_17 rfl (Or.inr (Or.inl ⟨rfl, rfl⟩)))
theorem fX3_by_18 {X : tp_X} {az : Array Value} (hG : tp_Good X az) (hSt : tp_Stat X) : tp_Fit X yX3_by cX3_by (some .boolean) 2 tp_nm tp_by tp_ml tp_rtt 18 [o_ald (.aload_n 0) 0, o_getf (.getfield 7) 3 3, o_int (.iconst 3) 3, o_ild (.iload_n 1) 1, o_sta .iastore [0], o_int (.iconst 1) 1, o_iret 1] :=
  fG mo_ald (sim_ald_n dX3_by_18 rfl) <|
  fG mo_getf (sim_getfG hG dX3_by_19 hc_3 (by decide) rfl in_X3 (fun _ _ _ h => h) (Or.inl q1255)) <|
  fG mo_int (sim_iconst dX3_by_22 (by decide)) <|
  fG mo_ild (sim_ild_n dX3_by_23 rfl) <|
  fG mo_sta (sim_iast dX3_by_24) <|
  fG mo_int (sim_iconst dX3_by_25 (by decide)) <|
  fE ie_iret (sim_iret dX3_by_26 rfl (Or.inr (Or.inl ⟨rfl, rfl⟩)))
theorem F_X3_by {X : tp_X} {az : Array Value} (hG : tp_Good X az) (hSt : tp_Stat X) (pc : Nat) : tp_Fit X yX3_by cX3_by (some .boolean) 2 tp_nm tp_by tp_ml tp_rtt pc (mX3_by pc) :=
  fI (fX3_by_0 hG hSt) <| fI (fX3_by_18 hG hSt) <| trivial
theorem fX3_can_0 {X : tp_X} {az : Array Value} (hG : tp_Good X az) (hSt : tp_Stat X) : tp_Fit X yX3_can cX3_can (some .boolean) 3 tp_nm tp_by tp_ml tp_rtt 0 [o_ild (.iload_n 1) 1, o_cs (.invokestatic 105) kX3_isShip 1 0, o_ifeq 18 22, o_ild (.iload_n 2) 2, o_cs (.invokestatic 310) kX3_isOrder 1 0, o_ifeq 11 22, o_ald (.aload_n 0) 0, o_ild (.iload_n 1) 1, o_cv (.invokevirtual 313) 3 kX3_isFree 1 0, o_ifne 5 24, o_fall 22] :=
  fG mo_ild (sim_ild_n dX3_can_0 rfl) <|
  fC (ic_cs (Or.inl rfl)) (sim_cs hG dX3_can_1 M_X3_isShip (by rw [nm_X3_isShip]; rfl) (by rw [nm_X3_isShip]; exact q1430) (by rw [nm_X3_isShip]; exact q1431)) <|
  fG mo_ifeq (sim_ifeq dX3_can_4 rfl) <|
  fG mo_ild (sim_ild_n dX3_can_7 rfl) <|
  fC (ic_cs (Or.inl rfl)) (sim_cs hG dX3_can_8 M_X3_isOrder (by rw [nm_X3_isOrder]; rfl) (by rw [nm_X3_isOrder]; exact q1579) (by rw [nm_X3_isOrder]; exact q1580)) <|
  fG mo_ifeq (sim_ifeq dX3_can_11 rfl) <|
  fG mo_ald (sim_ald_n dX3_can_14 rfl) <|
  fG mo_ild (sim_ild_n dX3_can_15 rfl) <|
  fC (ic_cv (Or.inl rfl)) (sim_cv hG dX3_can_16 (hG.2.1 3 _ hc_3).2.1 M_X3_isFree (by rw [nm_X3_isFree]; rfl) (by rw [nm_X3_isFree]; exact q1582) (by rw [nm_X3_isFree]; exact q1584) (by rw [nm_X3_isFree]; exact qs73)) <|
  fG mo_ifne (sim_ifne dX3_can_19 rfl) <|
  fF
theorem fX3_can_22 {X : tp_X} {az : Array Value} (hG : tp_Good X az) (hSt : tp_Stat X) : tp_Fit X yX3_can cX3_can (some .boolean) 3 tp_nm tp_by tp_ml tp_rtt 22 [o_int (.iconst 0) 0, o_iret 1] :=
  fG mo_int (sim_iconst dX3_can_22 (by decide)) <|
  fE ie_iret (sim_iret dX3_can_23 rfl (Or.inr (Or.inl ⟨rfl, rfl⟩)))
theorem fX3_can_24 {X : tp_X} {az : Array Value} (hG : tp_Good X az) (hSt : tp_Stat X) : tp_Fit X yX3_can cX3_can (some .boolean) 3 tp_nm tp_by tp_ml tp_rtt 24 [o_ald (.aload_n 0) 0, o_int (.sipush 504) 504, o_cv (.invokevirtual 316) 3 kX3_layNow 1 0, o_ald (.aload_n 0) 0, o_ild (.iload_n 1) 1, o_int (.sipush 504) 504, o_ild (.iload_n 2) 2, o_cv (.invokevirtual 319) 3 kX3_costOf 3 0, o_iflt 7 47, o_int (.iconst 1) 1, o_goto 4 48] :=
  fG mo_ald (sim_ald_n dX3_can_24 rfl) <|
  fG mo_int (sim_sipush dX3_can_25 (by decide)) <|
  fC (ic_cv (Or.inl rfl)) (sim_cv hG dX3_can_28 (hG.2.1 3 _ hc_3).2.1 M_X3_layNow (by rw [nm_X3_layNow]; rfl) (by rw [nm_X3_layNow]; exact q1586) (by rw [nm_X3_layNow]; exact q1588) (by rw [nm_X3_layNow]; exact qs74)) <|
  fG mo_ald (sim_ald_n dX3_can_31 rfl) <|
  fG mo_ild (sim_ild_n dX3_can_32 rfl) <|
  fG mo_int (sim_sipush dX3_can_33 (by decide)) <|
  fG mo_ild (sim_ild_n dX3_can_36 rfl) <|
  fC (ic_cv (Or.inl rfl)) (sim_cv hG dX3_can_37 (hG.2.1 3 _ hc_3).2.1 M_X3_costOf (by rw [nm_X3_costOf]; rfl) (by rw [nm_X3_costOf]; exact q1590) (by rw [nm_X3_costOf]; exact q1592) (by rw [nm_X3_costOf]; exact qs75)) <|
  fG mo_iflt (sim_iflt dX3_can_40 rfl) <|
  fG mo_int (sim_iconst dX3_can_43 (by decide)) <|
  fG mo_goto (sim_goto dX3_can_44 rfl) <|
  trivial
theorem fX3_can_47 {X : tp_X} {az : Array Value} (hG : tp_Good X az) (hSt : tp_Stat X) : tp_Fit X yX3_can cX3_can (some .boolean) 3 tp_nm tp_by tp_ml tp_rtt 47 [o_int (.iconst 0) 0, o_fall 48] :=
  fG mo_int (sim_iconst dX3_can_47 (by decide)) <|
  fF
theorem fX3_can_48 {X : tp_X} {az : Array Value} (hG : tp_Good X az) (hSt : tp_Stat X) : tp_Fit X yX3_can cX3_can (some .boolean) 3 tp_nm tp_by tp_ml tp_rtt 48 [o_iret 1] :=
  fE ie_iret (sim_iret dX3_can_48 rfl (Or.inr (Or.inl ⟨rfl, rfl⟩)))
theorem F_X3_can {X : tp_X} {az : Array Value} (hG : tp_Good X az) (hSt : tp_Stat X) (pc : Nat) : tp_Fit X yX3_can cX3_can (some .boolean) 3 tp_nm tp_by tp_ml tp_rtt pc (mX3_can pc) :=
  fI (fX3_can_0 hG hSt) <| fI (fX3_can_22 hG hSt) <| fI (fX3_can_24 hG hSt) <| fI (fX3_can_47 hG hSt) <| fI (fX3_can_48 hG hSt) <| trivial
theorem fX3_isOrder_0 {X : tp_X} {az : Array Value} (hG : tp_Good X az) (hSt : tp_Stat X) : tp_Fit X yX3_isOrder cX3_isOrder (some .boolean) 1 tp_nm tp_by tp_ml tp_rtt 0 [o_ild (.iload_n 0) 0, o_int (.iconst 0) 0, o_int (.bipush 7) 7, o_cs (.invokestatic 90) kX3_isIn 3 0, o_iret 1] :=
  fG mo_ild (sim_ild_n dX3_isOrder_0 rfl) <|
  fG mo_int (sim_iconst dX3_isOrder_1 (by decide)) <|
  fG mo_int (sim_bipush dX3_isOrder_2 (by decide)) <|
  fC (ic_cs (Or.inl rfl)) (sim_cs hG dX3_isOrder_4 M_X3_isIn (by rw [nm_X3_isIn]; rfl) (by rw [nm_X3_isIn]; exact q1400) (by rw [nm_X3_isIn]; exact q1401)) <|
  fE ie_iret (sim_iret dX3_isOrder_7 rfl (Or.inr (Or.inl ⟨rfl, rfl⟩)))
theorem F_X3_isOrder {X : tp_X} {az : Array Value} (hG : tp_Good X az) (hSt : tp_Stat X) (pc : Nat) : tp_Fit X yX3_isOrder cX3_isOrder (some .boolean) 1 tp_nm tp_by tp_ml tp_rtt pc (mX3_isOrder pc) :=
  fI (fX3_isOrder_0 hG hSt) <| trivial
theorem fX3_isFree_0 {X : tp_X} {az : Array Value} (hG : tp_Good X az) (hSt : tp_Stat X) : tp_Fit X yX3_isFree cX3_isFree (some .boolean) 2 tp_nm tp_by tp_ml tp_rtt 0 [o_ald (.aload_n 0) 0, o_getf (.getfield 7) 3 3, o_ild (.iload_n 1) 1, o_int (.iconst 4) 4, o_cs (.invokestatic 108) kX3_ofShip 2 0, o_lda .iaload [0, 20], o_int (.iconst 1) 1, o_icmpne 20 31, o_ald (.aload_n 0) 0, o_getf (.getfield 7) 3 3, o_ild (.iload_n 1) 1, o_int (.iconst 3) 3, o_cs (.invokestatic 108) kX3_ofShip 2 0, o_lda .iaload [0, 20], o_ifne 7 31, o_int (.iconst 1) 1, o_goto 4 32] :=
  fG mo_ald (sim_ald_n dX3_isFree_0 rfl) <|
  fG mo_getf (sim_getfG hG dX3_isFree_1 hc_3 (by decide) rfl in_X3 (fun _ _ _ h => h) (Or.inl q1255)) <|
  fG mo_ild (sim_ild_n dX3_isFree_4 rfl) <|
  fG mo_int (sim_iconst dX3_isFree_5 (by decide)) <|
  fC (ic_cs (Or.inl rfl)) (sim_cs hG dX3_isFree_6 M_X3_ofShip (by rw [nm_X3_ofShip]; rfl) (by rw [nm_X3_ofShip]; exact q1433) (by rw [nm_X3_ofShip]; exact q1434)) <|
  fG mo_lda (sim_iald dX3_isFree_9) <|
  fG mo_int (sim_iconst dX3_isFree_10 (by decide)) <|
  fG mo_icmpne (sim_icmpne dX3_isFree_11 rfl) <|
  fG mo_ald (sim_ald_n dX3_isFree_14 rfl) <|
  fG mo_getf (sim_getfG hG dX3_isFree_15 hc_3 (by decide) rfl in_X3 (fun _ _ _ h => h) (Or.inl q1255)) <|
  fG mo_ild (sim_ild_n dX3_isFree_18 rfl) <|
  fG mo_int (sim_iconst dX3_isFree_19 (by decide)) <|
  fC (ic_cs (Or.inl rfl)) (sim_cs hG dX3_isFree_20 M_X3_ofShip (by rw [nm_X3_ofShip]; rfl) (by rw [nm_X3_ofShip]; exact q1433) (by rw [nm_X3_ofShip]; exact q1434)) <|
  fG mo_lda (sim_iald dX3_isFree_23) <|
  fG mo_ifne (sim_ifne dX3_isFree_24 rfl) <|
  fG mo_int (sim_iconst dX3_isFree_27 (by decide)) <|
  fG mo_goto (sim_goto dX3_isFree_28 rfl) <|
  trivial
theorem fX3_isFree_31 {X : tp_X} {az : Array Value} (hG : tp_Good X az) (hSt : tp_Stat X) : tp_Fit X yX3_isFree cX3_isFree (some .boolean) 2 tp_nm tp_by tp_ml tp_rtt 31 [o_int (.iconst 0) 0, o_fall 32] :=
  fG mo_int (sim_iconst dX3_isFree_31 (by decide)) <|
  fF
theorem fX3_isFree_32 {X : tp_X} {az : Array Value} (hG : tp_Good X az) (hSt : tp_Stat X) : tp_Fit X yX3_isFree cX3_isFree (some .boolean) 2 tp_nm tp_by tp_ml tp_rtt 32 [o_iret 1] :=
  fE ie_iret (sim_iret dX3_isFree_32 rfl (Or.inr (Or.inl ⟨rfl, rfl⟩)))
theorem F_X3_isFree {X : tp_X} {az : Array Value} (hG : tp_Good X az) (hSt : tp_Stat X) (pc : Nat) : tp_Fit X yX3_isFree cX3_isFree (some .boolean) 2 tp_nm tp_by tp_ml tp_rtt pc (mX3_isFree pc) :=
  fI (fX3_isFree_0 hG hSt) <| fI (fX3_isFree_31 hG hSt) <| fI (fX3_isFree_32 hG hSt) <| trivial
theorem fX3_layNow_0 {X : tp_X} {az : Array Value} (hG : tp_Good X az) (hSt : tp_Stat X) : tp_Fit X yX3_layNow cX3_layNow none 3 tp_nm tp_by tp_ml tp_rtt 0 [o_int (.iconst 0) 0, o_ist (.istore_n 2) 2, o_fall 2] :=
  fG mo_int (sim_iconst dX3_layNow_0 (by decide)) <|
  fG mo_ist (sim_ist_n dX3_layNow_1 rfl) <|
  fF
theorem fX3_layNow_2 {X : tp_X} {az : Array Value} (hG : tp_Good X az) (hSt : tp_Stat X) : tp_Fit X yX3_layNow cX3_layNow none 3 tp_nm tp_by tp_ml tp_rtt 2 [o_ild (.iload_n 2) 2, o_ald (.aload_n 0) 0, o_getf (.getfield 83) 3 2, o_icmpge 26 33, o_ald (.aload_n 0) 0, o_getf (.getfield 43) 3 28, o_ild (.iload_n 1) 1, o_ild (.iload_n 2) 2, o_iadd, o_ald (.aload_n 0) 0, o_getf (.getfield 7) 3 3, o_int (.bipush 30) 30, o_ild (.iload_n 2) 2, o_iadd, o_lda .iaload [0, 20], o_sta .iastore [0], o_inc 2 1, o_goto (-28) 2] :=
  fG mo_ild (sim_ild_n dX3_layNow_2 rfl) <|
  fG mo_ald (sim_ald_n dX3_layNow_3 rfl) <|
  fG mo_getf (sim_getfG hG dX3_layNow_4 hc_3 (by decide) rfl in_X3 (fun _ _ _ h => h) (Or.inl q1254)) <|
  fG mo_icmpge (sim_icmpge dX3_layNow_7 rfl) <|
  fG mo_ald (sim_ald_n dX3_layNow_10 rfl) <|
  fG mo_getf (sim_getfG hG dX3_layNow_11 hc_3 (by decide) rfl in_X3 (fun _ _ _ h => h) (Or.inl q1278)) <|
  fG mo_ild (sim_ild_n dX3_layNow_14 rfl) <|
  fG mo_ild (sim_ild_n dX3_layNow_15 rfl) <|
  fG mo_iadd (sim_iadd dX3_layNow_16) <|
  fG mo_ald (sim_ald_n dX3_layNow_17 rfl) <|
  fG mo_getf (sim_getfG hG dX3_layNow_18 hc_3 (by decide) rfl in_X3 (fun _ _ _ h => h) (Or.inl q1255)) <|
  fG mo_int (sim_bipush dX3_layNow_21 (by decide)) <|
  fG mo_ild (sim_ild_n dX3_layNow_23 rfl) <|
  fG mo_iadd (sim_iadd dX3_layNow_24) <|
  fG mo_lda (sim_iald dX3_layNow_25) <|
  fG mo_sta (sim_iast dX3_layNow_26) <|
  fG mo_inc (sim_inc dX3_layNow_27 (by decide)) <|
  fG mo_goto (sim_goto dX3_layNow_30 rfl) <|
  trivial
theorem fX3_layNow_33 {X : tp_X} {az : Array Value} (hG : tp_Good X az) (hSt : tp_Stat X) : tp_Fit X yX3_layNow cX3_layNow none 3 tp_nm tp_by tp_ml tp_rtt 33 [o_vret] :=
  fE ie_vret (sim_vret dX3_layNow_33 rfl)
theorem F_X3_layNow {X : tp_X} {az : Array Value} (hG : tp_Good X az) (hSt : tp_Stat X) (pc : Nat) : tp_Fit X yX3_layNow cX3_layNow none 3 tp_nm tp_by tp_ml tp_rtt pc (mX3_layNow pc) :=
  fI (fX3_layNow_0 hG hSt) <| fI (fX3_layNow_2 hG hSt) <| fI (fX3_layNow_33 hG hSt) <| trivial
theorem fX3_costOf_0 {X : tp_X} {az : Array Value} (hG : tp_Good X az) (hSt : tp_Stat X) : tp_Fit X yX3_costOf cX3_costOf (some .int) 4 tp_nm tp_by tp_ml tp_rtt 0 [o_ald (.aload_n 0) 0, o_ild (.iload_n 2) 2, o_ald (.aload_n 0) 0, o_getf (.getfield 7) 3 3, o_ild (.iload_n 1) 1, o_int (.iconst 0) 0, o_cs (.invokestatic 108) kX3_ofShip 2 0, o_lda .iaload [0, 20], o_ald (.aload_n 0) 0, o_getf (.getfield 7) 3 3, o_ild (.iload_n 1) 1, o_int (.iconst 1) 1, o_cs (.invokestatic 108) kX3_ofShip 2 0, o_lda .iaload [0, 20], o_ald (.aload_n 0) 0, o_getf (.getfield 7) 3 3, o_ild (.iload_n 1) 1, o_int (.iconst 2) 2, o_cs (.invokestatic 108) kX3_ofShip 2 0, o_lda .iaload [0, 20], o_ild (.iload_n 3) 3, o_ald (.aload_n 0) 0, o_getf (.getfield 7) 3 3, o_int (.iconst 1) 1, o_lda .iaload [0, 20], o_ald (.aload_n 0) 0, o_getf (.getfield 7) 3 3, o_int (.iconst 0) 0, o_lda .iaload [0, 20], o_cv (.invokevirtual 306) 3 kX3_orderCost 7 0, o_iret 0] :=
  fG mo_ald (sim_ald_n dX3_costOf_0 rfl) <|
  fG mo_ild (sim_ild_n dX3_costOf_1 rfl) <|
  fG mo_ald (sim_ald_n dX3_costOf_2 rfl) <|
  fG mo_getf (sim_getfG hG dX3_costOf_3 hc_3 (by decide) rfl in_X3 (fun _ _ _ h => h) (Or.inl q1255)) <|
  fG mo_ild (sim_ild_n dX3_costOf_6 rfl) <|
  fG mo_int (sim_iconst dX3_costOf_7 (by decide)) <|
  fC (ic_cs (Or.inl rfl)) (sim_cs hG dX3_costOf_8 M_X3_ofShip (by rw [nm_X3_ofShip]; rfl) (by rw [nm_X3_ofShip]; exact q1433) (by rw [nm_X3_ofShip]; exact q1434)) <|
  fG mo_lda (sim_iald dX3_costOf_11) <|
  fG mo_ald (sim_ald_n dX3_costOf_12 rfl) <|
  fG mo_getf (sim_getfG hG dX3_costOf_13 hc_3 (by decide) rfl in_X3 (fun _ _ _ h => h) (Or.inl q1255)) <|
  fG mo_ild (sim_ild_n dX3_costOf_16 rfl) <|
  fG mo_int (sim_iconst dX3_costOf_17 (by decide)) <|
  fC (ic_cs (Or.inl rfl)) (sim_cs hG dX3_costOf_18 M_X3_ofShip (by rw [nm_X3_ofShip]; rfl) (by rw [nm_X3_ofShip]; exact q1433) (by rw [nm_X3_ofShip]; exact q1434)) <|
  fG mo_lda (sim_iald dX3_costOf_21) <|
  fG mo_ald (sim_ald_n dX3_costOf_22 rfl) <|
  fG mo_getf (sim_getfG hG dX3_costOf_23 hc_3 (by decide) rfl in_X3 (fun _ _ _ h => h) (Or.inl q1255)) <|
  fG mo_ild (sim_ild_n dX3_costOf_26 rfl) <|
  fG mo_int (sim_iconst dX3_costOf_27 (by decide)) <|
  fC (ic_cs (Or.inl rfl)) (sim_cs hG dX3_costOf_28 M_X3_ofShip (by rw [nm_X3_ofShip]; rfl) (by rw [nm_X3_ofShip]; exact q1433) (by rw [nm_X3_ofShip]; exact q1434)) <|
  fG mo_lda (sim_iald dX3_costOf_31) <|
  fG mo_ild (sim_ild_n dX3_costOf_32 rfl) <|
  fG mo_ald (sim_ald_n dX3_costOf_33 rfl) <|
  fG mo_getf (sim_getfG hG dX3_costOf_34 hc_3 (by decide) rfl in_X3 (fun _ _ _ h => h) (Or.inl q1255)) <|
  fG mo_int (sim_iconst dX3_costOf_37 (by decide)) <|
  fG mo_lda (sim_iald dX3_costOf_38) <|
  fG mo_ald (sim_ald_n dX3_costOf_39 rfl) <|
  fG mo_getf (sim_getfG hG dX3_costOf_40 hc_3 (by decide) rfl in_X3 (fun _ _ _ h => h) (Or.inl q1255)) <|
  fG mo_int (sim_iconst dX3_costOf_43 (by decide)) <|
  fG mo_lda (sim_iald dX3_costOf_44) <|
  fC (ic_cv (Or.inl rfl)) (sim_cv hG dX3_costOf_45 (hG.2.1 3 _ hc_3).2.1 M_X3_orderCost (by rw [nm_X3_orderCost]; rfl) (by rw [nm_X3_orderCost]; exact q1594) (by rw [nm_X3_orderCost]; exact q1596) (by rw [nm_X3_orderCost]; exact qs76)) <|
  fE ie_iret (sim_iret dX3_costOf_48 rfl (Or.inl ⟨rfl, rfl⟩))
theorem F_X3_costOf {X : tp_X} {az : Array Value} (hG : tp_Good X az) (hSt : tp_Stat X) (pc : Nat) : tp_Fit X yX3_costOf cX3_costOf (some .int) 4 tp_nm tp_by tp_ml tp_rtt pc (mX3_costOf pc) :=
  fI (fX3_costOf_0 hG hSt) <| trivial
theorem fX3_orderCost_0 {X : tp_X} {az : Array Value} (hG : tp_Good X az) (hSt : tp_Stat X) : tp_Fit X yX3_orderCost cX3_orderCost (some .int) 9 tp_nm tp_by tp_ml tp_rtt 0 [o_ild (.iload 5) 5, o_int (.bipush 6) 6, o_icmpne 5 9, o_int (.iconst 0) 0, o_iret 0] :=
  fG mo_ild (sim_ild dX3_orderCost_0) <|
  fG mo_int (sim_bipush dX3_orderCost_2 (by decide)) <|
  fG mo_icmpne (sim_icmpne dX3_orderCost_4 rfl) <|
  fG mo_int (sim_iconst dX3_orderCost_7 (by decide)) <|
  fE ie_iret (sim_iret dX3_orderCost_8 rfl (Or.inl ⟨rfl, rfl⟩))
theorem fX3_orderCost_9 {X : tp_X} {az : Array Value} (hG : tp_Good X az) (hSt : tp_Stat X) : tp_Fit X yX3_orderCost cX3_orderCost (some .int) 9 tp_nm tp_by tp_ml tp_rtt 9 [o_ild (.iload 5) 5, o_int (.bipush 7) 7, o_icmpne 32 45, o_ild (.iload 4) 4, o_int (.iconst 1) 1, o_icmpne 24 43, o_ild (.iload_n 3) 3, o_ald (.aload_n 0) 0, o_getf (.getfield 7) 3 3, o_int (.bipush 11) 11, o_lda .iaload [0, 20], o_icmplt 13 43, o_ald (.aload_n 0) 0, o_getf (.getfield 7) 3 3, o_int (.bipush 11) 11, o_lda .iaload [0, 20], o_goto 4 44] :=
  fG mo_ild (sim_ild dX3_orderCost_9) <|
  fG mo_int (sim_bipush dX3_orderCost_11 (by decide)) <|
  fG mo_icmpne (sim_icmpne dX3_orderCost_13 rfl) <|
  fG mo_ild (sim_ild dX3_orderCost_16) <|
  fG mo_int (sim_iconst dX3_orderCost_18 (by decide)) <|
  fG mo_icmpne (sim_icmpne dX3_orderCost_19 rfl) <|
  fG mo_ild (sim_ild_n dX3_orderCost_22 rfl) <|
  fG mo_ald (sim_ald_n dX3_orderCost_23 rfl) <|
  fG mo_getf (sim_getfG hG dX3_orderCost_24 hc_3 (by decide) rfl in_X3 (fun _ _ _ h => h) (Or.inl q1255)) <|
  fG mo_int (sim_bipush dX3_orderCost_27 (by decide)) <|
  fG mo_lda (sim_iald dX3_orderCost_29) <|
  fG mo_icmplt (sim_icmplt dX3_orderCost_30 rfl) <|
  fG mo_ald (sim_ald_n dX3_orderCost_33 rfl) <|
  fG mo_getf (sim_getfG hG dX3_orderCost_34 hc_3 (by decide) rfl in_X3 (fun _ _ _ h => h) (Or.inl q1255)) <|
  fG mo_int (sim_bipush dX3_orderCost_37 (by decide)) <|
  fG mo_lda (sim_iald dX3_orderCost_39) <|
  fG mo_goto (sim_goto dX3_orderCost_40 rfl) <|
  trivial
theorem fX3_orderCost_43 {X : tp_X} {az : Array Value} (hG : tp_Good X az) (hSt : tp_Stat X) : tp_Fit X yX3_orderCost cX3_orderCost (some .int) 9 tp_nm tp_by tp_ml tp_rtt 43 [o_int (.iconst (-1)) (-1), o_fall 44] :=
  fG mo_int (sim_iconst dX3_orderCost_43 (by decide)) <|
  fF
theorem fX3_orderCost_44 {X : tp_X} {az : Array Value} (hG : tp_Good X az) (hSt : tp_Stat X) : tp_Fit X yX3_orderCost cX3_orderCost (some .int) 9 tp_nm tp_by tp_ml tp_rtt 44 [o_iret 0] :=
  fE ie_iret (sim_iret dX3_orderCost_44 rfl (Or.inl ⟨rfl, rfl⟩))
theorem fX3_orderCost_45 {X : tp_X} {az : Array Value} (hG : tp_Good X az) (hSt : tp_Stat X) : tp_Fit X yX3_orderCost cX3_orderCost (some .int) 9 tp_nm tp_by tp_ml tp_rtt 45 [o_ild (.iload 4) 4, o_int (.iconst 1) 1, o_icmpne 5 53, o_int (.iconst (-1)) (-1), o_iret 0] :=
  fG mo_ild (sim_ild dX3_orderCost_45) <|
  fG mo_int (sim_iconst dX3_orderCost_47 (by decide)) <|
  fG mo_icmpne (sim_icmpne dX3_orderCost_48 rfl) <|
  fG mo_int (sim_iconst dX3_orderCost_51 (by decide)) <|
  fE ie_iret (sim_iret dX3_orderCost_52 rfl (Or.inl ⟨rfl, rfl⟩))
theorem fX3_orderCost_53 {X : tp_X} {az : Array Value} (hG : tp_Good X az) (hSt : tp_Stat X) : tp_Fit X yX3_orderCost cX3_orderCost (some .int) 9 tp_nm tp_by tp_ml tp_rtt 53 [o_ild (.iload 5) 5, o_int (.iconst 4) 4, o_icmpge 22 78, o_ald (.aload_n 0) 0, o_ild (.iload_n 1) 1, o_ald (.aload_n 0) 0, o_ild (.iload_n 2) 2, o_ild (.iload 5) 5, o_cv (.invokevirtual 271) 3 kX3_pushed 2 0, o_ild (.iload 6) 6, o_ild (.iload 7) 7, o_cv (.invokevirtual 302) 3 kX3_pushCost 4 0, o_goto 26 101] :=
  fG mo_ild (sim_ild dX3_orderCost_53) <|
  fG mo_int (sim_iconst dX3_orderCost_55 (by decide)) <|
  fG mo_icmpge (sim_icmpge dX3_orderCost_56 rfl) <|
  fG mo_ald (sim_ald_n dX3_orderCost_59 rfl) <|
  fG mo_ild (sim_ild_n dX3_orderCost_60 rfl) <|
  fG mo_ald (sim_ald_n dX3_orderCost_61 rfl) <|
  fG mo_ild (sim_ild_n dX3_orderCost_62 rfl) <|
  fG mo_ild (sim_ild dX3_orderCost_63) <|
  fC (ic_cv (Or.inl rfl)) (sim_cv hG dX3_orderCost_65 (hG.2.1 3 _ hc_3).2.1 M_X3_pushed (by rw [nm_X3_pushed]; rfl) (by rw [nm_X3_pushed]; exact q1598) (by rw [nm_X3_pushed]; exact q1600) (by rw [nm_X3_pushed]; exact qs77)) <|
  fG mo_ild (sim_ild dX3_orderCost_68) <|
  fG mo_ild (sim_ild dX3_orderCost_70) <|
  fC (ic_cv (Or.inl rfl)) (sim_cv hG dX3_orderCost_72 (hG.2.1 3 _ hc_3).2.1 M_X3_pushCost (by rw [nm_X3_pushCost]; rfl) (by rw [nm_X3_pushCost]; exact q1606) (by rw [nm_X3_pushCost]; exact q1608) (by rw [nm_X3_pushCost]; exact qs79)) <|
  fG mo_goto (sim_goto dX3_orderCost_75 rfl) <|
  trivial
theorem fX3_orderCost_78 {X : tp_X} {az : Array Value} (hG : tp_Good X az) (hSt : tp_Stat X) : tp_Fit X yX3_orderCost cX3_orderCost (some .int) 9 tp_nm tp_by tp_ml tp_rtt 78 [o_ild (.iload 5) 5, o_int (.iconst 4) 4, o_icmpne 13 94, o_ald (.aload_n 0) 0, o_getf (.getfield 7) 3 3, o_int (.bipush 9) 9, o_lda .iaload [0, 20], o_goto 10 101] :=
  fG mo_ild (sim_ild dX3_orderCost_78) <|
  fG mo_int (sim_iconst dX3_orderCost_80 (by decide)) <|
  fG mo_icmpne (sim_icmpne dX3_orderCost_81 rfl) <|
  fG mo_ald (sim_ald_n dX3_orderCost_84 rfl) <|
  fG mo_getf (sim_getfG hG dX3_orderCost_85 hc_3 (by decide) rfl in_X3 (fun _ _ _ h => h) (Or.inl q1255)) <|
  fG mo_int (sim_bipush dX3_orderCost_88 (by decide)) <|
  fG mo_lda (sim_iald dX3_orderCost_90) <|
  fG mo_goto (sim_goto dX3_orderCost_91 rfl) <|
  trivial
theorem fX3_orderCost_94 {X : tp_X} {az : Array Value} (hG : tp_Good X az) (hSt : tp_Stat X) : tp_Fit X yX3_orderCost cX3_orderCost (some .int) 9 tp_nm tp_by tp_ml tp_rtt 94 [o_ald (.aload_n 0) 0, o_getf (.getfield 7) 3 3, o_int (.bipush 10) 10, o_lda .iaload [0, 20], o_fall 101] :=
  fG mo_ald (sim_ald_n dX3_orderCost_94 rfl) <|
  fG mo_getf (sim_getfG hG dX3_orderCost_95 hc_3 (by decide) rfl in_X3 (fun _ _ _ h => h) (Or.inl q1255)) <|
  fG mo_int (sim_bipush dX3_orderCost_98 (by decide)) <|
  fG mo_lda (sim_iald dX3_orderCost_100) <|
  fF
theorem fX3_orderCost_101 {X : tp_X} {az : Array Value} (hG : tp_Good X az) (hSt : tp_Stat X) : tp_Fit X yX3_orderCost cX3_orderCost (some .int) 9 tp_nm tp_by tp_ml tp_rtt 101 [o_ist (.istore 8) 8, o_ild (.iload 8) 8, o_ild (.iload_n 3) 3, o_icmpgt 8 114, o_ild (.iload 8) 8, o_goto 4 115] :=
  fG mo_ist (sim_ist dX3_orderCost_101) <|
  fG mo_ild (sim_ild dX3_orderCost_103) <|
  fG mo_ild (sim_ild_n dX3_orderCost_105 rfl) <|
  fG mo_icmpgt (sim_icmpgt dX3_orderCost_106 rfl) <|
  fG mo_ild (sim_ild dX3_orderCost_109) <|
  fG mo_goto (sim_goto dX3_orderCost_111 rfl) <|
  trivial
theorem fX3_orderCost_114 {X : tp_X} {az : Array Value} (hG : tp_Good X az) (hSt : tp_Stat X) : tp_Fit X yX3_orderCost cX3_orderCost (some .int) 9 tp_nm tp_by tp_ml tp_rtt 114 [o_int (.iconst (-1)) (-1), o_fall 115] :=
  fG mo_int (sim_iconst dX3_orderCost_114 (by decide)) <|
  fF
theorem fX3_orderCost_115 {X : tp_X} {az : Array Value} (hG : tp_Good X az) (hSt : tp_Stat X) : tp_Fit X yX3_orderCost cX3_orderCost (some .int) 9 tp_nm tp_by tp_ml tp_rtt 115 [o_iret 0] :=
  fE ie_iret (sim_iret dX3_orderCost_115 rfl (Or.inl ⟨rfl, rfl⟩))
theorem F_X3_orderCost {X : tp_X} {az : Array Value} (hG : tp_Good X az) (hSt : tp_Stat X) (pc : Nat) : tp_Fit X yX3_orderCost cX3_orderCost (some .int) 9 tp_nm tp_by tp_ml tp_rtt pc (mX3_orderCost pc) :=
  fI (fX3_orderCost_0 hG hSt) <| fI (fX3_orderCost_9 hG hSt) <| fI (fX3_orderCost_43 hG hSt) <| fI (fX3_orderCost_44 hG hSt) <| fI (fX3_orderCost_45 hG hSt) <| fI (fX3_orderCost_53 hG hSt) <| fI (fX3_orderCost_78 hG hSt) <| fI (fX3_orderCost_94 hG hSt) <| fI (fX3_orderCost_101 hG hSt) <| fI (fX3_orderCost_114 hG hSt) <| fI (fX3_orderCost_115 hG hSt) <| trivial
theorem fX3_pushed_0 {X : tp_X} {az : Array Value} (hG : tp_Good X az) (hSt : tp_Stat X) : tp_Fit X yX3_pushed cX3_pushed (some .int) 3 tp_nm tp_by tp_ml tp_rtt 0 [o_ald (.aload_n 0) 0, o_ild (.iload_n 1) 1, o_ild (.iload_n 2) 2, o_int (.iconst 1) 1, o_icmpne 7 11, o_int (.iconst 1) 1, o_goto 13 21] :=
  fG mo_ald (sim_ald_n dX3_pushed_0 rfl) <|
  fG mo_ild (sim_ild_n dX3_pushed_1 rfl) <|
  fG mo_ild (sim_ild_n dX3_pushed_2 rfl) <|
  fG mo_int (sim_iconst dX3_pushed_3 (by decide)) <|
  fG mo_icmpne (sim_icmpne dX3_pushed_4 rfl) <|
  fG mo_int (sim_iconst dX3_pushed_7 (by decide)) <|
  fG mo_goto (sim_goto dX3_pushed_8 rfl) <|
  trivial
theorem fX3_pushed_11 {X : tp_X} {az : Array Value} (hG : tp_Good X az) (hSt : tp_Stat X) : tp_Fit X yX3_pushed cX3_pushed (some .int) 3 tp_nm tp_by tp_ml tp_rtt 11 [o_ild (.iload_n 2) 2, o_int (.iconst 3) 3, o_icmpne 7 20, o_int (.iconst (-1)) (-1), o_goto 4 21] :=
  fG mo_ild (sim_ild_n dX3_pushed_11 rfl) <|
  fG mo_int (sim_iconst dX3_pushed_12 (by decide)) <|
  fG mo_icmpne (sim_icmpne dX3_pushed_13 rfl) <|
  fG mo_int (sim_iconst dX3_pushed_16 (by decide)) <|
  fG mo_goto (sim_goto dX3_pushed_17 rfl) <|
  trivial
theorem fX3_pushed_20 {X : tp_X} {az : Array Value} (hG : tp_Good X az) (hSt : tp_Stat X) : tp_Fit X yX3_pushed cX3_pushed (some .int) 3 tp_nm tp_by tp_ml tp_rtt 20 [o_int (.iconst 0) 0, o_fall 21] :=
  fG mo_int (sim_iconst dX3_pushed_20 (by decide)) <|
  fF
theorem fX3_pushed_21 {X : tp_X} {az : Array Value} (hG : tp_Good X az) (hSt : tp_Stat X) : tp_Fit X yX3_pushed cX3_pushed (some .int) 3 tp_nm tp_by tp_ml tp_rtt 21 [o_ild (.iload_n 2) 2, o_int (.iconst 2) 2, o_icmpne 7 30, o_int (.iconst 1) 1, o_goto 12 39] :=
  fG mo_ild (sim_ild_n dX3_pushed_21 rfl) <|
  fG mo_int (sim_iconst dX3_pushed_22 (by decide)) <|
  fG mo_icmpne (sim_icmpne dX3_pushed_23 rfl) <|
  fG mo_int (sim_iconst dX3_pushed_26 (by decide)) <|
  fG mo_goto (sim_goto dX3_pushed_27 rfl) <|
  trivial
theorem fX3_pushed_30 {X : tp_X} {az : Array Value} (hG : tp_Good X az) (hSt : tp_Stat X) : tp_Fit X yX3_pushed cX3_pushed (some .int) 3 tp_nm tp_by tp_ml tp_rtt 30 [o_ild (.iload_n 2) 2, o_ifne 7 38, o_int (.iconst (-1)) (-1), o_goto 4 39] :=
  fG mo_ild (sim_ild_n dX3_pushed_30 rfl) <|
  fG mo_ifne (sim_ifne dX3_pushed_31 rfl) <|
  fG mo_int (sim_iconst dX3_pushed_34 (by decide)) <|
  fG mo_goto (sim_goto dX3_pushed_35 rfl) <|
  trivial
theorem fX3_pushed_38 {X : tp_X} {az : Array Value} (hG : tp_Good X az) (hSt : tp_Stat X) : tp_Fit X yX3_pushed cX3_pushed (some .int) 3 tp_nm tp_by tp_ml tp_rtt 38 [o_int (.iconst 0) 0, o_fall 39] :=
  fG mo_int (sim_iconst dX3_pushed_38 (by decide)) <|
  fF
theorem fX3_pushed_39 {X : tp_X} {az : Array Value} (hG : tp_Good X az) (hSt : tp_Stat X) : tp_Fit X yX3_pushed cX3_pushed (some .int) 3 tp_nm tp_by tp_ml tp_rtt 39 [o_cv (.invokevirtual 94) 3 kX3_besideBy 3 0, o_iret 0] :=
  fC (ic_cv (Or.inl rfl)) (sim_cv hG dX3_pushed_39 (hG.2.1 3 _ hc_3).2.1 M_X3_besideBy (by rw [nm_X3_besideBy]; rfl) (by rw [nm_X3_besideBy]; exact q1602) (by rw [nm_X3_besideBy]; exact q1604) (by rw [nm_X3_besideBy]; exact qs78)) <|
  fE ie_iret (sim_iret dX3_pushed_42 rfl (Or.inl ⟨rfl, rfl⟩))
theorem F_X3_pushed {X : tp_X} {az : Array Value} (hG : tp_Good X az) (hSt : tp_Stat X) (pc : Nat) : tp_Fit X yX3_pushed cX3_pushed (some .int) 3 tp_nm tp_by tp_ml tp_rtt pc (mX3_pushed pc) :=
  fI (fX3_pushed_0 hG hSt) <| fI (fX3_pushed_11 hG hSt) <| fI (fX3_pushed_20 hG hSt) <| fI (fX3_pushed_21 hG hSt) <| fI (fX3_pushed_30 hG hSt) <| fI (fX3_pushed_38 hG hSt) <| fI (fX3_pushed_39 hG hSt) <| trivial
theorem fX3_besideBy_0 {X : tp_X} {az : Array Value} (hG : tp_Good X az) (hSt : tp_Stat X) : tp_Fit X yX3_besideBy cX3_besideBy (some .int) 6 tp_nm tp_by tp_ml tp_rtt 0 [o_ild (.iload_n 1) 1, o_ald (.aload_n 0) 0, o_getf (.getfield 77) 3 0, o_irem, o_ild (.iload_n 2) 2, o_iadd, o_ist (.istore 4) 4, o_ild (.iload_n 1) 1, o_ald (.aload_n 0) 0, o_getf (.getfield 77) 3 0, o_idiv, o_ild (.iload_n 3) 3, o_iadd, o_ist (.istore 5) 5, o_ild (.iload 4) 4, o_int (.iconst 0) 0, o_ald (.aload_n 0) 0, o_getf (.getfield 77) 3 0, o_int (.iconst 1) 1, o_isub, o_cs (.invokestatic 90) kX3_isIn 3 0, o_ifeq 31 63, o_ild (.iload 5) 5, o_int (.iconst 0) 0, o_ald (.aload_n 0) 0, o_getf (.getfield 80) 3 1, o_int (.iconst 1) 1, o_isub, o_cs (.invokestatic 90) kX3_isIn 3 0, o_ifeq 16 63, o_ild (.iload 4) 4, o_ald (.aload_n 0) 0, o_getf (.getfield 77) 3 0, o_ild (.iload 5) 5, o_imul, o_iadd, o_goto 4 64] :=
  fG mo_ild (sim_ild_n dX3_besideBy_0 rfl) <|
  fG mo_ald (sim_ald_n dX3_besideBy_1 rfl) <|
  fG mo_getf (sim_getfG hG dX3_besideBy_2 hc_3 (by decide) rfl in_X3 (fun _ _ _ h => h) (Or.inl q1252)) <|
  fG mo_irem (sim_irem dX3_besideBy_5) <|
  fG mo_ild (sim_ild_n dX3_besideBy_6 rfl) <|
  fG mo_iadd (sim_iadd dX3_besideBy_7) <|
  fG mo_ist (sim_ist dX3_besideBy_8) <|
  fG mo_ild (sim_ild_n dX3_besideBy_10 rfl) <|
  fG mo_ald (sim_ald_n dX3_besideBy_11 rfl) <|
  fG mo_getf (sim_getfG hG dX3_besideBy_12 hc_3 (by decide) rfl in_X3 (fun _ _ _ h => h) (Or.inl q1252)) <|
  fG mo_idiv (sim_idiv dX3_besideBy_15) <|
  fG mo_ild (sim_ild_n dX3_besideBy_16 rfl) <|
  fG mo_iadd (sim_iadd dX3_besideBy_17) <|
  fG mo_ist (sim_ist dX3_besideBy_18) <|
  fG mo_ild (sim_ild dX3_besideBy_20) <|
  fG mo_int (sim_iconst dX3_besideBy_22 (by decide)) <|
  fG mo_ald (sim_ald_n dX3_besideBy_23 rfl) <|
  fG mo_getf (sim_getfG hG dX3_besideBy_24 hc_3 (by decide) rfl in_X3 (fun _ _ _ h => h) (Or.inl q1252)) <|
  fG mo_int (sim_iconst dX3_besideBy_27 (by decide)) <|
  fG mo_isub (sim_isub dX3_besideBy_28) <|
  fC (ic_cs (Or.inl rfl)) (sim_cs hG dX3_besideBy_29 M_X3_isIn (by rw [nm_X3_isIn]; rfl) (by rw [nm_X3_isIn]; exact q1400) (by rw [nm_X3_isIn]; exact q1401)) <|
  fG mo_ifeq (sim_ifeq dX3_besideBy_32 rfl) <|
  fG mo_ild (sim_ild dX3_besideBy_35) <|
  fG mo_int (sim_iconst dX3_besideBy_37 (by decide)) <|
  fG mo_ald (sim_ald_n dX3_besideBy_38 rfl) <|
  fG mo_getf (sim_getfG hG dX3_besideBy_39 hc_3 (by decide) rfl in_X3 (fun _ _ _ h => h) (Or.inl q1253)) <|
  fG mo_int (sim_iconst dX3_besideBy_42 (by decide)) <|
  fG mo_isub (sim_isub dX3_besideBy_43) <|
  fC (ic_cs (Or.inl rfl)) (sim_cs hG dX3_besideBy_44 M_X3_isIn (by rw [nm_X3_isIn]; rfl) (by rw [nm_X3_isIn]; exact q1400) (by rw [nm_X3_isIn]; exact q1401)) <|
  fG mo_ifeq (sim_ifeq dX3_besideBy_47 rfl) <|
  fG mo_ild (sim_ild dX3_besideBy_50) <|
  fG mo_ald (sim_ald_n dX3_besideBy_52 rfl) <|
  fG mo_getf (sim_getfG hG dX3_besideBy_53 hc_3 (by decide) rfl in_X3 (fun _ _ _ h => h) (Or.inl q1252)) <|
  fG mo_ild (sim_ild dX3_besideBy_56) <|
  fG mo_imul (sim_imul dX3_besideBy_58) <|
  fG mo_iadd (sim_iadd dX3_besideBy_59) <|
  fG mo_goto (sim_goto dX3_besideBy_60 rfl) <|
  trivial
theorem fX3_besideBy_63 {X : tp_X} {az : Array Value} (hG : tp_Good X az) (hSt : tp_Stat X) : tp_Fit X yX3_besideBy cX3_besideBy (some .int) 6 tp_nm tp_by tp_ml tp_rtt 63 [o_int (.iconst (-1)) (-1), o_fall 64] :=
  fG mo_int (sim_iconst dX3_besideBy_63 (by decide)) <|
  fF
theorem fX3_besideBy_64 {X : tp_X} {az : Array Value} (hG : tp_Good X az) (hSt : tp_Stat X) : tp_Fit X yX3_besideBy cX3_besideBy (some .int) 6 tp_nm tp_by tp_ml tp_rtt 64 [o_iret 0] :=
  fE ie_iret (sim_iret dX3_besideBy_64 rfl (Or.inl ⟨rfl, rfl⟩))
theorem F_X3_besideBy {X : tp_X} {az : Array Value} (hG : tp_Good X az) (hSt : tp_Stat X) (pc : Nat) : tp_Fit X yX3_besideBy cX3_besideBy (some .int) 6 tp_nm tp_by tp_ml tp_rtt pc (mX3_besideBy pc) :=
  fI (fX3_besideBy_0 hG hSt) <| fI (fX3_besideBy_63 hG hSt) <| fI (fX3_besideBy_64 hG hSt) <| trivial
theorem fX3_pushCost_0 {X : tp_X} {az : Array Value} (hG : tp_Good X az) (hSt : tp_Stat X) : tp_Fit X yX3_pushCost cX3_pushCost (some .int) 5 tp_nm tp_by tp_ml tp_rtt 0 [o_ild (.iload_n 2) 2, o_ifge 5 6, o_int (.iconst (-1)) (-1), o_iret 0] :=
  fG mo_ild (sim_ild_n dX3_pushCost_0 rfl) <|
  fG mo_ifge (sim_ifge dX3_pushCost_1 rfl) <|
  fG mo_int (sim_iconst dX3_pushCost_4 (by decide)) <|
  fE ie_iret (sim_iret dX3_pushCost_5 rfl (Or.inl ⟨rfl, rfl⟩))
theorem fX3_pushCost_6 {X : tp_X} {az : Array Value} (hG : tp_Good X az) (hSt : tp_Stat X) : tp_Fit X yX3_pushCost cX3_pushCost (some .int) 5 tp_nm tp_by tp_ml tp_rtt 6 [o_ald (.aload_n 0) 0, o_ild (.iload_n 1) 1, o_ild (.iload_n 2) 2, o_ild (.iload_n 3) 3, o_ild (.iload 4) 4, o_cv (.invokevirtual 288) 3 kX3_nameCell 4 0, o_ald (.aload_n 0) 0, o_int (.iconst 1) 1, o_ald (.aload_n 0) 0, o_getf (.getfield 43) 3 28, o_ild (.iload_n 1) 1, o_ild (.iload_n 2) 2, o_iadd, o_lda .iaload [0, 20], o_int (.bipush 30) 30, o_icmpgt 7 34, o_int (.iconst 1) 1, o_goto 4 35] :=
  fG mo_ald (sim_ald_n dX3_pushCost_6 rfl) <|
  fG mo_ild (sim_ild_n dX3_pushCost_7 rfl) <|
  fG mo_ild (sim_ild_n dX3_pushCost_8 rfl) <|
  fG mo_ild (sim_ild_n dX3_pushCost_9 rfl) <|
  fG mo_ild (sim_ild dX3_pushCost_10) <|
  fC (ic_cv (Or.inl rfl)) (sim_cv hG dX3_pushCost_12 (hG.2.1 3 _ hc_3).2.1 M_X3_nameCell (by rw [nm_X3_nameCell]; rfl) (by rw [nm_X3_nameCell]; exact q1610) (by rw [nm_X3_nameCell]; exact q1612) (by rw [nm_X3_nameCell]; exact qs80)) <|
  fG mo_ald (sim_ald_n dX3_pushCost_15 rfl) <|
  fG mo_int (sim_iconst dX3_pushCost_16 (by decide)) <|
  fG mo_ald (sim_ald_n dX3_pushCost_17 rfl) <|
  fG mo_getf (sim_getfG hG dX3_pushCost_18 hc_3 (by decide) rfl in_X3 (fun _ _ _ h => h) (Or.inl q1278)) <|
  fG mo_ild (sim_ild_n dX3_pushCost_21 rfl) <|
  fG mo_ild (sim_ild_n dX3_pushCost_22 rfl) <|
  fG mo_iadd (sim_iadd dX3_pushCost_23) <|
  fG mo_lda (sim_iald dX3_pushCost_24) <|
  fG mo_int (sim_bipush dX3_pushCost_25 (by decide)) <|
  fG mo_icmpgt (sim_icmpgt dX3_pushCost_27 rfl) <|
  fG mo_int (sim_iconst dX3_pushCost_30 (by decide)) <|
  fG mo_goto (sim_goto dX3_pushCost_31 rfl) <|
  trivial
theorem fX3_pushCost_34 {X : tp_X} {az : Array Value} (hG : tp_Good X az) (hSt : tp_Stat X) : tp_Fit X yX3_pushCost cX3_pushCost (some .int) 5 tp_nm tp_by tp_ml tp_rtt 34 [o_int (.iconst 0) 0, o_fall 35] :=
  fG mo_int (sim_iconst dX3_pushCost_34 (by decide)) <|
  fF
theorem fX3_pushCost_35 {X : tp_X} {az : Array Value} (hG : tp_Good X az) (hSt : tp_Stat X) : tp_Fit X yX3_pushCost cX3_pushCost (some .int) 5 tp_nm tp_by tp_ml tp_rtt 35 [o_cv (.invokevirtual 292) 3 kX3_isAny 2 0, o_ifeq 24 62, o_ald (.aload_n 0) 0, o_int (.iconst 5) 5, o_int (.iconst 1) 1, o_ald (.aload_n 0) 0, o_getf (.getfield 43) 3 28, o_ild (.iload_n 1) 1, o_ild (.iload_n 2) 2, o_iadd, o_lda .iaload [0, 20], o_int (.bipush 10) 10, o_idiv, o_iadd, o_cv (.invokevirtual 296) 3 kX3_sumOf 2 0, o_goto 4 63] :=
  fC (ic_cv (Or.inl rfl)) (sim_cv hG dX3_pushCost_35 (hG.2.1 3 _ hc_3).2.1 M_X3_isAny (by rw [nm_X3_isAny]; rfl) (by rw [nm_X3_isAny]; exact q1618) (by rw [nm_X3_isAny]; exact q1620) (by rw [nm_X3_isAny]; exact qs82)) <|
  fG mo_ifeq (sim_ifeq dX3_pushCost_38 rfl) <|
  fG mo_ald (sim_ald_n dX3_pushCost_41 rfl) <|
  fG mo_int (sim_iconst dX3_pushCost_42 (by decide)) <|
  fG mo_int (sim_iconst dX3_pushCost_43 (by decide)) <|
  fG mo_ald (sim_ald_n dX3_pushCost_44 rfl) <|
  fG mo_getf (sim_getfG hG dX3_pushCost_45 hc_3 (by decide) rfl in_X3 (fun _ _ _ h => h) (Or.inl q1278)) <|
  fG mo_ild (sim_ild_n dX3_pushCost_48 rfl) <|
  fG mo_ild (sim_ild_n dX3_pushCost_49 rfl) <|
  fG mo_iadd (sim_iadd dX3_pushCost_50) <|
  fG mo_lda (sim_iald dX3_pushCost_51) <|
  fG mo_int (sim_bipush dX3_pushCost_52 (by decide)) <|
  fG mo_idiv (sim_idiv dX3_pushCost_54) <|
  fG mo_iadd (sim_iadd dX3_pushCost_55) <|
  fC (ic_cv (Or.inl rfl)) (sim_cv hG dX3_pushCost_56 (hG.2.1 3 _ hc_3).2.1 M_X3_sumOf (by rw [nm_X3_sumOf]; rfl) (by rw [nm_X3_sumOf]; exact q1645) (by rw [nm_X3_sumOf]; exact q1647) (by rw [nm_X3_sumOf]; exact qs86)) <|
  fG mo_goto (sim_goto dX3_pushCost_59 rfl) <|
  trivial
theorem fX3_pushCost_62 {X : tp_X} {az : Array Value} (hG : tp_Good X az) (hSt : tp_Stat X) : tp_Fit X yX3_pushCost cX3_pushCost (some .int) 5 tp_nm tp_by tp_ml tp_rtt 62 [o_int (.iconst (-1)) (-1), o_fall 63] :=
  fG mo_int (sim_iconst dX3_pushCost_62 (by decide)) <|
  fF
theorem fX3_pushCost_63 {X : tp_X} {az : Array Value} (hG : tp_Good X az) (hSt : tp_Stat X) : tp_Fit X yX3_pushCost cX3_pushCost (some .int) 5 tp_nm tp_by tp_ml tp_rtt 63 [o_iret 0] :=
  fE ie_iret (sim_iret dX3_pushCost_63 rfl (Or.inl ⟨rfl, rfl⟩))
theorem F_X3_pushCost {X : tp_X} {az : Array Value} (hG : tp_Good X az) (hSt : tp_Stat X) (pc : Nat) : tp_Fit X yX3_pushCost cX3_pushCost (some .int) 5 tp_nm tp_by tp_ml tp_rtt pc (mX3_pushCost pc) :=
  fI (fX3_pushCost_0 hG hSt) <| fI (fX3_pushCost_6 hG hSt) <| fI (fX3_pushCost_34 hG hSt) <| fI (fX3_pushCost_35 hG hSt) <| fI (fX3_pushCost_62 hG hSt) <| fI (fX3_pushCost_63 hG hSt) <| trivial
theorem fX3_nameCell_0 {X : tp_X} {az : Array Value} (hG : tp_Good X az) (hSt : tp_Stat X) : tp_Fit X yX3_nameCell cX3_nameCell none 6 tp_nm tp_by tp_ml tp_rtt 0 [o_ald (.aload_n 0) 0, o_getf (.getfield 32) 3 25, o_int (.iconst 0) 0, o_ald (.aload_n 0) 0, o_getf (.getfield 43) 3 28, o_ild (.iload_n 1) 1, o_ild (.iload_n 2) 2, o_iadd, o_lda .iaload [0, 20], o_sta .iastore [0], o_int (.iconst 0) 0, o_ist (.istore 5) 5, o_fall 17] :=
  fG mo_ald (sim_ald_n dX3_nameCell_0 rfl) <|
  fG mo_getf (sim_getfG hG dX3_nameCell_1 hc_3 (by decide) rfl in_X3 (fun _ _ _ h => h) (Or.inl q1275)) <|
  fG mo_int (sim_iconst dX3_nameCell_4 (by decide)) <|
  fG mo_ald (sim_ald_n dX3_nameCell_5 rfl) <|
  fG mo_getf (sim_getfG hG dX3_nameCell_6 hc_3 (by decide) rfl in_X3 (fun _ _ _ h => h) (Or.inl q1278)) <|
  fG mo_ild (sim_ild_n dX3_nameCell_9 rfl) <|
  fG mo_ild (sim_ild_n dX3_nameCell_10 rfl) <|
  fG mo_iadd (sim_iadd dX3_nameCell_11) <|
  fG mo_lda (sim_iald dX3_nameCell_12) <|
  fG mo_sta (sim_iast dX3_nameCell_13) <|
  fG mo_int (sim_iconst dX3_nameCell_14 (by decide)) <|
  fG mo_ist (sim_ist dX3_nameCell_15) <|
  fF
theorem fX3_nameCell_17 {X : tp_X} {az : Array Value} (hG : tp_Good X az) (hSt : tp_Stat X) : tp_Fit X yX3_nameCell cX3_nameCell none 6 tp_nm tp_by tp_ml tp_rtt 17 [o_ild (.iload 5) 5, o_int (.iconst 4) 4, o_icmpge 30 50, o_ald (.aload_n 0) 0, o_getf (.getfield 32) 3 25, o_int (.iconst 1) 1, o_ild (.iload 5) 5, o_iadd, o_ald (.aload_n 0) 0, o_ild (.iload_n 1) 1, o_ald (.aload_n 0) 0, o_ild (.iload_n 2) 2, o_ild (.iload 5) 5, o_cv (.invokevirtual 271) 3 kX3_pushed 2 0, o_cv (.invokevirtual 274) 3 kX3_iceOf 2 0, o_sta .iastore [0], o_inc 5 1, o_goto (-30) 17] :=
  fG mo_ild (sim_ild dX3_nameCell_17) <|
  fG mo_int (sim_iconst dX3_nameCell_19 (by decide)) <|
  fG mo_icmpge (sim_icmpge dX3_nameCell_20 rfl) <|
  fG mo_ald (sim_ald_n dX3_nameCell_23 rfl) <|
  fG mo_getf (sim_getfG hG dX3_nameCell_24 hc_3 (by decide) rfl in_X3 (fun _ _ _ h => h) (Or.inl q1275)) <|
  fG mo_int (sim_iconst dX3_nameCell_27 (by decide)) <|
  fG mo_ild (sim_ild dX3_nameCell_28) <|
  fG mo_iadd (sim_iadd dX3_nameCell_30) <|
  fG mo_ald (sim_ald_n dX3_nameCell_31 rfl) <|
  fG mo_ild (sim_ild_n dX3_nameCell_32 rfl) <|
  fG mo_ald (sim_ald_n dX3_nameCell_33 rfl) <|
  fG mo_ild (sim_ild_n dX3_nameCell_34 rfl) <|
  fG mo_ild (sim_ild dX3_nameCell_35) <|
  fC (ic_cv (Or.inl rfl)) (sim_cv hG dX3_nameCell_37 (hG.2.1 3 _ hc_3).2.1 M_X3_pushed (by rw [nm_X3_pushed]; rfl) (by rw [nm_X3_pushed]; exact q1598) (by rw [nm_X3_pushed]; exact q1600) (by rw [nm_X3_pushed]; exact qs77)) <|
  fC (ic_cv (Or.inl rfl)) (sim_cv hG dX3_nameCell_40 (hG.2.1 3 _ hc_3).2.1 M_X3_iceOf (by rw [nm_X3_iceOf]; rfl) (by rw [nm_X3_iceOf]; exact q1614) (by rw [nm_X3_iceOf]; exact q1616) (by rw [nm_X3_iceOf]; exact qs81)) <|
  fG mo_sta (sim_iast dX3_nameCell_43) <|
  fG mo_inc (sim_inc dX3_nameCell_44 (by decide)) <|
  fG mo_goto (sim_goto dX3_nameCell_47 rfl) <|
  trivial
theorem fX3_nameCell_50 {X : tp_X} {az : Array Value} (hG : tp_Good X az) (hSt : tp_Stat X) : tp_Fit X yX3_nameCell cX3_nameCell none 6 tp_nm tp_by tp_ml tp_rtt 50 [o_ald (.aload_n 0) 0, o_getf (.getfield 32) 3 25, o_int (.iconst 5) 5, o_ild (.iload_n 2) 2, o_ald (.aload_n 0) 0, o_getf (.getfield 77) 3 0, o_irem, o_sta .iastore [0], o_ald (.aload_n 0) 0, o_getf (.getfield 32) 3 25, o_int (.bipush 6) 6, o_ild (.iload_n 2) 2, o_ald (.aload_n 0) 0, o_getf (.getfield 77) 3 0, o_idiv, o_sta .iastore [0], o_ald (.aload_n 0) 0, o_getf (.getfield 32) 3 25, o_int (.bipush 7) 7, o_ild (.iload_n 3) 3, o_sta .iastore [0], o_ald (.aload_n 0) 0, o_getf (.getfield 32) 3 25, o_int (.bipush 8) 8, o_ild (.iload 4) 4, o_sta .iastore [0], o_ald (.aload_n 0) 0, o_getf (.getfield 32) 3 25, o_int (.bipush 9) 9, o_int (.iconst 0) 0, o_sta .iastore [0], o_ald (.aload_n 0) 0, o_getf (.getfield 32) 3 25, o_int (.bipush 10) 10, o_int (.iconst 0) 0, o_sta .iastore [0], o_vret] :=
  fG mo_ald (sim_ald_n dX3_nameCell_50 rfl) <|
  fG mo_getf (sim_getfG hG dX3_nameCell_51 hc_3 (by decide) rfl in_X3 (fun _ _ _ h => h) (Or.inl q1275)) <|
  fG mo_int (sim_iconst dX3_nameCell_54 (by decide)) <|
  fG mo_ild (sim_ild_n dX3_nameCell_55 rfl) <|
  fG mo_ald (sim_ald_n dX3_nameCell_56 rfl) <|
  fG mo_getf (sim_getfG hG dX3_nameCell_57 hc_3 (by decide) rfl in_X3 (fun _ _ _ h => h) (Or.inl q1252)) <|
  fG mo_irem (sim_irem dX3_nameCell_60) <|
  fG mo_sta (sim_iast dX3_nameCell_61) <|
  fG mo_ald (sim_ald_n dX3_nameCell_62 rfl) <|
  fG mo_getf (sim_getfG hG dX3_nameCell_63 hc_3 (by decide) rfl in_X3 (fun _ _ _ h => h) (Or.inl q1275)) <|
  fG mo_int (sim_bipush dX3_nameCell_66 (by decide)) <|
  fG mo_ild (sim_ild_n dX3_nameCell_68 rfl) <|
  fG mo_ald (sim_ald_n dX3_nameCell_69 rfl) <|
  fG mo_getf (sim_getfG hG dX3_nameCell_70 hc_3 (by decide) rfl in_X3 (fun _ _ _ h => h) (Or.inl q1252)) <|
  fG mo_idiv (sim_idiv dX3_nameCell_73) <|
  fG mo_sta (sim_iast dX3_nameCell_74) <|
  fG mo_ald (sim_ald_n dX3_nameCell_75 rfl) <|
  fG mo_getf (sim_getfG hG dX3_nameCell_76 hc_3 (by decide) rfl in_X3 (fun _ _ _ h => h) (Or.inl q1275)) <|
  fG mo_int (sim_bipush dX3_nameCell_79 (by decide)) <|
  fG mo_ild (sim_ild_n dX3_nameCell_81 rfl) <|
  fG mo_sta (sim_iast dX3_nameCell_82) <|
  fG mo_ald (sim_ald_n dX3_nameCell_83 rfl) <|
  fG mo_getf (sim_getfG hG dX3_nameCell_84 hc_3 (by decide) rfl in_X3 (fun _ _ _ h => h) (Or.inl q1275)) <|
  fG mo_int (sim_bipush dX3_nameCell_87 (by decide)) <|
  fG mo_ild (sim_ild dX3_nameCell_89) <|
  fG mo_sta (sim_iast dX3_nameCell_91) <|
  fG mo_ald (sim_ald_n dX3_nameCell_92 rfl) <|
  fG mo_getf (sim_getfG hG dX3_nameCell_93 hc_3 (by decide) rfl in_X3 (fun _ _ _ h => h) (Or.inl q1275)) <|
  fG mo_int (sim_bipush dX3_nameCell_96 (by decide)) <|
  fG mo_int (sim_iconst dX3_nameCell_98 (by decide)) <|
  fG mo_sta (sim_iast dX3_nameCell_99) <|
  fG mo_ald (sim_ald_n dX3_nameCell_100 rfl) <|
  fG mo_getf (sim_getfG hG dX3_nameCell_101 hc_3 (by decide) rfl in_X3 (fun _ _ _ h => h) (Or.inl q1275)) <|
  fG mo_int (sim_bipush dX3_nameCell_104 (by decide)) <|
  fG mo_int (sim_iconst dX3_nameCell_106 (by decide)) <|
  fG mo_sta (sim_iast dX3_nameCell_107) <|
  fE ie_vret (sim_vret dX3_nameCell_108 rfl)
theorem F_X3_nameCell {X : tp_X} {az : Array Value} (hG : tp_Good X az) (hSt : tp_Stat X) (pc : Nat) : tp_Fit X yX3_nameCell cX3_nameCell none 6 tp_nm tp_by tp_ml tp_rtt pc (mX3_nameCell pc) :=
  fI (fX3_nameCell_0 hG hSt) <| fI (fX3_nameCell_17 hG hSt) <| fI (fX3_nameCell_50 hG hSt) <| trivial
theorem fX3_iceOf_0 {X : tp_X} {az : Array Value} (hG : tp_Good X az) (hSt : tp_Stat X) : tp_Fit X yX3_iceOf cX3_iceOf (some .int) 3 tp_nm tp_by tp_ml tp_rtt 0 [o_ild (.iload_n 2) 2, o_ifge 13 14, o_ald (.aload_n 0) 0, o_getf (.getfield 7) 3 3, o_int (.bipush 8) 8, o_lda .iaload [0, 20], o_goto 11 22] :=
  fG mo_ild (sim_ild_n dX3_iceOf_0 rfl) <|
  fG mo_ifge (sim_ifge dX3_iceOf_1 rfl) <|
  fG mo_ald (sim_ald_n dX3_iceOf_4 rfl) <|
  fG mo_getf (sim_getfG hG dX3_iceOf_5 hc_3 (by decide) rfl in_X3 (fun _ _ _ h => h) (Or.inl q1255)) <|
  fG mo_int (sim_bipush dX3_iceOf_8 (by decide)) <|
  fG mo_lda (sim_iald dX3_iceOf_10) <|
  fG mo_goto (sim_goto dX3_iceOf_11 rfl) <|
  trivial
theorem fX3_iceOf_14 {X : tp_X} {az : Array Value} (hG : tp_Good X az) (hSt : tp_Stat X) : tp_Fit X yX3_iceOf cX3_iceOf (some .int) 3 tp_nm tp_by tp_ml tp_rtt 14 [o_ald (.aload_n 0) 0, o_getf (.getfield 43) 3 28, o_ild (.iload_n 1) 1, o_ild (.iload_n 2) 2, o_iadd, o_lda .iaload [0, 20], o_fall 22] :=
  fG mo_ald (sim_ald_n dX3_iceOf_14 rfl) <|
  fG mo_getf (sim_getfG hG dX3_iceOf_15 hc_3 (by decide) rfl in_X3 (fun _ _ _ h => h) (Or.inl q1278)) <|
  fG mo_ild (sim_ild_n dX3_iceOf_18 rfl) <|
  fG mo_ild (sim_ild_n dX3_iceOf_19 rfl) <|
  fG mo_iadd (sim_iadd dX3_iceOf_20) <|
  fG mo_lda (sim_iald dX3_iceOf_21) <|
  fF
theorem fX3_iceOf_22 {X : tp_X} {az : Array Value} (hG : tp_Good X az) (hSt : tp_Stat X) : tp_Fit X yX3_iceOf cX3_iceOf (some .int) 3 tp_nm tp_by tp_ml tp_rtt 22 [o_iret 0] :=
  fE ie_iret (sim_iret dX3_iceOf_22 rfl (Or.inl ⟨rfl, rfl⟩))
theorem F_X3_iceOf {X : tp_X} {az : Array Value} (hG : tp_Good X az) (hSt : tp_Stat X) (pc : Nat) : tp_Fit X yX3_iceOf cX3_iceOf (some .int) 3 tp_nm tp_by tp_ml tp_rtt pc (mX3_iceOf pc) :=
  fI (fX3_iceOf_0 hG hSt) <| fI (fX3_iceOf_14 hG hSt) <| fI (fX3_iceOf_22 hG hSt) <| trivial
theorem fX3_isAny_0 {X : tp_X} {az : Array Value} (hG : tp_Good X az) (hSt : tp_Stat X) : tp_Fit X yX3_isAny cX3_isAny (some .boolean) 5 tp_nm tp_by tp_ml tp_rtt 0 [o_int (.iconst 1) 1, o_ist (.istore_n 3) 3, o_int (.iconst 0) 0, o_ist (.istore 4) 4, o_fall 5] :=
  fG mo_int (sim_iconst dX3_isAny_0 (by decide)) <|
  fG mo_ist (sim_ist_n dX3_isAny_1 rfl) <|
  fG mo_int (sim_iconst dX3_isAny_2 (by decide)) <|
  fG mo_ist (sim_ist dX3_isAny_3) <|
  fF
theorem fX3_isAny_5 {X : tp_X} {az : Array Value} (hG : tp_Good X az) (hSt : tp_Stat X) : tp_Fit X yX3_isAny cX3_isAny (some .boolean) 5 tp_nm tp_by tp_ml tp_rtt 5 [o_ild (.iload 4) 4, o_ald (.aload_n 0) 0, o_ald (.aload_n 0) 0, o_getf (.getfield 7) 3 3, o_int (.iconst 3) 3, o_lda .iaload [0, 20], o_cv (.invokevirtual 277) 3 kX3_clauses 1 0, o_icmpge 53 70, o_ald (.aload_n 0) 0, o_ald (.aload_n 0) 0, o_getf (.getfield 7) 3 3, o_int (.iconst 3) 3, o_lda .iaload [0, 20], o_ild (.iload 4) 4, o_cv (.invokevirtual 280) 3 kX3_sortAt 2 0, o_ild (.iload_n 1) 1, o_icmpeq 6 39, o_goto 28 64] :=
  fG mo_ild (sim_ild dX3_isAny_5) <|
  fG mo_ald (sim_ald_n dX3_isAny_7 rfl) <|
  fG mo_ald (sim_ald_n dX3_isAny_8 rfl) <|
  fG mo_getf (sim_getfG hG dX3_isAny_9 hc_3 (by decide) rfl in_X3 (fun _ _ _ h => h) (Or.inl q1255)) <|
  fG mo_int (sim_iconst dX3_isAny_12 (by decide)) <|
  fG mo_lda (sim_iald dX3_isAny_13) <|
  fC (ic_cv (Or.inl rfl)) (sim_cv hG dX3_isAny_14 (hG.2.1 3 _ hc_3).2.1 M_X3_clauses (by rw [nm_X3_clauses]; rfl) (by rw [nm_X3_clauses]; exact q1622) (by rw [nm_X3_clauses]; exact q1624) (by rw [nm_X3_clauses]; exact qs83)) <|
  fG mo_icmpge (sim_icmpge dX3_isAny_17 rfl) <|
  fG mo_ald (sim_ald_n dX3_isAny_20 rfl) <|
  fG mo_ald (sim_ald_n dX3_isAny_21 rfl) <|
  fG mo_getf (sim_getfG hG dX3_isAny_22 hc_3 (by decide) rfl in_X3 (fun _ _ _ h => h) (Or.inl q1255)) <|
  fG mo_int (sim_iconst dX3_isAny_25 (by decide)) <|
  fG mo_lda (sim_iald dX3_isAny_26) <|
  fG mo_ild (sim_ild dX3_isAny_27) <|
  fC (ic_cv (Or.inl rfl)) (sim_cv hG dX3_isAny_29 (hG.2.1 3 _ hc_3).2.1 M_X3_sortAt (by rw [nm_X3_sortAt]; rfl) (by rw [nm_X3_sortAt]; exact q1626) (by rw [nm_X3_sortAt]; exact q1628) (by rw [nm_X3_sortAt]; exact qs84)) <|
  fG mo_ild (sim_ild_n dX3_isAny_32 rfl) <|
  fG mo_icmpeq (sim_icmpeq dX3_isAny_33 rfl) <|
  fG mo_goto (sim_goto dX3_isAny_36 rfl) <|
  trivial
theorem fX3_isAny_39 {X : tp_X} {az : Array Value} (hG : tp_Good X az) (hSt : tp_Stat X) : tp_Fit X yX3_isAny cX3_isAny (some .boolean) 5 tp_nm tp_by tp_ml tp_rtt 39 [o_int (.iconst 0) 0, o_ist (.istore_n 3) 3, o_ald (.aload_n 0) 0, o_ald (.aload_n 0) 0, o_getf (.getfield 7) 3 3, o_int (.iconst 3) 3, o_lda .iaload [0, 20], o_ild (.iload 4) 4, o_cv (.invokevirtual 283) 3 kX3_work 2 0, o_ald (.aload_n 0) 0, o_getf (.getfield 39) 3 27, o_int (.iconst 0) 0, o_lda .baload [1, 2, 22], o_ifeq 5 64, o_int (.iconst 1) 1, o_iret 1] :=
  fG mo_int (sim_iconst dX3_isAny_39 (by decide)) <|
  fG mo_ist (sim_ist_n dX3_isAny_40 rfl) <|
  fG mo_ald (sim_ald_n dX3_isAny_41 rfl) <|
  fG mo_ald (sim_ald_n dX3_isAny_42 rfl) <|
  fG mo_getf (sim_getfG hG dX3_isAny_43 hc_3 (by decide) rfl in_X3 (fun _ _ _ h => h) (Or.inl q1255)) <|
  fG mo_int (sim_iconst dX3_isAny_46 (by decide)) <|
  fG mo_lda (sim_iald dX3_isAny_47) <|
  fG mo_ild (sim_ild dX3_isAny_48) <|
  fC (ic_cv (Or.inl rfl)) (sim_cv hG dX3_isAny_50 (hG.2.1 3 _ hc_3).2.1 M_X3_work (by rw [nm_X3_work]; rfl) (by rw [nm_X3_work]; exact q1630) (by rw [nm_X3_work]; exact q1632) (by rw [nm_X3_work]; exact qs85)) <|
  fG mo_ald (sim_ald_n dX3_isAny_53 rfl) <|
  fG mo_getf (sim_getfG hG dX3_isAny_54 hc_3 (by decide) rfl in_X3 (fun _ _ _ h => h) (Or.inl q1277)) <|
  fG mo_int (sim_iconst dX3_isAny_57 (by decide)) <|
  fG mo_lda (sim_bald dX3_isAny_58) <|
  fG mo_ifeq (sim_ifeq dX3_isAny_59 rfl) <|
  fG mo_int (sim_iconst dX3_isAny_62 (by decide)) <|
  fE ie_iret (sim_iret dX3_isAny_63 rfl (Or.inr (Or.inl ⟨rfl, rfl⟩)))
theorem fX3_isAny_64 {X : tp_X} {az : Array Value} (hG : tp_Good X az) (hSt : tp_Stat X) : tp_Fit X yX3_isAny cX3_isAny (some .boolean) 5 tp_nm tp_by tp_ml tp_rtt 64 [o_inc 4 1, o_goto (-62) 5] :=
  fG mo_inc (sim_inc dX3_isAny_64 (by decide)) <|
  fG mo_goto (sim_goto dX3_isAny_67 rfl) <|
  trivial
theorem fX3_isAny_70 {X : tp_X} {az : Array Value} (hG : tp_Good X az) (hSt : tp_Stat X) : tp_Fit X yX3_isAny cX3_isAny (some .boolean) 5 tp_nm tp_by tp_ml tp_rtt 70 [o_ild (.iload_n 3) 3, o_ifeq 11 82, o_ild (.iload_n 2) 2, o_ifeq 7 82, o_int (.iconst 1) 1, o_goto 4 83] :=
  fG mo_ild (sim_ild_n dX3_isAny_70 rfl) <|
  fG mo_ifeq (sim_ifeq dX3_isAny_71 rfl) <|
  fG mo_ild (sim_ild_n dX3_isAny_74 rfl) <|
  fG mo_ifeq (sim_ifeq dX3_isAny_75 rfl) <|
  fG mo_int (sim_iconst dX3_isAny_78 (by decide)) <|
  fG mo_goto (sim_goto dX3_isAny_79 rfl) <|
  trivial
theorem fX3_isAny_82 {X : tp_X} {az : Array Value} (hG : tp_Good X az) (hSt : tp_Stat X) : tp_Fit X yX3_isAny cX3_isAny (some .boolean) 5 tp_nm tp_by tp_ml tp_rtt 82 [o_int (.iconst 0) 0, o_fall 83] :=
  fG mo_int (sim_iconst dX3_isAny_82 (by decide)) <|
  fF
theorem fX3_isAny_83 {X : tp_X} {az : Array Value} (hG : tp_Good X az) (hSt : tp_Stat X) : tp_Fit X yX3_isAny cX3_isAny (some .boolean) 5 tp_nm tp_by tp_ml tp_rtt 83 [o_iret 1] :=
  fE ie_iret (sim_iret dX3_isAny_83 rfl (Or.inr (Or.inl ⟨rfl, rfl⟩)))
theorem F_X3_isAny {X : tp_X} {az : Array Value} (hG : tp_Good X az) (hSt : tp_Stat X) (pc : Nat) : tp_Fit X yX3_isAny cX3_isAny (some .boolean) 5 tp_nm tp_by tp_ml tp_rtt pc (mX3_isAny pc) :=
  fI (fX3_isAny_0 hG hSt) <| fI (fX3_isAny_5 hG hSt) <| fI (fX3_isAny_39 hG hSt) <| fI (fX3_isAny_64 hG hSt) <| fI (fX3_isAny_70 hG hSt) <| fI (fX3_isAny_82 hG hSt) <| fI (fX3_isAny_83 hG hSt) <| trivial
theorem fX3_clauses_0 {X : tp_X} {az : Array Value} (hG : tp_Good X az) (hSt : tp_Stat X) : tp_Fit X yX3_clauses cX3_clauses (some .int) 2 tp_nm tp_by tp_ml tp_rtt 0 [o_ild (.iload_n 1) 1, o_ifge 7 8, o_int (.iconst 0) 0, o_goto 13 18] :=
  fG mo_ild (sim_ild_n dX3_clauses_0 rfl) <|
  fG mo_ifge (sim_ifge dX3_clauses_1 rfl) <|
  fG mo_int (sim_iconst dX3_clauses_4 (by decide)) <|
  fG mo_goto (sim_goto dX3_clauses_5 rfl) <|
  trivial
theorem fX3_clauses_8 {X : tp_X} {az : Array Value} (hG : tp_Good X az) (hSt : tp_Stat X) : tp_Fit X yX3_clauses cX3_clauses (some .int) 2 tp_nm tp_by tp_ml tp_rtt 8 [o_ald (.aload_n 0) 0, o_getf (.getfield 16) 3 5, o_int (.sipush 800) 800, o_ild (.iload_n 1) 1, o_imul, o_lda .iaload [0, 20], o_fall 18] :=
  fG mo_ald (sim_ald_n dX3_clauses_8 rfl) <|
  fG mo_getf (sim_getfG hG dX3_clauses_9 hc_3 (by decide) rfl in_X3 (fun _ _ _ h => h) (Or.inl q1257)) <|
  fG mo_int (sim_sipush dX3_clauses_12 (by decide)) <|
  fG mo_ild (sim_ild_n dX3_clauses_15 rfl) <|
  fG mo_imul (sim_imul dX3_clauses_16) <|
  fG mo_lda (sim_iald dX3_clauses_17) <|
  fF
theorem fX3_clauses_18 {X : tp_X} {az : Array Value} (hG : tp_Good X az) (hSt : tp_Stat X) : tp_Fit X yX3_clauses cX3_clauses (some .int) 2 tp_nm tp_by tp_ml tp_rtt 18 [o_iret 0] :=
  fE ie_iret (sim_iret dX3_clauses_18 rfl (Or.inl ⟨rfl, rfl⟩))
theorem F_X3_clauses {X : tp_X} {az : Array Value} (hG : tp_Good X az) (hSt : tp_Stat X) (pc : Nat) : tp_Fit X yX3_clauses cX3_clauses (some .int) 2 tp_nm tp_by tp_ml tp_rtt pc (mX3_clauses pc) :=
  fI (fX3_clauses_0 hG hSt) <| fI (fX3_clauses_8 hG hSt) <| fI (fX3_clauses_18 hG hSt) <| trivial
theorem fX3_sortAt_0 {X : tp_X} {az : Array Value} (hG : tp_Good X az) (hSt : tp_Stat X) : tp_Fit X yX3_sortAt cX3_sortAt (some .int) 3 tp_nm tp_by tp_ml tp_rtt 0 [o_ald (.aload_n 0) 0, o_getf (.getfield 16) 3 5, o_int (.sipush 800) 800, o_ild (.iload_n 1) 1, o_imul, o_int (.iconst 1) 1, o_iadd, o_int (.iconst 4) 4, o_ild (.iload_n 2) 2, o_imul, o_iadd, o_lda .iaload [0, 20], o_iret 0] :=
  fG mo_ald (sim_ald_n dX3_sortAt_0 rfl) <|
  fG mo_getf (sim_getfG hG dX3_sortAt_1 hc_3 (by decide) rfl in_X3 (fun _ _ _ h => h) (Or.inl q1257)) <|
  fG mo_int (sim_sipush dX3_sortAt_4 (by decide)) <|
  fG mo_ild (sim_ild_n dX3_sortAt_7 rfl) <|
  fG mo_imul (sim_imul dX3_sortAt_8) <|
  fG mo_int (sim_iconst dX3_sortAt_9 (by decide)) <|
  fG mo_iadd (sim_iadd dX3_sortAt_10) <|
  fG mo_int (sim_iconst dX3_sortAt_11 (by decide)) <|
  fG mo_ild (sim_ild_n dX3_sortAt_12 rfl) <|
  fG mo_imul (sim_imul dX3_sortAt_13) <|
  fG mo_iadd (sim_iadd dX3_sortAt_14) <|
  fG mo_lda (sim_iald dX3_sortAt_15) <|
  fE ie_iret (sim_iret dX3_sortAt_16 rfl (Or.inl ⟨rfl, rfl⟩))
theorem F_X3_sortAt {X : tp_X} {az : Array Value} (hG : tp_Good X az) (hSt : tp_Stat X) (pc : Nat) : tp_Fit X yX3_sortAt cX3_sortAt (some .int) 3 tp_nm tp_by tp_ml tp_rtt pc (mX3_sortAt pc) :=
  fI (fX3_sortAt_0 hG hSt) <| trivial
theorem fX3_work_0 {X : tp_X} {az : Array Value} (hG : tp_Good X az) (hSt : tp_Stat X) : tp_Fit X yX3_work cX3_work none 10 tp_nm tp_by tp_ml tp_rtt 0 [o_int (.sipush 800) 800, o_ild (.iload_n 1) 1, o_imul, o_int (.iconst 1) 1, o_iadd, o_int (.iconst 4) 4, o_ild (.iload_n 2) 2, o_imul, o_iadd, o_ist (.istore_n 3) 3, o_int (.sipush 800) 800, o_ild (.iload_n 1) 1, o_imul, o_int (.bipush 60) 60, o_iadd, o_ist (.istore 4) 4, o_int (.iconst 0) 0, o_ist (.istore 5) 5, o_int (.iconst 0) 0, o_ist (.istore 6) 6, o_ald (.aload_n 0) 0, o_getf (.getfield 16) 3 5, o_ild (.iload_n 3) 3, o_int (.iconst 2) 2, o_iadd, o_lda .iaload [0, 20], o_ist (.istore 7) 7, o_fall 38] :=
  fG mo_int (sim_sipush dX3_work_0 (by decide)) <|
  fG mo_ild (sim_ild_n dX3_work_3 rfl) <|
  fG mo_imul (sim_imul dX3_work_4) <|
  fG mo_int (sim_iconst dX3_work_5 (by decide)) <|
  fG mo_iadd (sim_iadd dX3_work_6) <|
  fG mo_int (sim_iconst dX3_work_7 (by decide)) <|
  fG mo_ild (sim_ild_n dX3_work_8 rfl) <|
  fG mo_imul (sim_imul dX3_work_9) <|
  fG mo_iadd (sim_iadd dX3_work_10) <|
  fG mo_ist (sim_ist_n dX3_work_11 rfl) <|
  fG mo_int (sim_sipush dX3_work_12 (by decide)) <|
  fG mo_ild (sim_ild_n dX3_work_15 rfl) <|
  fG mo_imul (sim_imul dX3_work_16) <|
  fG mo_int (sim_bipush dX3_work_17 (by decide)) <|
  fG mo_iadd (sim_iadd dX3_work_19) <|
  fG mo_ist (sim_ist dX3_work_20) <|
  fG mo_int (sim_iconst dX3_work_22 (by decide)) <|
  fG mo_ist (sim_ist dX3_work_23) <|
  fG mo_int (sim_iconst dX3_work_25 (by decide)) <|
  fG mo_ist (sim_ist dX3_work_26) <|
  fG mo_ald (sim_ald_n dX3_work_28 rfl) <|
  fG mo_getf (sim_getfG hG dX3_work_29 hc_3 (by decide) rfl in_X3 (fun _ _ _ h => h) (Or.inl q1257)) <|
  fG mo_ild (sim_ild_n dX3_work_32 rfl) <|
  fG mo_int (sim_iconst dX3_work_33 (by decide)) <|
  fG mo_iadd (sim_iadd dX3_work_34) <|
  fG mo_lda (sim_iald dX3_work_35) <|
  fG mo_ist (sim_ist dX3_work_36) <|
  fF
theorem fX3_work_38 {X : tp_X} {az : Array Value} (hG : tp_Good X az) (hSt : tp_Stat X) : tp_Fit X yX3_work cX3_work none 10 tp_nm tp_by tp_ml tp_rtt 38 [o_ild (.iload 7) 7, o_ald (.aload_n 0) 0, o_getf (.getfield 16) 3 5, o_ild (.iload_n 3) 3, o_int (.iconst 3) 3, o_iadd, o_lda .iaload [0, 20], o_icmpge 304 352, o_ald (.aload_n 0) 0, o_getf (.getfield 16) 3 5, o_ild (.iload 4) 4, o_int (.iconst 2) 2, o_ild (.iload 7) 7, o_imul, o_iadd, o_lda .iaload [0, 20], o_ist (.istore 8) 8, o_ald (.aload_n 0) 0, o_getf (.getfield 16) 3 5, o_ild (.iload 4) 4, o_int (.iconst 2) 2, o_ild (.iload 7) 7, o_imul, o_iadd, o_int (.iconst 1) 1, o_iadd, o_lda .iaload [0, 20], o_ist (.istore 9) 9, o_ild (.iload 8) 8, o_int (.iconst 1) 1, o_icmpgt 35 119, o_ald (.aload_n 0) 0, o_getf (.getfield 35) 3 26, o_ild (.iload 5) 5, o_ild (.iload 8) 8, o_ifne 9 104, o_ild (.iload 9) 9, o_i2l, o_goto 11 112] :=
  fG mo_ild (sim_ild dX3_work_38) <|
  fG mo_ald (sim_ald_n dX3_work_40 rfl) <|
  fG mo_getf (sim_getfG hG dX3_work_41 hc_3 (by decide) rfl in_X3 (fun _ _ _ h => h) (Or.inl q1257)) <|
  fG mo_ild (sim_ild_n dX3_work_44 rfl) <|
  fG mo_int (sim_iconst dX3_work_45 (by decide)) <|
  fG mo_iadd (sim_iadd dX3_work_46) <|
  fG mo_lda (sim_iald dX3_work_47) <|
  fG mo_icmpge (sim_icmpge dX3_work_48 rfl) <|
  fG mo_ald (sim_ald_n dX3_work_51 rfl) <|
  fG mo_getf (sim_getfG hG dX3_work_52 hc_3 (by decide) rfl in_X3 (fun _ _ _ h => h) (Or.inl q1257)) <|
  fG mo_ild (sim_ild dX3_work_55) <|
  fG mo_int (sim_iconst dX3_work_57 (by decide)) <|
  fG mo_ild (sim_ild dX3_work_58) <|
  fG mo_imul (sim_imul dX3_work_60) <|
  fG mo_iadd (sim_iadd dX3_work_61) <|
  fG mo_lda (sim_iald dX3_work_62) <|
  fG mo_ist (sim_ist dX3_work_63) <|
  fG mo_ald (sim_ald_n dX3_work_65 rfl) <|
  fG mo_getf (sim_getfG hG dX3_work_66 hc_3 (by decide) rfl in_X3 (fun _ _ _ h => h) (Or.inl q1257)) <|
  fG mo_ild (sim_ild dX3_work_69) <|
  fG mo_int (sim_iconst dX3_work_71 (by decide)) <|
  fG mo_ild (sim_ild dX3_work_72) <|
  fG mo_imul (sim_imul dX3_work_74) <|
  fG mo_iadd (sim_iadd dX3_work_75) <|
  fG mo_int (sim_iconst dX3_work_76 (by decide)) <|
  fG mo_iadd (sim_iadd dX3_work_77) <|
  fG mo_lda (sim_iald dX3_work_78) <|
  fG mo_ist (sim_ist dX3_work_79) <|
  fG mo_ild (sim_ild dX3_work_81) <|
  fG mo_int (sim_iconst dX3_work_83 (by decide)) <|
  fG mo_icmpgt (sim_icmpgt dX3_work_84 rfl) <|
  fG mo_ald (sim_ald_n dX3_work_87 rfl) <|
  fG mo_getf (sim_getfG hG dX3_work_88 hc_3 (by decide) rfl in_X3 (fun _ _ _ h => h) (Or.inl q1276)) <|
  fG mo_ild (sim_ild dX3_work_91) <|
  fG mo_ild (sim_ild dX3_work_93) <|
  fG mo_ifne (sim_ifne dX3_work_95 rfl) <|
  fG mo_ild (sim_ild dX3_work_98) <|
  fG mo_i2l (sim_i2l dX3_work_100) <|
  fG mo_goto (sim_goto dX3_work_101 rfl) <|
  trivial
theorem fX3_work_104 {X : tp_X} {az : Array Value} (hG : tp_Good X az) (hSt : tp_Stat X) : tp_Fit X yX3_work cX3_work none 10 tp_nm tp_by tp_ml tp_rtt 104 [o_ald (.aload_n 0) 0, o_getf (.getfield 32) 3 25, o_ild (.iload 9) 9, o_lda .iaload [0, 20], o_i2l, o_fall 112] :=
  fG mo_ald (sim_ald_n dX3_work_104 rfl) <|
  fG mo_getf (sim_getfG hG dX3_work_105 hc_3 (by decide) rfl in_X3 (fun _ _ _ h => h) (Or.inl q1275)) <|
  fG mo_ild (sim_ild dX3_work_108) <|
  fG mo_lda (sim_iald dX3_work_110) <|
  fG mo_i2l (sim_i2l dX3_work_111) <|
  fF
theorem fX3_work_112 {X : tp_X} {az : Array Value} (hG : tp_Good X az) (hSt : tp_Stat X) : tp_Fit X yX3_work cX3_work none 10 tp_nm tp_by tp_ml tp_rtt 112 [o_sta .lastore [3], o_inc 5 1, o_goto 230 346] :=
  fG mo_sta (sim_last dX3_work_112) <|
  fG mo_inc (sim_inc dX3_work_113 (by decide)) <|
  fG mo_goto (sim_goto dX3_work_116 rfl) <|
  trivial
theorem fX3_work_119 {X : tp_X} {az : Array Value} (hG : tp_Good X az) (hSt : tp_Stat X) : tp_Fit X yX3_work cX3_work none 10 tp_nm tp_by tp_ml tp_rtt 119 [o_ild (.iload 8) 8, o_int (.iconst 2) 2, o_icmpne 25 147, o_ald (.aload_n 0) 0, o_getf (.getfield 35) 3 26, o_ild (.iload 5) 5, o_int (.iconst 1) 1, o_isub, o_ald (.aload_n 0) 0, o_getf (.getfield 35) 3 26, o_ild (.iload 5) 5, o_int (.iconst 1) 1, o_isub, o_lda .laload [3], o_lneg, o_sta .lastore [3], o_goto 202 346] :=
  fG mo_ild (sim_ild dX3_work_119) <|
  fG mo_int (sim_iconst dX3_work_121 (by decide)) <|
  fG mo_icmpne (sim_icmpne dX3_work_122 rfl) <|
  fG mo_ald (sim_ald_n dX3_work_125 rfl) <|
  fG mo_getf (sim_getfG hG dX3_work_126 hc_3 (by decide) rfl in_X3 (fun _ _ _ h => h) (Or.inl q1276)) <|
  fG mo_ild (sim_ild dX3_work_129) <|
  fG mo_int (sim_iconst dX3_work_131 (by decide)) <|
  fG mo_isub (sim_isub dX3_work_132) <|
  fG mo_ald (sim_ald_n dX3_work_133 rfl) <|
  fG mo_getf (sim_getfG hG dX3_work_134 hc_3 (by decide) rfl in_X3 (fun _ _ _ h => h) (Or.inl q1276)) <|
  fG mo_ild (sim_ild dX3_work_137) <|
  fG mo_int (sim_iconst dX3_work_139 (by decide)) <|
  fG mo_isub (sim_isub dX3_work_140) <|
  fG mo_lda (sim_lald dX3_work_141) <|
  fG mo_lneg (sim_lneg dX3_work_142) <|
  fG mo_sta (sim_last dX3_work_143) <|
  fG mo_goto (sim_goto dX3_work_144 rfl) <|
  trivial
theorem fX3_work_147 {X : tp_X} {az : Array Value} (hG : tp_Good X az) (hSt : tp_Stat X) : tp_Fit X yX3_work cX3_work none 10 tp_nm tp_by tp_ml tp_rtt 147 [o_ild (.iload 8) 8, o_int (.bipush 10) 10, o_icmpge 39 190, o_inc 5 (-1), o_ald (.aload_n 0) 0, o_getf (.getfield 35) 3 26, o_ild (.iload 5) 5, o_int (.iconst 1) 1, o_isub, o_ild (.iload 8) 8, o_ald (.aload_n 0) 0, o_getf (.getfield 35) 3 26, o_ild (.iload 5) 5, o_int (.iconst 1) 1, o_isub, o_lda .laload [3], o_ald (.aload_n 0) 0, o_getf (.getfield 35) 3 26, o_ild (.iload 5) 5, o_lda .laload [3], o_cs (.invokestatic 263) kX3_two 3 0, o_sta .lastore [3], o_goto 159 346] :=
  fG mo_ild (sim_ild dX3_work_147) <|
  fG mo_int (sim_bipush dX3_work_149 (by decide)) <|
  fG mo_icmpge (sim_icmpge dX3_work_151 rfl) <|
  fG mo_inc (sim_inc dX3_work_154 (by decide)) <|
  fG mo_ald (sim_ald_n dX3_work_157 rfl) <|
  fG mo_getf (sim_getfG hG dX3_work_158 hc_3 (by decide) rfl in_X3 (fun _ _ _ h => h) (Or.inl q1276)) <|
  fG mo_ild (sim_ild dX3_work_161) <|
  fG mo_int (sim_iconst dX3_work_163 (by decide)) <|
  fG mo_isub (sim_isub dX3_work_164) <|
  fG mo_ild (sim_ild dX3_work_165) <|
  fG mo_ald (sim_ald_n dX3_work_167 rfl) <|
  fG mo_getf (sim_getfG hG dX3_work_168 hc_3 (by decide) rfl in_X3 (fun _ _ _ h => h) (Or.inl q1276)) <|
  fG mo_ild (sim_ild dX3_work_171) <|
  fG mo_int (sim_iconst dX3_work_173 (by decide)) <|
  fG mo_isub (sim_isub dX3_work_174) <|
  fG mo_lda (sim_lald dX3_work_175) <|
  fG mo_ald (sim_ald_n dX3_work_176 rfl) <|
  fG mo_getf (sim_getfG hG dX3_work_177 hc_3 (by decide) rfl in_X3 (fun _ _ _ h => h) (Or.inl q1276)) <|
  fG mo_ild (sim_ild dX3_work_180) <|
  fG mo_lda (sim_lald dX3_work_182) <|
  fC (ic_cs (Or.inl rfl)) (sim_cs hG dX3_work_183 M_X3_two (by rw [nm_X3_two]; rfl) (by rw [nm_X3_two]; exact q1634) (by rw [nm_X3_two]; exact q1635)) <|
  fG mo_sta (sim_last dX3_work_186) <|
  fG mo_goto (sim_goto dX3_work_187 rfl) <|
  trivial
theorem fX3_work_190 {X : tp_X} {az : Array Value} (hG : tp_Good X az) (hSt : tp_Stat X) : tp_Fit X yX3_work cX3_work none 10 tp_nm tp_by tp_ml tp_rtt 190 [o_ild (.iload 8) 8, o_int (.bipush 20) 20, o_icmpge 40 234, o_inc 5 (-2), o_ald (.aload_n 0) 0, o_getf (.getfield 39) 3 27, o_ild (.iload 6) 6, o_ild (.iload 8) 8, o_ald (.aload_n 0) 0, o_getf (.getfield 35) 3 26, o_ild (.iload 5) 5, o_lda .laload [3], o_ald (.aload_n 0) 0, o_getf (.getfield 35) 3 26, o_ild (.iload 5) 5, o_int (.iconst 1) 1, o_iadd, o_lda .laload [3], o_cs (.invokestatic 267) kX3_isAsked 3 0, o_sta .bastore [1, 2], o_inc 6 1, o_goto 115 346] :=
  fG mo_ild (sim_ild dX3_work_190) <|
  fG mo_int (sim_bipush dX3_work_192 (by decide)) <|
  fG mo_icmpge (sim_icmpge dX3_work_194 rfl) <|
  fG mo_inc (sim_inc dX3_work_197 (by decide)) <|
  fG mo_ald (sim_ald_n dX3_work_200 rfl) <|
  fG mo_getf (sim_getfG hG dX3_work_201 hc_3 (by decide) rfl in_X3 (fun _ _ _ h => h) (Or.inl q1277)) <|
  fG mo_ild (sim_ild dX3_work_204) <|
  fG mo_ild (sim_ild dX3_work_206) <|
  fG mo_ald (sim_ald_n dX3_work_208 rfl) <|
  fG mo_getf (sim_getfG hG dX3_work_209 hc_3 (by decide) rfl in_X3 (fun _ _ _ h => h) (Or.inl q1276)) <|
  fG mo_ild (sim_ild dX3_work_212) <|
  fG mo_lda (sim_lald dX3_work_214) <|
  fG mo_ald (sim_ald_n dX3_work_215 rfl) <|
  fG mo_getf (sim_getfG hG dX3_work_216 hc_3 (by decide) rfl in_X3 (fun _ _ _ h => h) (Or.inl q1276)) <|
  fG mo_ild (sim_ild dX3_work_219) <|
  fG mo_int (sim_iconst dX3_work_221 (by decide)) <|
  fG mo_iadd (sim_iadd dX3_work_222) <|
  fG mo_lda (sim_lald dX3_work_223) <|
  fC (ic_cs (Or.inl rfl)) (sim_cs hG dX3_work_224 M_X3_isAsked (by rw [nm_X3_isAsked]; rfl) (by rw [nm_X3_isAsked]; exact q1642) (by rw [nm_X3_isAsked]; exact q1643)) <|
  fG mo_sta (sim_bast dX3_work_227) <|
  fG mo_inc (sim_inc dX3_work_228 (by decide)) <|
  fG mo_goto (sim_goto dX3_work_231 rfl) <|
  trivial
theorem fX3_work_234 {X : tp_X} {az : Array Value} (hG : tp_Good X az) (hSt : tp_Stat X) : tp_Fit X yX3_work cX3_work none 10 tp_nm tp_by tp_ml tp_rtt 234 [o_ild (.iload 8) 8, o_int (.bipush 20) 20, o_icmpne 32 270, o_ald (.aload_n 0) 0, o_getf (.getfield 39) 3 27, o_ild (.iload 6) 6, o_int (.iconst 1) 1, o_isub, o_ald (.aload_n 0) 0, o_getf (.getfield 39) 3 27, o_ild (.iload 6) 6, o_int (.iconst 1) 1, o_isub, o_lda .baload [1, 2, 22], o_ifne 7 265, o_int (.iconst 1) 1, o_goto 4 266] :=
  fG mo_ild (sim_ild dX3_work_234) <|
  fG mo_int (sim_bipush dX3_work_236 (by decide)) <|
  fG mo_icmpne (sim_icmpne dX3_work_238 rfl) <|
  fG mo_ald (sim_ald_n dX3_work_241 rfl) <|
  fG mo_getf (sim_getfG hG dX3_work_242 hc_3 (by decide) rfl in_X3 (fun _ _ _ h => h) (Or.inl q1277)) <|
  fG mo_ild (sim_ild dX3_work_245) <|
  fG mo_int (sim_iconst dX3_work_247 (by decide)) <|
  fG mo_isub (sim_isub dX3_work_248) <|
  fG mo_ald (sim_ald_n dX3_work_249 rfl) <|
  fG mo_getf (sim_getfG hG dX3_work_250 hc_3 (by decide) rfl in_X3 (fun _ _ _ h => h) (Or.inl q1277)) <|
  fG mo_ild (sim_ild dX3_work_253) <|
  fG mo_int (sim_iconst dX3_work_255 (by decide)) <|
  fG mo_isub (sim_isub dX3_work_256) <|
  fG mo_lda (sim_bald dX3_work_257) <|
  fG mo_ifne (sim_ifne dX3_work_258 rfl) <|
  fG mo_int (sim_iconst dX3_work_261 (by decide)) <|
  fG mo_goto (sim_goto dX3_work_262 rfl) <|
  trivial
theorem fX3_work_265 {X : tp_X} {az : Array Value} (hG : tp_Good X az) (hSt : tp_Stat X) : tp_Fit X yX3_work cX3_work none 10 tp_nm tp_by tp_ml tp_rtt 265 [o_int (.iconst 0) 0, o_fall 266] :=
  fG mo_int (sim_iconst dX3_work_265 (by decide)) <|
  fF
theorem fX3_work_266 {X : tp_X} {az : Array Value} (hG : tp_Good X az) (hSt : tp_Stat X) : tp_Fit X yX3_work cX3_work none 10 tp_nm tp_by tp_ml tp_rtt 266 [o_sta .bastore [1, 2], o_goto 79 346] :=
  fG mo_sta (sim_bast dX3_work_266) <|
  fG mo_goto (sim_goto dX3_work_267 rfl) <|
  trivial
theorem fX3_work_270 {X : tp_X} {az : Array Value} (hG : tp_Good X az) (hSt : tp_Stat X) : tp_Fit X yX3_work cX3_work none 10 tp_nm tp_by tp_ml tp_rtt 270 [o_inc 6 (-1), o_ald (.aload_n 0) 0, o_getf (.getfield 39) 3 27, o_ild (.iload 6) 6, o_int (.iconst 1) 1, o_isub, o_ild (.iload 8) 8, o_int (.bipush 21) 21, o_icmpne 33 318, o_ald (.aload_n 0) 0, o_getf (.getfield 39) 3 27, o_ild (.iload 6) 6, o_int (.iconst 1) 1, o_isub, o_lda .baload [1, 2, 22], o_ifeq 17 314, o_ald (.aload_n 0) 0, o_getf (.getfield 39) 3 27, o_ild (.iload 6) 6, o_lda .baload [1, 2, 22], o_ifeq 7 314, o_int (.iconst 1) 1, o_goto 34 345] :=
  fG mo_inc (sim_inc dX3_work_270 (by decide)) <|
  fG mo_ald (sim_ald_n dX3_work_273 rfl) <|
  fG mo_getf (sim_getfG hG dX3_work_274 hc_3 (by decide) rfl in_X3 (fun _ _ _ h => h) (Or.inl q1277)) <|
  fG mo_ild (sim_ild dX3_work_277) <|
  fG mo_int (sim_iconst dX3_work_279 (by decide)) <|
  fG mo_isub (sim_isub dX3_work_280) <|
  fG mo_ild (sim_ild dX3_work_281) <|
  fG mo_int (sim_bipush dX3_work_283 (by decide)) <|
  fG mo_icmpne (sim_icmpne dX3_work_285 rfl) <|
  fG mo_ald (sim_ald_n dX3_work_288 rfl) <|
  fG mo_getf (sim_getfG hG dX3_work_289 hc_3 (by decide) rfl in_X3 (fun _ _ _ h => h) (Or.inl q1277)) <|
  fG mo_ild (sim_ild dX3_work_292) <|
  fG mo_int (sim_iconst dX3_work_294 (by decide)) <|
  fG mo_isub (sim_isub dX3_work_295) <|
  fG mo_lda (sim_bald dX3_work_296) <|
  fG mo_ifeq (sim_ifeq dX3_work_297 rfl) <|
  fG mo_ald (sim_ald_n dX3_work_300 rfl) <|
  fG mo_getf (sim_getfG hG dX3_work_301 hc_3 (by decide) rfl in_X3 (fun _ _ _ h => h) (Or.inl q1277)) <|
  fG mo_ild (sim_ild dX3_work_304) <|
  fG mo_lda (sim_bald dX3_work_306) <|
  fG mo_ifeq (sim_ifeq dX3_work_307 rfl) <|
  fG mo_int (sim_iconst dX3_work_310 (by decide)) <|
  fG mo_goto (sim_goto dX3_work_311 rfl) <|
  trivial
theorem fX3_work_314 {X : tp_X} {az : Array Value} (hG : tp_Good X az) (hSt : tp_Stat X) : tp_Fit X yX3_work cX3_work none 10 tp_nm tp_by tp_ml tp_rtt 314 [o_int (.iconst 0) 0, o_goto 30 345] :=
  fG mo_int (sim_iconst dX3_work_314 (by decide)) <|
  fG mo_goto (sim_goto dX3_work_315 rfl) <|
  trivial
theorem fX3_work_318 {X : tp_X} {az : Array Value} (hG : tp_Good X az) (hSt : tp_Stat X) : tp_Fit X yX3_work cX3_work none 10 tp_nm tp_by tp_ml tp_rtt 318 [o_ald (.aload_n 0) 0, o_getf (.getfield 39) 3 27, o_ild (.iload 6) 6, o_int (.iconst 1) 1, o_isub, o_lda .baload [1, 2, 22], o_ifne 13 340, o_ald (.aload_n 0) 0, o_getf (.getfield 39) 3 27, o_ild (.iload 6) 6, o_lda .baload [1, 2, 22], o_ifeq 7 344, o_fall 340] :=
  fG mo_ald (sim_ald_n dX3_work_318 rfl) <|
  fG mo_getf (sim_getfG hG dX3_work_319 hc_3 (by decide) rfl in_X3 (fun _ _ _ h => h) (Or.inl q1277)) <|
  fG mo_ild (sim_ild dX3_work_322) <|
  fG mo_int (sim_iconst dX3_work_324 (by decide)) <|
  fG mo_isub (sim_isub dX3_work_325) <|
  fG mo_lda (sim_bald dX3_work_326) <|
  fG mo_ifne (sim_ifne dX3_work_327 rfl) <|
  fG mo_ald (sim_ald_n dX3_work_330 rfl) <|
  fG mo_getf (sim_getfG hG dX3_work_331 hc_3 (by decide) rfl in_X3 (fun _ _ _ h => h) (Or.inl q1277)) <|
  fG mo_ild (sim_ild dX3_work_334) <|
  fG mo_lda (sim_bald dX3_work_336) <|
  fG mo_ifeq (sim_ifeq dX3_work_337 rfl) <|
  fF
theorem fX3_work_340 {X : tp_X} {az : Array Value} (hG : tp_Good X az) (hSt : tp_Stat X) : tp_Fit X yX3_work cX3_work none 10 tp_nm tp_by tp_ml tp_rtt 340 [o_int (.iconst 1) 1, o_goto 4 345] :=
  fG mo_int (sim_iconst dX3_work_340 (by decide)) <|
  fG mo_goto (sim_goto dX3_work_341 rfl) <|
  trivial
theorem fX3_work_344 {X : tp_X} {az : Array Value} (hG : tp_Good X az) (hSt : tp_Stat X) : tp_Fit X yX3_work cX3_work none 10 tp_nm tp_by tp_ml tp_rtt 344 [o_int (.iconst 0) 0, o_fall 345] :=
  fG mo_int (sim_iconst dX3_work_344 (by decide)) <|
  fF
theorem fX3_work_345 {X : tp_X} {az : Array Value} (hG : tp_Good X az) (hSt : tp_Stat X) : tp_Fit X yX3_work cX3_work none 10 tp_nm tp_by tp_ml tp_rtt 345 [o_sta .bastore [1, 2], o_fall 346] :=
  fG mo_sta (sim_bast dX3_work_345) <|
  fF
theorem fX3_work_346 {X : tp_X} {az : Array Value} (hG : tp_Good X az) (hSt : tp_Stat X) : tp_Fit X yX3_work cX3_work none 10 tp_nm tp_by tp_ml tp_rtt 346 [o_inc 7 1, o_goto (-311) 38] :=
  fG mo_inc (sim_inc dX3_work_346 (by decide)) <|
  fG mo_goto (sim_goto dX3_work_349 rfl) <|
  trivial
theorem fX3_work_352 {X : tp_X} {az : Array Value} (hG : tp_Good X az) (hSt : tp_Stat X) : tp_Fit X yX3_work cX3_work none 10 tp_nm tp_by tp_ml tp_rtt 352 [o_vret] :=
  fE ie_vret (sim_vret dX3_work_352 rfl)
theorem F_X3_work {X : tp_X} {az : Array Value} (hG : tp_Good X az) (hSt : tp_Stat X) (pc : Nat) : tp_Fit X yX3_work cX3_work none 10 tp_nm tp_by tp_ml tp_rtt pc (mX3_work pc) :=
  fI (fX3_work_0 hG hSt) <| fI (fX3_work_38 hG hSt) <| fI (fX3_work_104 hG hSt) <| fI (fX3_work_112 hG hSt) <| fI (fX3_work_119 hG hSt) <| fI (fX3_work_147 hG hSt) <| fI (fX3_work_190 hG hSt) <| fI (fX3_work_234 hG hSt) <| fI (fX3_work_265 hG hSt) <| fI (fX3_work_266 hG hSt) <| fI (fX3_work_270 hG hSt) <| fI (fX3_work_314 hG hSt) <| fI (fX3_work_318 hG hSt) <| fI (fX3_work_340 hG hSt) <| fI (fX3_work_344 hG hSt) <| fI (fX3_work_345 hG hSt) <| fI (fX3_work_346 hG hSt) <| fI (fX3_work_352 hG hSt) <| trivial
theorem fX3_two_0 {X : tp_X} {az : Array Value} (hG : tp_Good X az) (hSt : tp_Stat X) : tp_Fit X yX3_two cX3_two (some .long) 5 tp_nm tp_by tp_ml tp_rtt 0 [o_ild (.iload_n 0) 0, o_sw (.tableswitch 48 3 5 #[27, 34, 41]) [(3, 28), (4, 35), (5, 42)] 49] :=
  fG mo_ild (sim_ild_n dX3_two_0 rfl) <|
  fG mo_sw (sim_tsw dX3_two_1 (by decide +kernel) (by decide +kernel)) <|
  trivial
theorem fX3_two_28 {X : tp_X} {az : Array Value} (hG : tp_Good X az) (hSt : tp_Stat X) : tp_Fit X yX3_two cX3_two (some .long) 5 tp_nm tp_by tp_ml tp_rtt 28 [o_lld (.lload_n 1) 1, o_lld (.lload_n 3) 3, o_ladd, o_cs (.invokestatic 259) kX3_clip 1 0, o_lret] :=
  fG mo_lld (sim_lld_n dX3_two_28 rfl) <|
  fG mo_lld (sim_lld_n dX3_two_29 rfl) <|
  fG mo_ladd (sim_ladd dX3_two_30) <|
  fC (ic_cs (Or.inl rfl)) (sim_cs hG dX3_two_31 M_X3_clip (by rw [nm_X3_clip]; rfl) (by rw [nm_X3_clip]; exact q1637) (by rw [nm_X3_clip]; exact q1638)) <|
  fE ie_lret (sim_lret dX3_two_34 rfl)
theorem fX3_two_35 {X : tp_X} {az : Array Value} (hG : tp_Good X az) (hSt : tp_Stat X) : tp_Fit X yX3_two cX3_two (some .long) 5 tp_nm tp_by tp_ml tp_rtt 35 [o_lld (.lload_n 1) 1, o_lld (.lload_n 3) 3, o_lsub, o_cs (.invokestatic 259) kX3_clip 1 0, o_lret] :=
  fG mo_lld (sim_lld_n dX3_two_35 rfl) <|
  fG mo_lld (sim_lld_n dX3_two_36 rfl) <|
  fG mo_lsub (sim_lsub dX3_two_37) <|
  fC (ic_cs (Or.inl rfl)) (sim_cs hG dX3_two_38 M_X3_clip (by rw [nm_X3_clip]; rfl) (by rw [nm_X3_clip]; exact q1637) (by rw [nm_X3_clip]; exact q1638)) <|
  fE ie_lret (sim_lret dX3_two_41 rfl)
theorem fX3_two_42 {X : tp_X} {az : Array Value} (hG : tp_Good X az) (hSt : tp_Stat X) : tp_Fit X yX3_two cX3_two (some .long) 5 tp_nm tp_by tp_ml tp_rtt 42 [o_lld (.lload_n 1) 1, o_lld (.lload_n 3) 3, o_lmul, o_cs (.invokestatic 259) kX3_clip 1 0, o_lret] :=
  fG mo_lld (sim_lld_n dX3_two_42 rfl) <|
  fG mo_lld (sim_lld_n dX3_two_43 rfl) <|
  fG mo_lmul (sim_lmul dX3_two_44) <|
  fC (ic_cs (Or.inl rfl)) (sim_cs hG dX3_two_45 M_X3_clip (by rw [nm_X3_clip]; rfl) (by rw [nm_X3_clip]; exact q1637) (by rw [nm_X3_clip]; exact q1638)) <|
  fE ie_lret (sim_lret dX3_two_48 rfl)
theorem fX3_two_49 {X : tp_X} {az : Array Value} (hG : tp_Good X az) (hSt : tp_Stat X) : tp_Fit X yX3_two cX3_two (some .long) 5 tp_nm tp_by tp_ml tp_rtt 49 [o_lld (.lload_n 3) 3, o_lng (.lconst 0) 0, o_lcmp, o_ifne 7 59, o_lng (.lconst 0) 0, o_goto 9 65] :=
  fG mo_lld (sim_lld_n dX3_two_49 rfl) <|
  fG mo_lng (sim_lconst0 dX3_two_50) <|
  fG mo_lcmp (sim_lcmp dX3_two_51) <|
  fG mo_ifne (sim_ifne dX3_two_52 rfl) <|
  fG mo_lng (sim_lconst0 dX3_two_55) <|
  fG mo_goto (sim_goto dX3_two_56 rfl) <|
  trivial
theorem fX3_two_59 {X : tp_X} {az : Array Value} (hG : tp_Good X az) (hSt : tp_Stat X) : tp_Fit X yX3_two cX3_two (some .long) 5 tp_nm tp_by tp_ml tp_rtt 59 [o_lld (.lload_n 1) 1, o_lld (.lload_n 3) 3, o_ldiv, o_cs (.invokestatic 259) kX3_clip 1 0, o_fall 65] :=
  fG mo_lld (sim_lld_n dX3_two_59 rfl) <|
  fG mo_lld (sim_lld_n dX3_two_60 rfl) <|
  fG mo_ldiv (sim_ldiv dX3_two_61) <|
  fC (ic_cs (Or.inl rfl)) (sim_cs hG dX3_two_62 M_X3_clip (by rw [nm_X3_clip]; rfl) (by rw [nm_X3_clip]; exact q1637) (by rw [nm_X3_clip]; exact q1638)) <|
  fF
theorem fX3_two_65 {X : tp_X} {az : Array Value} (hG : tp_Good X az) (hSt : tp_Stat X) : tp_Fit X yX3_two cX3_two (some .long) 5 tp_nm tp_by tp_ml tp_rtt 65 [o_lret] :=
  fE ie_lret (sim_lret dX3_two_65 rfl)
theorem F_X3_two {X : tp_X} {az : Array Value} (hG : tp_Good X az) (hSt : tp_Stat X) (pc : Nat) : tp_Fit X yX3_two cX3_two (some .long) 5 tp_nm tp_by tp_ml tp_rtt pc (mX3_two pc) :=
  fI (fX3_two_0 hG hSt) <| fI (fX3_two_28 hG hSt) <| fI (fX3_two_35 hG hSt) <| fI (fX3_two_42 hG hSt) <| fI (fX3_two_49 hG hSt) <| fI (fX3_two_59 hG hSt) <| fI (fX3_two_65 hG hSt) <| trivial
theorem fX3_clip_0 {X : tp_X} {az : Array Value} (hG : tp_Good X az) (hSt : tp_Stat X) : tp_Fit X yX3_clip cX3_clip (some .long) 2 tp_nm tp_by tp_ml tp_rtt 0 [o_lld (.lload_n 0) 0, o_lng (.ldc2_w 255) 1000000, o_lcmp, o_ifle 9 14, o_lng (.ldc2_w 255) 1000000, o_goto 18 29] :=
  fG mo_lld (sim_lld_n dX3_clip_0 rfl) <|
  fG mo_lng (sim_ldc2 hG dX3_clip_1 q1640 rfl) <|
  fG mo_lcmp (sim_lcmp dX3_clip_4) <|
  fG mo_ifle (sim_ifle dX3_clip_5 rfl) <|
  fG mo_lng (sim_ldc2 hG dX3_clip_8 q1640 rfl) <|
  fG mo_goto (sim_goto dX3_clip_11 rfl) <|
  trivial
theorem fX3_clip_14 {X : tp_X} {az : Array Value} (hG : tp_Good X az) (hSt : tp_Stat X) : tp_Fit X yX3_clip cX3_clip (some .long) 2 tp_nm tp_by tp_ml tp_rtt 14 [o_lld (.lload_n 0) 0, o_lng (.ldc2_w 257) (-1000000), o_lcmp, o_ifge 9 28, o_lng (.ldc2_w 257) (-1000000), o_goto 4 29] :=
  fG mo_lld (sim_lld_n dX3_clip_14 rfl) <|
  fG mo_lng (sim_ldc2 hG dX3_clip_15 q1641 rfl) <|
  fG mo_lcmp (sim_lcmp dX3_clip_18) <|
  fG mo_ifge (sim_ifge dX3_clip_19 rfl) <|
  fG mo_lng (sim_ldc2 hG dX3_clip_22 q1641 rfl) <|
  fG mo_goto (sim_goto dX3_clip_25 rfl) <|
  trivial
theorem fX3_clip_28 {X : tp_X} {az : Array Value} (hG : tp_Good X az) (hSt : tp_Stat X) : tp_Fit X yX3_clip cX3_clip (some .long) 2 tp_nm tp_by tp_ml tp_rtt 28 [o_lld (.lload_n 0) 0, o_fall 29] :=
  fG mo_lld (sim_lld_n dX3_clip_28 rfl) <|
  fF
theorem fX3_clip_29 {X : tp_X} {az : Array Value} (hG : tp_Good X az) (hSt : tp_Stat X) : tp_Fit X yX3_clip cX3_clip (some .long) 2 tp_nm tp_by tp_ml tp_rtt 29 [o_lret] :=
  fE ie_lret (sim_lret dX3_clip_29 rfl)
theorem F_X3_clip {X : tp_X} {az : Array Value} (hG : tp_Good X az) (hSt : tp_Stat X) (pc : Nat) : tp_Fit X yX3_clip cX3_clip (some .long) 2 tp_nm tp_by tp_ml tp_rtt pc (mX3_clip pc) :=
  fI (fX3_clip_0 hG hSt) <| fI (fX3_clip_14 hG hSt) <| fI (fX3_clip_28 hG hSt) <| fI (fX3_clip_29 hG hSt) <| trivial
theorem fX3_isAsked_0 {X : tp_X} {az : Array Value} (hG : tp_Good X az) (hSt : tp_Stat X) : tp_Fit X yX3_isAsked cX3_isAsked (some .boolean) 5 tp_nm tp_by tp_ml tp_rtt 0 [o_ild (.iload_n 0) 0, o_int (.bipush 10) 10, o_icmpne 17 20, o_lld (.lload_n 1) 1, o_lld (.lload_n 3) 3, o_lcmp, o_ifge 7 16, o_int (.iconst 1) 1, o_goto 98 111] :=
  fG mo_ild (sim_ild_n dX3_isAsked_0 rfl) <|
  fG mo_int (sim_bipush dX3_isAsked_1 (by decide)) <|
  fG mo_icmpne (sim_icmpne dX3_isAsked_3 rfl) <|
  fG mo_lld (sim_lld_n dX3_isAsked_6 rfl) <|
  fG mo_lld (sim_lld_n dX3_isAsked_7 rfl) <|
  fG mo_lcmp (sim_lcmp dX3_isAsked_8) <|
  fG mo_ifge (sim_ifge dX3_isAsked_9 rfl) <|
  fG mo_int (sim_iconst dX3_isAsked_12 (by decide)) <|
  fG mo_goto (sim_goto dX3_isAsked_13 rfl) <|
  trivial
theorem fX3_isAsked_16 {X : tp_X} {az : Array Value} (hG : tp_Good X az) (hSt : tp_Stat X) : tp_Fit X yX3_isAsked cX3_isAsked (some .boolean) 5 tp_nm tp_by tp_ml tp_rtt 16 [o_int (.iconst 0) 0, o_goto 94 111] :=
  fG mo_int (sim_iconst dX3_isAsked_16 (by decide)) <|
  fG mo_goto (sim_goto dX3_isAsked_17 rfl) <|
  trivial
theorem fX3_isAsked_20 {X : tp_X} {az : Array Value} (hG : tp_Good X az) (hSt : tp_Stat X) : tp_Fit X yX3_isAsked cX3_isAsked (some .boolean) 5 tp_nm tp_by tp_ml tp_rtt 20 [o_ild (.iload_n 0) 0, o_int (.bipush 11) 11, o_icmpne 17 40, o_lld (.lload_n 1) 1, o_lld (.lload_n 3) 3, o_lcmp, o_ifgt 7 36, o_int (.iconst 1) 1, o_goto 78 111] :=
  fG mo_ild (sim_ild_n dX3_isAsked_20 rfl) <|
  fG mo_int (sim_bipush dX3_isAsked_21 (by decide)) <|
  fG mo_icmpne (sim_icmpne dX3_isAsked_23 rfl) <|
  fG mo_lld (sim_lld_n dX3_isAsked_26 rfl) <|
  fG mo_lld (sim_lld_n dX3_isAsked_27 rfl) <|
  fG mo_lcmp (sim_lcmp dX3_isAsked_28) <|
  fG mo_ifgt (sim_ifgt dX3_isAsked_29 rfl) <|
  fG mo_int (sim_iconst dX3_isAsked_32 (by decide)) <|
  fG mo_goto (sim_goto dX3_isAsked_33 rfl) <|
  trivial
theorem fX3_isAsked_36 {X : tp_X} {az : Array Value} (hG : tp_Good X az) (hSt : tp_Stat X) : tp_Fit X yX3_isAsked cX3_isAsked (some .boolean) 5 tp_nm tp_by tp_ml tp_rtt 36 [o_int (.iconst 0) 0, o_goto 74 111] :=
  fG mo_int (sim_iconst dX3_isAsked_36 (by decide)) <|
  fG mo_goto (sim_goto dX3_isAsked_37 rfl) <|
  trivial
theorem fX3_isAsked_40 {X : tp_X} {az : Array Value} (hG : tp_Good X az) (hSt : tp_Stat X) : tp_Fit X yX3_isAsked cX3_isAsked (some .boolean) 5 tp_nm tp_by tp_ml tp_rtt 40 [o_ild (.iload_n 0) 0, o_int (.bipush 12) 12, o_icmpne 17 60, o_lld (.lload_n 1) 1, o_lld (.lload_n 3) 3, o_lcmp, o_ifle 7 56, o_int (.iconst 1) 1, o_goto 58 111] :=
  fG mo_ild (sim_ild_n dX3_isAsked_40 rfl) <|
  fG mo_int (sim_bipush dX3_isAsked_41 (by decide)) <|
  fG mo_icmpne (sim_icmpne dX3_isAsked_43 rfl) <|
  fG mo_lld (sim_lld_n dX3_isAsked_46 rfl) <|
  fG mo_lld (sim_lld_n dX3_isAsked_47 rfl) <|
  fG mo_lcmp (sim_lcmp dX3_isAsked_48) <|
  fG mo_ifle (sim_ifle dX3_isAsked_49 rfl) <|
  fG mo_int (sim_iconst dX3_isAsked_52 (by decide)) <|
  fG mo_goto (sim_goto dX3_isAsked_53 rfl) <|
  trivial
theorem fX3_isAsked_56 {X : tp_X} {az : Array Value} (hG : tp_Good X az) (hSt : tp_Stat X) : tp_Fit X yX3_isAsked cX3_isAsked (some .boolean) 5 tp_nm tp_by tp_ml tp_rtt 56 [o_int (.iconst 0) 0, o_goto 54 111] :=
  fG mo_int (sim_iconst dX3_isAsked_56 (by decide)) <|
  fG mo_goto (sim_goto dX3_isAsked_57 rfl) <|
  trivial
theorem fX3_isAsked_60 {X : tp_X} {az : Array Value} (hG : tp_Good X az) (hSt : tp_Stat X) : tp_Fit X yX3_isAsked cX3_isAsked (some .boolean) 5 tp_nm tp_by tp_ml tp_rtt 60 [o_ild (.iload_n 0) 0, o_int (.bipush 13) 13, o_icmpne 17 80, o_lld (.lload_n 1) 1, o_lld (.lload_n 3) 3, o_lcmp, o_iflt 7 76, o_int (.iconst 1) 1, o_goto 38 111] :=
  fG mo_ild (sim_ild_n dX3_isAsked_60 rfl) <|
  fG mo_int (sim_bipush dX3_isAsked_61 (by decide)) <|
  fG mo_icmpne (sim_icmpne dX3_isAsked_63 rfl) <|
  fG mo_lld (sim_lld_n dX3_isAsked_66 rfl) <|
  fG mo_lld (sim_lld_n dX3_isAsked_67 rfl) <|
  fG mo_lcmp (sim_lcmp dX3_isAsked_68) <|
  fG mo_iflt (sim_iflt dX3_isAsked_69 rfl) <|
  fG mo_int (sim_iconst dX3_isAsked_72 (by decide)) <|
  fG mo_goto (sim_goto dX3_isAsked_73 rfl) <|
  trivial
theorem fX3_isAsked_76 {X : tp_X} {az : Array Value} (hG : tp_Good X az) (hSt : tp_Stat X) : tp_Fit X yX3_isAsked cX3_isAsked (some .boolean) 5 tp_nm tp_by tp_ml tp_rtt 76 [o_int (.iconst 0) 0, o_goto 34 111] :=
  fG mo_int (sim_iconst dX3_isAsked_76 (by decide)) <|
  fG mo_goto (sim_goto dX3_isAsked_77 rfl) <|
  trivial
theorem fX3_isAsked_80 {X : tp_X} {az : Array Value} (hG : tp_Good X az) (hSt : tp_Stat X) : tp_Fit X yX3_isAsked cX3_isAsked (some .boolean) 5 tp_nm tp_by tp_ml tp_rtt 80 [o_ild (.iload_n 0) 0, o_int (.bipush 14) 14, o_icmpne 17 100, o_lld (.lload_n 1) 1, o_lld (.lload_n 3) 3, o_lcmp, o_ifne 7 96, o_int (.iconst 1) 1, o_goto 18 111] :=
  fG mo_ild (sim_ild_n dX3_isAsked_80 rfl) <|
  fG mo_int (sim_bipush dX3_isAsked_81 (by decide)) <|
  fG mo_icmpne (sim_icmpne dX3_isAsked_83 rfl) <|
  fG mo_lld (sim_lld_n dX3_isAsked_86 rfl) <|
  fG mo_lld (sim_lld_n dX3_isAsked_87 rfl) <|
  fG mo_lcmp (sim_lcmp dX3_isAsked_88) <|
  fG mo_ifne (sim_ifne dX3_isAsked_89 rfl) <|
  fG mo_int (sim_iconst dX3_isAsked_92 (by decide)) <|
  fG mo_goto (sim_goto dX3_isAsked_93 rfl) <|
  trivial
theorem fX3_isAsked_96 {X : tp_X} {az : Array Value} (hG : tp_Good X az) (hSt : tp_Stat X) : tp_Fit X yX3_isAsked cX3_isAsked (some .boolean) 5 tp_nm tp_by tp_ml tp_rtt 96 [o_int (.iconst 0) 0, o_goto 14 111] :=
  fG mo_int (sim_iconst dX3_isAsked_96 (by decide)) <|
  fG mo_goto (sim_goto dX3_isAsked_97 rfl) <|
  trivial
theorem fX3_isAsked_100 {X : tp_X} {az : Array Value} (hG : tp_Good X az) (hSt : tp_Stat X) : tp_Fit X yX3_isAsked cX3_isAsked (some .boolean) 5 tp_nm tp_by tp_ml tp_rtt 100 [o_lld (.lload_n 1) 1, o_lld (.lload_n 3) 3, o_lcmp, o_ifeq 7 110, o_int (.iconst 1) 1, o_goto 4 111] :=
  fG mo_lld (sim_lld_n dX3_isAsked_100 rfl) <|
  fG mo_lld (sim_lld_n dX3_isAsked_101 rfl) <|
  fG mo_lcmp (sim_lcmp dX3_isAsked_102) <|
  fG mo_ifeq (sim_ifeq dX3_isAsked_103 rfl) <|
  fG mo_int (sim_iconst dX3_isAsked_106 (by decide)) <|
  fG mo_goto (sim_goto dX3_isAsked_107 rfl) <|
  trivial
theorem fX3_isAsked_110 {X : tp_X} {az : Array Value} (hG : tp_Good X az) (hSt : tp_Stat X) : tp_Fit X yX3_isAsked cX3_isAsked (some .boolean) 5 tp_nm tp_by tp_ml tp_rtt 110 [o_int (.iconst 0) 0, o_fall 111] :=
  fG mo_int (sim_iconst dX3_isAsked_110 (by decide)) <|
  fF
theorem fX3_isAsked_111 {X : tp_X} {az : Array Value} (hG : tp_Good X az) (hSt : tp_Stat X) : tp_Fit X yX3_isAsked cX3_isAsked (some .boolean) 5 tp_nm tp_by tp_ml tp_rtt 111 [o_iret 1] :=
  fE ie_iret (sim_iret dX3_isAsked_111 rfl (Or.inr (Or.inl ⟨rfl, rfl⟩)))
theorem F_X3_isAsked {X : tp_X} {az : Array Value} (hG : tp_Good X az) (hSt : tp_Stat X) (pc : Nat) : tp_Fit X yX3_isAsked cX3_isAsked (some .boolean) 5 tp_nm tp_by tp_ml tp_rtt pc (mX3_isAsked pc) :=
  fI (fX3_isAsked_0 hG hSt) <| fI (fX3_isAsked_16 hG hSt) <| fI (fX3_isAsked_20 hG hSt) <| fI (fX3_isAsked_36 hG hSt) <| fI (fX3_isAsked_40 hG hSt) <| fI (fX3_isAsked_56 hG hSt) <| fI (fX3_isAsked_60 hG hSt) <| fI (fX3_isAsked_76 hG hSt) <| fI (fX3_isAsked_80 hG hSt) <| fI (fX3_isAsked_96 hG hSt) <| fI (fX3_isAsked_100 hG hSt) <| fI (fX3_isAsked_110 hG hSt) <| fI (fX3_isAsked_111 hG hSt) <| trivial
theorem fX3_sumOf_0 {X : tp_X} {az : Array Value} (hG : tp_Good X az) (hSt : tp_Stat X) : tp_Fit X yX3_sumOf cX3_sumOf (some .int) 4 tp_nm tp_by tp_ml tp_rtt 0 [o_int (.iconst 0) 0, o_ist (.istore_n 3) 3, o_fall 2] :=
  fG mo_int (sim_iconst dX3_sumOf_0 (by decide)) <|
  fG mo_ist (sim_ist_n dX3_sumOf_1 rfl) <|
  fF
theorem fX3_sumOf_2 {X : tp_X} {az : Array Value} (hG : tp_Good X az) (hSt : tp_Stat X) : tp_Fit X yX3_sumOf cX3_sumOf (some .int) 4 tp_nm tp_by tp_ml tp_rtt 2 [o_ild (.iload_n 3) 3, o_ald (.aload_n 0) 0, o_ald (.aload_n 0) 0, o_getf (.getfield 7) 3 3, o_int (.iconst 3) 3, o_lda .iaload [0, 20], o_cv (.invokevirtual 277) 3 kX3_clauses 1 0, o_icmpge 79 92, o_ald (.aload_n 0) 0, o_ald (.aload_n 0) 0, o_getf (.getfield 7) 3 3, o_int (.iconst 3) 3, o_lda .iaload [0, 20], o_ild (.iload_n 3) 3, o_cv (.invokevirtual 280) 3 kX3_sortAt 2 0, o_ild (.iload_n 1) 1, o_icmpeq 6 34, o_goto 55 86] :=
  fG mo_ild (sim_ild_n dX3_sumOf_2 rfl) <|
  fG mo_ald (sim_ald_n dX3_sumOf_3 rfl) <|
  fG mo_ald (sim_ald_n dX3_sumOf_4 rfl) <|
  fG mo_getf (sim_getfG hG dX3_sumOf_5 hc_3 (by decide) rfl in_X3 (fun _ _ _ h => h) (Or.inl q1255)) <|
  fG mo_int (sim_iconst dX3_sumOf_8 (by decide)) <|
  fG mo_lda (sim_iald dX3_sumOf_9) <|
  fC (ic_cv (Or.inl rfl)) (sim_cv hG dX3_sumOf_10 (hG.2.1 3 _ hc_3).2.1 M_X3_clauses (by rw [nm_X3_clauses]; rfl) (by rw [nm_X3_clauses]; exact q1622) (by rw [nm_X3_clauses]; exact q1624) (by rw [nm_X3_clauses]; exact qs83)) <|
  fG mo_icmpge (sim_icmpge dX3_sumOf_13 rfl) <|
  fG mo_ald (sim_ald_n dX3_sumOf_16 rfl) <|
  fG mo_ald (sim_ald_n dX3_sumOf_17 rfl) <|
  fG mo_getf (sim_getfG hG dX3_sumOf_18 hc_3 (by decide) rfl in_X3 (fun _ _ _ h => h) (Or.inl q1255)) <|
  fG mo_int (sim_iconst dX3_sumOf_21 (by decide)) <|
  fG mo_lda (sim_iald dX3_sumOf_22) <|
  fG mo_ild (sim_ild_n dX3_sumOf_23 rfl) <|
  fC (ic_cv (Or.inl rfl)) (sim_cv hG dX3_sumOf_24 (hG.2.1 3 _ hc_3).2.1 M_X3_sortAt (by rw [nm_X3_sortAt]; rfl) (by rw [nm_X3_sortAt]; exact q1626) (by rw [nm_X3_sortAt]; exact q1628) (by rw [nm_X3_sortAt]; exact qs84)) <|
  fG mo_ild (sim_ild_n dX3_sumOf_27 rfl) <|
  fG mo_icmpeq (sim_icmpeq dX3_sumOf_28 rfl) <|
  fG mo_goto (sim_goto dX3_sumOf_31 rfl) <|
  trivial
theorem fX3_sumOf_34 {X : tp_X} {az : Array Value} (hG : tp_Good X az) (hSt : tp_Stat X) : tp_Fit X yX3_sumOf cX3_sumOf (some .int) 4 tp_nm tp_by tp_ml tp_rtt 34 [o_ald (.aload_n 0) 0, o_ald (.aload_n 0) 0, o_getf (.getfield 7) 3 3, o_int (.iconst 3) 3, o_lda .iaload [0, 20], o_ild (.iload_n 3) 3, o_cv (.invokevirtual 283) 3 kX3_work 2 0, o_ald (.aload_n 0) 0, o_getf (.getfield 35) 3 26, o_int (.iconst 0) 0, o_lda .laload [3], o_lng (.lconst 0) 0, o_lcmp, o_ifge 7 60, o_int (.iconst 0) 0, o_goto 28 85] :=
  fG mo_ald (sim_ald_n dX3_sumOf_34 rfl) <|
  fG mo_ald (sim_ald_n dX3_sumOf_35 rfl) <|
  fG mo_getf (sim_getfG hG dX3_sumOf_36 hc_3 (by decide) rfl in_X3 (fun _ _ _ h => h) (Or.inl q1255)) <|
  fG mo_int (sim_iconst dX3_sumOf_39 (by decide)) <|
  fG mo_lda (sim_iald dX3_sumOf_40) <|
  fG mo_ild (sim_ild_n dX3_sumOf_41 rfl) <|
  fC (ic_cv (Or.inl rfl)) (sim_cv hG dX3_sumOf_42 (hG.2.1 3 _ hc_3).2.1 M_X3_work (by rw [nm_X3_work]; rfl) (by rw [nm_X3_work]; exact q1630) (by rw [nm_X3_work]; exact q1632) (by rw [nm_X3_work]; exact qs85)) <|
  fG mo_ald (sim_ald_n dX3_sumOf_45 rfl) <|
  fG mo_getf (sim_getfG hG dX3_sumOf_46 hc_3 (by decide) rfl in_X3 (fun _ _ _ h => h) (Or.inl q1276)) <|
  fG mo_int (sim_iconst dX3_sumOf_49 (by decide)) <|
  fG mo_lda (sim_lald dX3_sumOf_50) <|
  fG mo_lng (sim_lconst0 dX3_sumOf_51) <|
  fG mo_lcmp (sim_lcmp dX3_sumOf_52) <|
  fG mo_ifge (sim_ifge dX3_sumOf_53 rfl) <|
  fG mo_int (sim_iconst dX3_sumOf_56 (by decide)) <|
  fG mo_goto (sim_goto dX3_sumOf_57 rfl) <|
  trivial
theorem fX3_sumOf_60 {X : tp_X} {az : Array Value} (hG : tp_Good X az) (hSt : tp_Stat X) : tp_Fit X yX3_sumOf cX3_sumOf (some .int) 4 tp_nm tp_by tp_ml tp_rtt 60 [o_ald (.aload_n 0) 0, o_getf (.getfield 35) 3 26, o_int (.iconst 0) 0, o_lda .laload [3], o_lng (.ldc2_w 286) 99, o_lcmp, o_ifle 8 78, o_int (.bipush 99) 99, o_goto 10 85] :=
  fG mo_ald (sim_ald_n dX3_sumOf_60 rfl) <|
  fG mo_getf (sim_getfG hG dX3_sumOf_61 hc_3 (by decide) rfl in_X3 (fun _ _ _ h => h) (Or.inl q1276)) <|
  fG mo_int (sim_iconst dX3_sumOf_64 (by decide)) <|
  fG mo_lda (sim_lald dX3_sumOf_65) <|
  fG mo_lng (sim_ldc2 hG dX3_sumOf_66 q1649 rfl) <|
  fG mo_lcmp (sim_lcmp dX3_sumOf_69) <|
  fG mo_ifle (sim_ifle dX3_sumOf_70 rfl) <|
  fG mo_int (sim_bipush dX3_sumOf_73 (by decide)) <|
  fG mo_goto (sim_goto dX3_sumOf_75 rfl) <|
  trivial
theorem fX3_sumOf_78 {X : tp_X} {az : Array Value} (hG : tp_Good X az) (hSt : tp_Stat X) : tp_Fit X yX3_sumOf cX3_sumOf (some .int) 4 tp_nm tp_by tp_ml tp_rtt 78 [o_ald (.aload_n 0) 0, o_getf (.getfield 35) 3 26, o_int (.iconst 0) 0, o_lda .laload [3], o_l2i, o_fall 85] :=
  fG mo_ald (sim_ald_n dX3_sumOf_78 rfl) <|
  fG mo_getf (sim_getfG hG dX3_sumOf_79 hc_3 (by decide) rfl in_X3 (fun _ _ _ h => h) (Or.inl q1276)) <|
  fG mo_int (sim_iconst dX3_sumOf_82 (by decide)) <|
  fG mo_lda (sim_lald dX3_sumOf_83) <|
  fG mo_l2i (sim_l2i dX3_sumOf_84) <|
  fF
theorem fX3_sumOf_85 {X : tp_X} {az : Array Value} (hG : tp_Good X az) (hSt : tp_Stat X) : tp_Fit X yX3_sumOf cX3_sumOf (some .int) 4 tp_nm tp_by tp_ml tp_rtt 85 [o_iret 0] :=
  fE ie_iret (sim_iret dX3_sumOf_85 rfl (Or.inl ⟨rfl, rfl⟩))
theorem fX3_sumOf_86 {X : tp_X} {az : Array Value} (hG : tp_Good X az) (hSt : tp_Stat X) : tp_Fit X yX3_sumOf cX3_sumOf (some .int) 4 tp_nm tp_by tp_ml tp_rtt 86 [o_inc 3 1, o_goto (-87) 2] :=
  fG mo_inc (sim_inc dX3_sumOf_86 (by decide)) <|
  fG mo_goto (sim_goto dX3_sumOf_89 rfl) <|
  trivial
theorem fX3_sumOf_92 {X : tp_X} {az : Array Value} (hG : tp_Good X az) (hSt : tp_Stat X) : tp_Fit X yX3_sumOf cX3_sumOf (some .int) 4 tp_nm tp_by tp_ml tp_rtt 92 [o_ild (.iload_n 2) 2, o_iret 0] :=
  fG mo_ild (sim_ild_n dX3_sumOf_92 rfl) <|
  fE ie_iret (sim_iret dX3_sumOf_93 rfl (Or.inl ⟨rfl, rfl⟩))
theorem F_X3_sumOf {X : tp_X} {az : Array Value} (hG : tp_Good X az) (hSt : tp_Stat X) (pc : Nat) : tp_Fit X yX3_sumOf cX3_sumOf (some .int) 4 tp_nm tp_by tp_ml tp_rtt pc (mX3_sumOf pc) :=
  fI (fX3_sumOf_0 hG hSt) <| fI (fX3_sumOf_2 hG hSt) <| fI (fX3_sumOf_34 hG hSt) <| fI (fX3_sumOf_60 hG hSt) <| fI (fX3_sumOf_78 hG hSt) <| fI (fX3_sumOf_85 hG hSt) <| fI (fX3_sumOf_86 hG hSt) <| fI (fX3_sumOf_92 hG hSt) <| trivial
theorem fX3_watch_0 {X : tp_X} {az : Array Value} (hG : tp_Good X az) (hSt : tp_Stat X) : tp_Fit X yX3_watch cX3_watch (some .int) 8 tp_nm tp_by tp_ml tp_rtt 0 [o_ild (.iload_n 1) 1, o_cs (.invokestatic 102) kX3_isWind 1 0, o_ifeq 34 38, o_ild (.iload_n 2) 2, o_int (.iconst (-1)) (-1), o_int (.bipush 7) 7, o_cs (.invokestatic 90) kX3_isIn 3 0, o_ifeq 24 38, o_ild (.iload_n 3) 3, o_int (.iconst (-1)) (-1), o_int (.bipush 7) 7, o_cs (.invokestatic 90) kX3_isIn 3 0, o_ifeq 14 38, o_ald (.aload_n 0) 0, o_getf (.getfield 7) 3 3, o_int (.iconst 0) 0, o_lda .iaload [0, 20], o_int (.bipush 99) 99, o_icmpne 5 40, o_fall 38] :=
  fG mo_ild (sim_ild_n dX3_watch_0 rfl) <|
  fC (ic_cs (Or.inl rfl)) (sim_cs hG dX3_watch_1 M_X3_isWind (by rw [nm_X3_isWind]; rfl) (by rw [nm_X3_isWind]; exact q1419) (by rw [nm_X3_isWind]; exact q1420)) <|
  fG mo_ifeq (sim_ifeq dX3_watch_4 rfl) <|
  fG mo_ild (sim_ild_n dX3_watch_7 rfl) <|
  fG mo_int (sim_iconst dX3_watch_8 (by decide)) <|
  fG mo_int (sim_bipush dX3_watch_9 (by decide)) <|
  fC (ic_cs (Or.inl rfl)) (sim_cs hG dX3_watch_11 M_X3_isIn (by rw [nm_X3_isIn]; rfl) (by rw [nm_X3_isIn]; exact q1400) (by rw [nm_X3_isIn]; exact q1401)) <|
  fG mo_ifeq (sim_ifeq dX3_watch_14 rfl) <|
  fG mo_ild (sim_ild_n dX3_watch_17 rfl) <|
  fG mo_int (sim_iconst dX3_watch_18 (by decide)) <|
  fG mo_int (sim_bipush dX3_watch_19 (by decide)) <|
  fC (ic_cs (Or.inl rfl)) (sim_cs hG dX3_watch_21 M_X3_isIn (by rw [nm_X3_isIn]; rfl) (by rw [nm_X3_isIn]; exact q1400) (by rw [nm_X3_isIn]; exact q1401)) <|
  fG mo_ifeq (sim_ifeq dX3_watch_24 rfl) <|
  fG mo_ald (sim_ald_n dX3_watch_27 rfl) <|
  fG mo_getf (sim_getfG hG dX3_watch_28 hc_3 (by decide) rfl in_X3 (fun _ _ _ h => h) (Or.inl q1255)) <|
  fG mo_int (sim_iconst dX3_watch_31 (by decide)) <|
  fG mo_lda (sim_iald dX3_watch_32) <|
  fG mo_int (sim_bipush dX3_watch_33 (by decide)) <|
  fG mo_icmpne (sim_icmpne dX3_watch_35 rfl) <|
  fF
theorem fX3_watch_38 {X : tp_X} {az : Array Value} (hG : tp_Good X az) (hSt : tp_Stat X) : tp_Fit X yX3_watch cX3_watch (some .int) 8 tp_nm tp_by tp_ml tp_rtt 38 [o_int (.iconst (-1)) (-1), o_iret 0] :=
  fG mo_int (sim_iconst dX3_watch_38 (by decide)) <|
  fE ie_iret (sim_iret dX3_watch_39 rfl (Or.inl ⟨rfl, rfl⟩))
theorem fX3_watch_40 {X : tp_X} {az : Array Value} (hG : tp_Good X az) (hSt : tp_Stat X) : tp_Fit X yX3_watch cX3_watch (some .int) 8 tp_nm tp_by tp_ml tp_rtt 40 [o_ald (.aload_n 0) 0, o_getf (.getfield 7) 3 3, o_int (.iconst 0) 0, o_int (.iconst 0) 0, o_cs (.invokestatic 108) kX3_ofShip 2 0, o_lda .iaload [0, 20], o_ist (.istore 4) 4, o_ald (.aload_n 0) 0, o_int (.sipush 504) 504, o_cv (.invokevirtual 316) 3 kX3_layNow 1 0, o_ald (.aload_n 0) 0, o_int (.sipush 468) 468, o_cv (.invokevirtual 316) 3 kX3_layNow 1 0, o_ald (.aload_n 0) 0, o_int (.iconst 0) 0, o_int (.sipush 504) 504, o_ild (.iload_n 2) 2, o_cv (.invokevirtual 332) 3 kX3_does 3 0, o_ist (.istore 5) 5, o_ild (.iload 5) 5, o_ifeq 20 99, o_ild (.iload_n 2) 2, o_int (.iconst 4) 4, o_icmpge 15 99, o_ald (.aload_n 0) 0, o_getf (.getfield 43) 3 28, o_int (.sipush 468) 468, o_ild (.iload 4) 4, o_iadd, o_int (.iconst 0) 0, o_sta .iastore [0], o_fall 99] :=
  fG mo_ald (sim_ald_n dX3_watch_40 rfl) <|
  fG mo_getf (sim_getfG hG dX3_watch_41 hc_3 (by decide) rfl in_X3 (fun _ _ _ h => h) (Or.inl q1255)) <|
  fG mo_int (sim_iconst dX3_watch_44 (by decide)) <|
  fG mo_int (sim_iconst dX3_watch_45 (by decide)) <|
  fC (ic_cs (Or.inl rfl)) (sim_cs hG dX3_watch_46 M_X3_ofShip (by rw [nm_X3_ofShip]; rfl) (by rw [nm_X3_ofShip]; exact q1433) (by rw [nm_X3_ofShip]; exact q1434)) <|
  fG mo_lda (sim_iald dX3_watch_49) <|
  fG mo_ist (sim_ist dX3_watch_50) <|
  fG mo_ald (sim_ald_n dX3_watch_52 rfl) <|
  fG mo_int (sim_sipush dX3_watch_53 (by decide)) <|
  fC (ic_cv (Or.inl rfl)) (sim_cv hG dX3_watch_56 (hG.2.1 3 _ hc_3).2.1 M_X3_layNow (by rw [nm_X3_layNow]; rfl) (by rw [nm_X3_layNow]; exact q1586) (by rw [nm_X3_layNow]; exact q1588) (by rw [nm_X3_layNow]; exact qs74)) <|
  fG mo_ald (sim_ald_n dX3_watch_59 rfl) <|
  fG mo_int (sim_sipush dX3_watch_60 (by decide)) <|
  fC (ic_cv (Or.inl rfl)) (sim_cv hG dX3_watch_63 (hG.2.1 3 _ hc_3).2.1 M_X3_layNow (by rw [nm_X3_layNow]; rfl) (by rw [nm_X3_layNow]; exact q1586) (by rw [nm_X3_layNow]; exact q1588) (by rw [nm_X3_layNow]; exact qs74)) <|
  fG mo_ald (sim_ald_n dX3_watch_66 rfl) <|
  fG mo_int (sim_iconst dX3_watch_67 (by decide)) <|
  fG mo_int (sim_sipush dX3_watch_68 (by decide)) <|
  fG mo_ild (sim_ild_n dX3_watch_71 rfl) <|
  fC (ic_cv (Or.inl rfl)) (sim_cv hG dX3_watch_72 (hG.2.1 3 _ hc_3).2.1 M_X3_does (by rw [nm_X3_does]; rfl) (by rw [nm_X3_does]; exact q1654) (by rw [nm_X3_does]; exact q1656) (by rw [nm_X3_does]; exact qs87)) <|
  fG mo_ist (sim_ist dX3_watch_75) <|
  fG mo_ild (sim_ild dX3_watch_77) <|
  fG mo_ifeq (sim_ifeq dX3_watch_79 rfl) <|
  fG mo_ild (sim_ild_n dX3_watch_82 rfl) <|
  fG mo_int (sim_iconst dX3_watch_83 (by decide)) <|
  fG mo_icmpge (sim_icmpge dX3_watch_84 rfl) <|
  fG mo_ald (sim_ald_n dX3_watch_87 rfl) <|
  fG mo_getf (sim_getfG hG dX3_watch_88 hc_3 (by decide) rfl in_X3 (fun _ _ _ h => h) (Or.inl q1278)) <|
  fG mo_int (sim_sipush dX3_watch_91 (by decide)) <|
  fG mo_ild (sim_ild dX3_watch_94) <|
  fG mo_iadd (sim_iadd dX3_watch_96) <|
  fG mo_int (sim_iconst dX3_watch_97 (by decide)) <|
  fG mo_sta (sim_iast dX3_watch_98) <|
  fF
theorem fX3_watch_99 {X : tp_X} {az : Array Value} (hG : tp_Good X az) (hSt : tp_Stat X) : tp_Fit X yX3_watch cX3_watch (some .int) 8 tp_nm tp_by tp_ml tp_rtt 99 [o_ald (.aload_n 0) 0, o_int (.iconst 1) 1, o_int (.sipush 468) 468, o_ild (.iload_n 3) 3, o_cv (.invokevirtual 332) 3 kX3_does 3 0, o_ist (.istore 6) 6, o_ald (.aload_n 0) 0, o_int (.sipush 504) 504, o_int (.sipush 540) 540, o_ild (.iload_n 1) 1, o_ald (.aload_n 0) 0, o_getf (.getfield 7) 3 3, o_int (.iconst 0) 0, o_lda .iaload [0, 20], o_cv (.invokevirtual 335) 3 kX3_go 4 0, o_int (.iconst 0) 0, o_ist (.istore 7) 7, o_fall 130] :=
  fG mo_ald (sim_ald_n dX3_watch_99 rfl) <|
  fG mo_int (sim_iconst dX3_watch_100 (by decide)) <|
  fG mo_int (sim_sipush dX3_watch_101 (by decide)) <|
  fG mo_ild (sim_ild_n dX3_watch_104 rfl) <|
  fC (ic_cv (Or.inl rfl)) (sim_cv hG dX3_watch_105 (hG.2.1 3 _ hc_3).2.1 M_X3_does (by rw [nm_X3_does]; rfl) (by rw [nm_X3_does]; exact q1654) (by rw [nm_X3_does]; exact q1656) (by rw [nm_X3_does]; exact qs87)) <|
  fG mo_ist (sim_ist dX3_watch_108) <|
  fG mo_ald (sim_ald_n dX3_watch_110 rfl) <|
  fG mo_int (sim_sipush dX3_watch_111 (by decide)) <|
  fG mo_int (sim_sipush dX3_watch_114 (by decide)) <|
  fG mo_ild (sim_ild_n dX3_watch_117 rfl) <|
  fG mo_ald (sim_ald_n dX3_watch_118 rfl) <|
  fG mo_getf (sim_getfG hG dX3_watch_119 hc_3 (by decide) rfl in_X3 (fun _ _ _ h => h) (Or.inl q1255)) <|
  fG mo_int (sim_iconst dX3_watch_122 (by decide)) <|
  fG mo_lda (sim_iald dX3_watch_123) <|
  fC (ic_cv (Or.inl rfl)) (sim_cv hG dX3_watch_124 (hG.2.1 3 _ hc_3).2.1 M_X3_go (by rw [nm_X3_go]; rfl) (by rw [nm_X3_go]; exact q1661) (by rw [nm_X3_go]; exact q1663) (by rw [nm_X3_go]; exact qs88)) <|
  fG mo_int (sim_iconst dX3_watch_127 (by decide)) <|
  fG mo_ist (sim_ist dX3_watch_128) <|
  fF
theorem fX3_watch_130 {X : tp_X} {az : Array Value} (hG : tp_Good X az) (hSt : tp_Stat X) : tp_Fit X yX3_watch cX3_watch (some .int) 8 tp_nm tp_by tp_ml tp_rtt 130 [o_ild (.iload 7) 7, o_ald (.aload_n 0) 0, o_getf (.getfield 83) 3 2, o_icmpge 52 188, o_ald (.aload_n 0) 0, o_getf (.getfield 7) 3 3, o_int (.bipush 30) 30, o_ild (.iload 7) 7, o_iadd, o_ald (.aload_n 0) 0, o_getf (.getfield 43) 3 28, o_int (.sipush 540) 540, o_ild (.iload 7) 7, o_iadd, o_lda .iaload [0, 20], o_sta .iastore [0], o_ald (.aload_n 0) 0, o_getf (.getfield 43) 3 28, o_int (.sipush 504) 504, o_ild (.iload 7) 7, o_iadd, o_ald (.aload_n 0) 0, o_getf (.getfield 43) 3 28, o_int (.sipush 540) 540, o_ild (.iload 7) 7, o_iadd, o_lda .iaload [0, 20], o_sta .iastore [0], o_inc 7 1, o_goto (-55) 130] :=
  fG mo_ild (sim_ild dX3_watch_130) <|
  fG mo_ald (sim_ald_n dX3_watch_132 rfl) <|
  fG mo_getf (sim_getfG hG dX3_watch_133 hc_3 (by decide) rfl in_X3 (fun _ _ _ h => h) (Or.inl q1254)) <|
  fG mo_icmpge (sim_icmpge dX3_watch_136 rfl) <|
  fG mo_ald (sim_ald_n dX3_watch_139 rfl) <|
  fG mo_getf (sim_getfG hG dX3_watch_140 hc_3 (by decide) rfl in_X3 (fun _ _ _ h => h) (Or.inl q1255)) <|
  fG mo_int (sim_bipush dX3_watch_143 (by decide)) <|
  fG mo_ild (sim_ild dX3_watch_145) <|
  fG mo_iadd (sim_iadd dX3_watch_147) <|
  fG mo_ald (sim_ald_n dX3_watch_148 rfl) <|
  fG mo_getf (sim_getfG hG dX3_watch_149 hc_3 (by decide) rfl in_X3 (fun _ _ _ h => h) (Or.inl q1278)) <|
  fG mo_int (sim_sipush dX3_watch_152 (by decide)) <|
  fG mo_ild (sim_ild dX3_watch_155) <|
  fG mo_iadd (sim_iadd dX3_watch_157) <|
  fG mo_lda (sim_iald dX3_watch_158) <|
  fG mo_sta (sim_iast dX3_watch_159) <|
  fG mo_ald (sim_ald_n dX3_watch_160 rfl) <|
  fG mo_getf (sim_getfG hG dX3_watch_161 hc_3 (by decide) rfl in_X3 (fun _ _ _ h => h) (Or.inl q1278)) <|
  fG mo_int (sim_sipush dX3_watch_164 (by decide)) <|
  fG mo_ild (sim_ild dX3_watch_167) <|
  fG mo_iadd (sim_iadd dX3_watch_169) <|
  fG mo_ald (sim_ald_n dX3_watch_170 rfl) <|
  fG mo_getf (sim_getfG hG dX3_watch_171 hc_3 (by decide) rfl in_X3 (fun _ _ _ h => h) (Or.inl q1278)) <|
  fG mo_int (sim_sipush dX3_watch_174 (by decide)) <|
  fG mo_ild (sim_ild dX3_watch_177) <|
  fG mo_iadd (sim_iadd dX3_watch_179) <|
  fG mo_lda (sim_iald dX3_watch_180) <|
  fG mo_sta (sim_iast dX3_watch_181) <|
  fG mo_inc (sim_inc dX3_watch_182 (by decide)) <|
  fG mo_goto (sim_goto dX3_watch_185 rfl) <|
  trivial
theorem fX3_watch_188 {X : tp_X} {az : Array Value} (hG : tp_Good X az) (hSt : tp_Stat X) : tp_Fit X yX3_watch cX3_watch (some .int) 8 tp_nm tp_by tp_ml tp_rtt 188 [o_ald (.aload_n 0) 0, o_int (.iconst 0) 0, o_ild (.iload 5) 5, o_ild (.iload_n 2) 2, o_ild (.iload_n 1) 1, o_cv (.invokevirtual 338) 3 kX3_floatShip 4 0, o_ald (.aload_n 0) 0, o_int (.iconst 1) 1, o_ild (.iload 6) 6, o_ild (.iload_n 3) 3, o_ild (.iload_n 1) 1, o_cv (.invokevirtual 338) 3 kX3_floatShip 4 0, o_int (.iconst 0) 0, o_ist (.istore 7) 7, o_fall 209] :=
  fG mo_ald (sim_ald_n dX3_watch_188 rfl) <|
  fG mo_int (sim_iconst dX3_watch_189 (by decide)) <|
  fG mo_ild (sim_ild dX3_watch_190) <|
  fG mo_ild (sim_ild_n dX3_watch_192 rfl) <|
  fG mo_ild (sim_ild_n dX3_watch_193 rfl) <|
  fC (ic_cv (Or.inl rfl)) (sim_cv hG dX3_watch_194 (hG.2.1 3 _ hc_3).2.1 M_X3_floatShip (by rw [nm_X3_floatShip]; rfl) (by rw [nm_X3_floatShip]; exact q1669) (by rw [nm_X3_floatShip]; exact q1671) (by rw [nm_X3_floatShip]; exact qs90)) <|
  fG mo_ald (sim_ald_n dX3_watch_197 rfl) <|
  fG mo_int (sim_iconst dX3_watch_198 (by decide)) <|
  fG mo_ild (sim_ild dX3_watch_199) <|
  fG mo_ild (sim_ild_n dX3_watch_201 rfl) <|
  fG mo_ild (sim_ild_n dX3_watch_202 rfl) <|
  fC (ic_cv (Or.inl rfl)) (sim_cv hG dX3_watch_203 (hG.2.1 3 _ hc_3).2.1 M_X3_floatShip (by rw [nm_X3_floatShip]; rfl) (by rw [nm_X3_floatShip]; exact q1669) (by rw [nm_X3_floatShip]; exact q1671) (by rw [nm_X3_floatShip]; exact qs90)) <|
  fG mo_int (sim_iconst dX3_watch_206 (by decide)) <|
  fG mo_ist (sim_ist dX3_watch_207) <|
  fF
theorem fX3_watch_209 {X : tp_X} {az : Array Value} (hG : tp_Good X az) (hSt : tp_Stat X) : tp_Fit X yX3_watch cX3_watch (some .int) 8 tp_nm tp_by tp_ml tp_rtt 209 [o_ild (.iload 7) 7, o_ald (.aload_n 0) 0, o_getf (.getfield 7) 3 3, o_int (.bipush 7) 7, o_lda .iaload [0, 20], o_icmpge 57 275, o_ald (.aload_n 0) 0, o_getf (.getfield 7) 3 3, o_int (.sipush 220) 220, o_int (.iconst 2) 2, o_ild (.iload 7) 7, o_imul, o_iadd, o_lda .iaload [0, 20], o_iflt 35 269, o_ald (.aload_n 0) 0, o_getf (.getfield 7) 3 3, o_int (.sipush 220) 220, o_int (.iconst 2) 2, o_ild (.iload 7) 7, o_imul, o_iadd, o_ald (.aload_n 0) 0, o_ald (.aload_n 0) 0, o_getf (.getfield 7) 3 3, o_int (.sipush 220) 220, o_int (.iconst 2) 2, o_ild (.iload 7) 7, o_imul, o_iadd, o_lda .iaload [0, 20], o_ild (.iload_n 1) 1, o_int (.iconst 1) 1, o_cv (.invokevirtual 299) 3 kX3_driven 3 0, o_sta .iastore [0], o_fall 269] :=
  fG mo_ild (sim_ild dX3_watch_209) <|
  fG mo_ald (sim_ald_n dX3_watch_211 rfl) <|
  fG mo_getf (sim_getfG hG dX3_watch_212 hc_3 (by decide) rfl in_X3 (fun _ _ _ h => h) (Or.inl q1255)) <|
  fG mo_int (sim_bipush dX3_watch_215 (by decide)) <|
  fG mo_lda (sim_iald dX3_watch_217) <|
  fG mo_icmpge (sim_icmpge dX3_watch_218 rfl) <|
  fG mo_ald (sim_ald_n dX3_watch_221 rfl) <|
  fG mo_getf (sim_getfG hG dX3_watch_222 hc_3 (by decide) rfl in_X3 (fun _ _ _ h => h) (Or.inl q1255)) <|
  fG mo_int (sim_sipush dX3_watch_225 (by decide)) <|
  fG mo_int (sim_iconst dX3_watch_228 (by decide)) <|
  fG mo_ild (sim_ild dX3_watch_229) <|
  fG mo_imul (sim_imul dX3_watch_231) <|
  fG mo_iadd (sim_iadd dX3_watch_232) <|
  fG mo_lda (sim_iald dX3_watch_233) <|
  fG mo_iflt (sim_iflt dX3_watch_234 rfl) <|
  fG mo_ald (sim_ald_n dX3_watch_237 rfl) <|
  fG mo_getf (sim_getfG hG dX3_watch_238 hc_3 (by decide) rfl in_X3 (fun _ _ _ h => h) (Or.inl q1255)) <|
  fG mo_int (sim_sipush dX3_watch_241 (by decide)) <|
  fG mo_int (sim_iconst dX3_watch_244 (by decide)) <|
  fG mo_ild (sim_ild dX3_watch_245) <|
  fG mo_imul (sim_imul dX3_watch_247) <|
  fG mo_iadd (sim_iadd dX3_watch_248) <|
  fG mo_ald (sim_ald_n dX3_watch_249 rfl) <|
  fG mo_ald (sim_ald_n dX3_watch_250 rfl) <|
  fG mo_getf (sim_getfG hG dX3_watch_251 hc_3 (by decide) rfl in_X3 (fun _ _ _ h => h) (Or.inl q1255)) <|
  fG mo_int (sim_sipush dX3_watch_254 (by decide)) <|
  fG mo_int (sim_iconst dX3_watch_257 (by decide)) <|
  fG mo_ild (sim_ild dX3_watch_258) <|
  fG mo_imul (sim_imul dX3_watch_260) <|
  fG mo_iadd (sim_iadd dX3_watch_261) <|
  fG mo_lda (sim_iald dX3_watch_262) <|
  fG mo_ild (sim_ild_n dX3_watch_263 rfl) <|
  fG mo_int (sim_iconst dX3_watch_264 (by decide)) <|
  fC (ic_cv (Or.inl rfl)) (sim_cv hG dX3_watch_265 (hG.2.1 3 _ hc_3).2.1 M_X3_driven (by rw [nm_X3_driven]; rfl) (by rw [nm_X3_driven]; exact q1665) (by rw [nm_X3_driven]; exact q1667) (by rw [nm_X3_driven]; exact qs89)) <|
  fG mo_sta (sim_iast dX3_watch_268) <|
  fF
theorem fX3_watch_269 {X : tp_X} {az : Array Value} (hG : tp_Good X az) (hSt : tp_Stat X) : tp_Fit X yX3_watch cX3_watch (some .int) 8 tp_nm tp_by tp_ml tp_rtt 269 [o_inc 7 1, o_goto (-63) 209] :=
  fG mo_inc (sim_inc dX3_watch_269 (by decide)) <|
  fG mo_goto (sim_goto dX3_watch_272 rfl) <|
  trivial
theorem fX3_watch_275 {X : tp_X} {az : Array Value} (hG : tp_Good X az) (hSt : tp_Stat X) : tp_Fit X yX3_watch cX3_watch (some .int) 8 tp_nm tp_by tp_ml tp_rtt 275 [o_ald (.aload_n 0) 0, o_getf (.getfield 7) 3 3, o_int (.iconst 1) 1, o_ild (.iload_n 1) 1, o_sta .iastore [0], o_ald (.aload_n 0) 0, o_getf (.getfield 7) 3 3, o_int (.iconst 0) 0, o_dup2, o_lda .iaload [0, 20], o_int (.iconst 1) 1, o_iadd, o_sta .iastore [0], o_ild (.iload 5) 5, o_ifeq 7 301, o_int (.iconst 1) 1, o_goto 4 302] :=
  fG mo_ald (sim_ald_n dX3_watch_275 rfl) <|
  fG mo_getf (sim_getfG hG dX3_watch_276 hc_3 (by decide) rfl in_X3 (fun _ _ _ h => h) (Or.inl q1255)) <|
  fG mo_int (sim_iconst dX3_watch_279 (by decide)) <|
  fG mo_ild (sim_ild_n dX3_watch_280 rfl) <|
  fG mo_sta (sim_iast dX3_watch_281) <|
  fG mo_ald (sim_ald_n dX3_watch_282 rfl) <|
  fG mo_getf (sim_getfG hG dX3_watch_283 hc_3 (by decide) rfl in_X3 (fun _ _ _ h => h) (Or.inl q1255)) <|
  fG mo_int (sim_iconst dX3_watch_286 (by decide)) <|
  fG mo_dup2 (sim_dup2 dX3_watch_287) <|
  fG mo_lda (sim_iald dX3_watch_288) <|
  fG mo_int (sim_iconst dX3_watch_289 (by decide)) <|
  fG mo_iadd (sim_iadd dX3_watch_290) <|
  fG mo_sta (sim_iast dX3_watch_291) <|
  fG mo_ild (sim_ild dX3_watch_292) <|
  fG mo_ifeq (sim_ifeq dX3_watch_294 rfl) <|
  fG mo_int (sim_iconst dX3_watch_297 (by decide)) <|
  fG mo_goto (sim_goto dX3_watch_298 rfl) <|
  trivial
theorem fX3_watch_301 {X : tp_X} {az : Array Value} (hG : tp_Good X az) (hSt : tp_Stat X) : tp_Fit X yX3_watch cX3_watch (some .int) 8 tp_nm tp_by tp_ml tp_rtt 301 [o_int (.iconst 0) 0, o_fall 302] :=
  fG mo_int (sim_iconst dX3_watch_301 (by decide)) <|
  fF
theorem fX3_watch_302 {X : tp_X} {az : Array Value} (hG : tp_Good X az) (hSt : tp_Stat X) : tp_Fit X yX3_watch cX3_watch (some .int) 8 tp_nm tp_by tp_ml tp_rtt 302 [o_ild (.iload 6) 6, o_ifeq 7 311, o_int (.iconst 2) 2, o_goto 4 312] :=
  fG mo_ild (sim_ild dX3_watch_302) <|
  fG mo_ifeq (sim_ifeq dX3_watch_304 rfl) <|
  fG mo_int (sim_iconst dX3_watch_307 (by decide)) <|
  fG mo_goto (sim_goto dX3_watch_308 rfl) <|
  trivial
theorem fX3_watch_311 {X : tp_X} {az : Array Value} (hG : tp_Good X az) (hSt : tp_Stat X) : tp_Fit X yX3_watch cX3_watch (some .int) 8 tp_nm tp_by tp_ml tp_rtt 311 [o_int (.iconst 0) 0, o_fall 312] :=
  fG mo_int (sim_iconst dX3_watch_311 (by decide)) <|
  fF
theorem fX3_watch_312 {X : tp_X} {az : Array Value} (hG : tp_Good X az) (hSt : tp_Stat X) : tp_Fit X yX3_watch cX3_watch (some .int) 8 tp_nm tp_by tp_ml tp_rtt 312 [o_iadd, o_iret 0] :=
  fG mo_iadd (sim_iadd dX3_watch_312) <|
  fE ie_iret (sim_iret dX3_watch_313 rfl (Or.inl ⟨rfl, rfl⟩))
theorem F_X3_watch {X : tp_X} {az : Array Value} (hG : tp_Good X az) (hSt : tp_Stat X) (pc : Nat) : tp_Fit X yX3_watch cX3_watch (some .int) 8 tp_nm tp_by tp_ml tp_rtt pc (mX3_watch pc) :=
  fI (fX3_watch_0 hG hSt) <| fI (fX3_watch_38 hG hSt) <| fI (fX3_watch_40 hG hSt) <| fI (fX3_watch_99 hG hSt) <| fI (fX3_watch_130 hG hSt) <| fI (fX3_watch_188 hG hSt) <| fI (fX3_watch_209 hG hSt) <| fI (fX3_watch_269 hG hSt) <| fI (fX3_watch_275 hG hSt) <| fI (fX3_watch_301 hG hSt) <| fI (fX3_watch_302 hG hSt) <| fI (fX3_watch_311 hG hSt) <| fI (fX3_watch_312 hG hSt) <| trivial
