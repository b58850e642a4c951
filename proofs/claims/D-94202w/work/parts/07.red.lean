/-! how the little readers come down; then two bundles: RW the operations, RK the readers -/
section Red
variable {d k : Nat} {is : List tp_Op} {L : tp_L} {S : tp_T} {H : tp_H} {Q : tp_O → tp_H → Prop}
theorem kI_0 {x : Int} {K : Int → Prop} : tp_kI (some (xI x) :: L) 0 K ↔ K x := Iff.rfl
theorem kI_s {o : Option tp_V} {n : Nat} {K : Int → Prop} : tp_kI (o :: L) (n + 1) K ↔ tp_kI L n K := Iff.rfl
theorem kJ_0 {x : Int} {K : Int → Prop} : tp_kJ (some (xJ x) :: L) 0 K ↔ K x := Iff.rfl
theorem kJ_s {o : Option tp_V} {n : Nat} {K : Int → Prop} : tp_kJ (o :: L) (n + 1) K ↔ tp_kJ L n K := Iff.rfl
theorem kA_0 {r : Option Nat} {K : Option Nat → Prop} : tp_kA (some (xO r) :: L) 0 K ↔ K r := Iff.rfl
theorem kA_s {o : Option tp_V} {n : Nat} {K : Option Nat → Prop} : tp_kA (o :: L) (n + 1) K ↔ tp_kA L n K := Iff.rfl
theorem ksw_n {x : Int} {d : Nat} {K : Nat → Prop} : tp_sw x [] d K ↔ K d := Iff.rfl
theorem ksw_c {x a : Int} {t d : Nat} {ps : List (Int × Nat)} {K : Nat → Prop} : tp_sw x ((a, t) :: ps) d K ↔ (x = a → K t) ∧ (¬ x = a → tp_sw x ps d K) := by
  unfold tp_sw; by_cases h : x = a
  · simp [tp_look, h]
  · simp only [tp_look, if_neg h]; simp [h]
theorem kf_s {c : Nat} {fs : Nat → tp_V} {K : (Nat → tp_V) → Prop} : tp_kf (some (eO c fs)) c K ↔ K fs := by simp [tp_kf]
theorem ka_s {t n : Nat} {f : Nat → tp_V} {K : Nat → Nat → (Nat → tp_V) → Prop} : tp_ka (some (eA t n f)) K ↔ K t n f := Iff.rfl
theorem ko_s {c : Nat} {fs : Nat → tp_V} {K : Nat → (Nat → tp_V) → Prop} : tp_ko (some (eO c fs)) K ↔ K c fs := Iff.rfl
theorem kp_0 {as : List tp_V} {K : List tp_V → tp_T → Prop} : tp_kp 0 S as K ↔ K as S := Iff.rfl
theorem kp_s {n : Nat} {v : tp_V} {as : List tp_V} {K : List tp_V → tp_T → Prop} : tp_kp (n + 1) (v :: S) as K ↔ tp_kp n S (v :: as) K := Iff.rfl
theorem kr_s {a : Nat} {K : Nat → tp_T → Prop} : tp_kr (xR a :: S) K ↔ K a S := Iff.rfl
theorem kn_s {j : Nat} {K : Nat → Prop} : tp_kn (some j) K ↔ K j := Iff.rfl
theorem find_c {c c' j : Nat} {ps : List (Nat × Nat)} : tp_find c ((c', j) :: ps) = if c = c' then some j else tp_find c ps := rfl
theorem rt_n {h : Nat} : tp_rt d k h is L S Q (.inl none) H ↔ tp_wp d k is L S H Q := Iff.rfl
theorem rt_v {h : Nat} {v : tp_V} : tp_rt d k h is L S Q (.inl (some v)) H ↔ tp_wp d k is L (v :: S) H Q := Iff.rfl
theorem rt_x {q : Nat} : tp_rt d k 1 is L S Q (.inr q) H ↔ Q (.inr q) H := Iff.rfl
theorem rt_h {q h : Nat} : tp_rt d k (h + 2) is L S Q (.inr q) H ↔ tp_kf (hat H q) 6 (fun _ => tp_wp d k (tp_B k h) L [xR q] H Q) := by
  simp only [tp_rt, tp_kf]
  split
  · rename_i e; simp [e]
  · rename_i h1
    rcases e : hat H q with _ | ⟨⟩ | ⟨c, fs⟩
    · rfl
    · rfl
    · constructor
      · exact fun q => q.elim
      · rintro ⟨rfl, -⟩; exact h1 _ e
theorem s1_0 {o : Option tp_V} {v : tp_V} : tp_s1 (o :: L) 0 v = some v :: L := rfl
theorem s1_s {o : Option tp_V} {n : Nat} {v : tp_V} : tp_s1 (o :: L) (n + 1) v = tp_fx o n :: tp_s1 L n v := rfl
theorem s2_0 {o p : Option tp_V} {v : tp_V} : tp_s2 (o :: p :: L) 0 v = some v :: none :: L := rfl
theorem s2_s {o p : Option tp_V} {n : Nat} {v : tp_V} : tp_s2 (o :: p :: L) (n + 1) v = tp_fx o n :: tp_s2 (p :: L) n v := rfl
theorem fx_n {n : Nat} : tp_fx none n = none := by cases n <;> rfl
theorem fx_I {n : Nat} {x : Int} : tp_fx (some (xI x)) n = some (xI x) := by cases n <;> rfl
theorem fx_A {n : Nat} {r : Option Nat} : tp_fx (some (xO r)) n = some (xO r) := by cases n <;> rfl
theorem fx_J {n : Nat} {x : Int} : tp_fx (some (xJ x)) (n + 1) = some (xJ x) := rfl
theorem fx_J0 {x : Int} : tp_fx (some (xJ x)) 0 = none := rfl
theorem en_0 {n : Nat} : tp_en n [] = List.replicate n none := by cases n <;> rfl
theorem en_I {n : Nat} {x : Int} {as : List tp_V} : tp_en (n + 1) (xI x :: as) = some (xI x) :: tp_en n as := by
  cases n with
  | zero => cases as <;> rfl
  | succ n => rfl
theorem en_A {n : Nat} {r : Option Nat} {as : List tp_V} : tp_en (n + 1) (xO r :: as) = some (xO r) :: tp_en n as := by
  cases n with
  | zero => cases as <;> rfl
  | succ n => rfl
theorem en_J {n : Nat} {x : Int} {as : List tp_V} : tp_en (n + 2) (xJ x :: as) = some (xJ x) :: none :: tp_en n as := rfl
theorem wd_0 : tp_words [] = 0 := rfl
theorem wd_I {x : Int} {as : List tp_V} : tp_words (xI x :: as) = tp_words as + 1 := rfl
theorem wd_A {r : Option Nat} {as : List tp_V} : tp_words (xO r :: as) = tp_words as + 1 := rfl
theorem wd_J {x : Int} {as : List tp_V} : tp_words (xJ x :: as) = tp_words as + 2 := rfl
theorem rep_0 {α : Type} {a : α} : List.replicate 0 a = [] := rfl
theorem rep_s {α : Type} {a : α} {n : Nat} : List.replicate (n + 1) a = a :: List.replicate n a := rfl
theorem len_0 {α : Type} : ([] : List α).length = 0 := rfl
theorem len_s {α : Type} {a : α} {l : List α} : (a :: l).length = l.length + 1 := rfl
theorem fit_I {x : Int} : tp_fit 0 (xI x) = true := rfl
theorem fit_Z {x : Int} : tp_fit 1 (xI x) = true ↔ (x = 0 ∨ x = 1) := by simp [tp_fit]
theorem fit_B {x : Int} : tp_fit 2 (xI x) = true ↔ (-128 ≤ x ∧ x < 128) := by simp [tp_fit]
theorem fit_J {x : Int} : tp_fit 3 (xJ x) = true := rfl
theorem fit_A {n : Nat} {r : Option Nat} : tp_fit (n + 4) (xO r) = true := rfl
theorem up_s {f : Nat → tp_V} {j : Nat} {v : tp_V} : tp_up f j v j = v := by simp [tp_up]
theorem up_ap {f : Nat → tp_V} {j z : Nat} {v : tp_V} : tp_up f j v z = if z = j then v else f z := rfl
theorem lf_0 {v : tp_V} {l : List tp_V} : tp_lf (v :: l) 0 = v := rfl
theorem lf_s {v : tp_V} {l : List tp_V} {n : Nat} : tp_lf (v :: l) (n + 1) = tp_lf l n := rfl
theorem df_0 : tp_df 0 = xI 0 := rfl
theorem df_1 : tp_df 1 = xI 0 := rfl
theorem df_2 : tp_df 2 = xI 0 := rfl
theorem df_3 : tp_df 3 = xJ 0 := rfl
theorem df_4 {n : Nat} : tp_df (n + 4) = xN := rfl
theorem in_1 : tp_in 0 [0, 20] = true := rfl
theorem in_2 : tp_in 20 [0, 20] = true := rfl
theorem in_3 : tp_in 1 [1, 2, 22] = true := rfl
theorem in_4 : tp_in 2 [1, 2, 22] = true := rfl
theorem in_5 : tp_in 22 [1, 2, 22] = true := rfl
theorem in_6 : tp_in 3 [3] = true := rfl
theorem in_7 : tp_in 4 [4, 5, 6, 7, 28, 29] = true := rfl
theorem in_8 : tp_in 5 [4, 5, 6, 7, 28, 29] = true := rfl
theorem in_9 : tp_in 6 [4, 5, 6, 7, 28, 29] = true := rfl
theorem in_10 : tp_in 7 [4, 5, 6, 7, 28, 29] = true := rfl
theorem in_11 : tp_in 28 [4, 5, 6, 7, 28, 29] = true := rfl
theorem in_12 : tp_in 29 [4, 5, 6, 7, 28, 29] = true := rfl
theorem in_13 : tp_in 0 [0] = true := rfl
theorem in_14 : tp_in 1 [1, 2] = true := rfl
theorem in_15 : tp_in 2 [1, 2] = true := rfl
theorem in_16 : tp_in 6 [6] = true := rfl
theorem in_17 : tp_in 7 [7] = true := rfl
theorem in_18 : tp_in 0 [0, 1, 6, 7] = true := rfl
theorem in_19 : tp_in 1 [0, 1, 6, 7] = true := rfl
theorem in_20 : tp_in 6 [0, 1, 6, 7] = true := rfl
theorem in_21 : tp_in 7 [0, 1, 6, 7] = true := rfl
end Red
def RW := And.intro @r_null <| And.intro @r_int <| And.intro @r_lng <| And.intro @r_gs <| And.intro @r_ild <| And.intro @r_lld <| And.intro @r_ald <| And.intro @r_ist <| And.intro @r_lst <| And.intro @r_ast <| And.intro @r_inc <| And.intro @r_iadd <| And.intro @r_isub <| And.intro @r_imul <| And.intro @r_idiv <| And.intro @r_irem <| And.intro @r_iand <| And.intro @r_ior <| And.intro @r_ishl <| And.intro @r_ishr <| And.intro @r_ladd <| And.intro @r_lsub <| And.intro @r_lmul <| And.intro @r_ldiv <| And.intro @r_lor <| And.intro @r_lshl <| And.intro @r_ineg <| And.intro @r_lneg <| And.intro @r_i2l <| And.intro @r_l2i <| And.intro @r_i2b <| And.intro @r_i2c <| And.intro @r_lcmp <| And.intro @r_dupI <| And.intro @r_dupR <| And.intro @r_dup_x1 <| And.intro @r_dup2 <| And.intro @r_popI <| And.intro @r_popR <| And.intro @r_ifeq <| And.intro @r_ifne <| And.intro @r_iflt <| And.intro @r_ifge <| And.intro @r_ifgt <| And.intro @r_ifle <| And.intro @r_icmpeq <| And.intro @r_icmpne <| And.intro @r_icmplt <| And.intro @r_icmpge <| And.intro @r_icmpgt <| And.intro @r_icmple <| And.intro @r_acmpeq <| And.intro @r_acmpne <| And.intro @r_ifnull <| And.intro @r_ifnon <| And.intro @r_goto <| And.intro @r_fall <| And.intro @r_sw <| And.intro @r_getf <| And.intro @r_putf <| And.intro @r_lda <| And.intro @r_sta <| And.intro @r_aast <| And.intro @r_alen <| And.intro @r_newa <| And.intro @r_new2 <| And.intro @r_new3 <| And.intro @r_new <| And.intro @r_cast <| And.intro @r_cs <| And.intro @r_cv <| And.intro @r_cp <| And.intro @r_ci <| And.intro @r_vret <| And.intro @r_iret <| And.intro @r_zret <| And.intro @r_bret <| And.intro @r_cret <| And.intro @r_lret <| And.intro @r_aret <| And.intro @r_thr <| And.intro @r_objinit <| And.intro @r_excinit <| And.intro @r_acopy <| And.intro @r_mmax <| And.intro @r_mmin <| And.intro @r_mabs <| And.intro @r_lmax <| And.intro @r_lmin @r_getcls
def RK := And.intro wd_0 <| And.intro @wd_I <| And.intro @wd_A <| And.intro @wd_J <| And.intro @kI_0 <| And.intro @kI_s <| And.intro @kJ_0 <| And.intro @kJ_s <| And.intro @kA_0 <| And.intro @kA_s <| And.intro @ksw_n <| And.intro @ksw_c <| And.intro @kf_s <| And.intro @ka_s <| And.intro @ko_s <| And.intro @kp_0 <| And.intro @kp_s <| And.intro @kr_s <| And.intro @kn_s <| And.intro @find_c <| And.intro @rt_n <| And.intro @rt_v <| And.intro @rt_x <| And.intro @rt_h <| And.intro @s1_0 <| And.intro @s1_s <| And.intro @s2_0 <| And.intro @s2_s <| And.intro @fx_n <| And.intro @fx_I <| And.intro @fx_A <| And.intro @fx_J <| And.intro @fx_J0 <| And.intro @en_0 <| And.intro @en_I <| And.intro @en_A <| And.intro @en_J <| And.intro @fit_I <| And.intro @fit_Z <| And.intro @fit_B <| And.intro @fit_J <| And.intro @fit_A <| And.intro @lf_0 <| And.intro @lf_s <| And.intro @df_0 <| And.intro @df_1 <| And.intro @df_2 <| And.intro @df_3 <| And.intro @df_4 <| And.intro in_1 <| And.intro in_2 <| And.intro in_3 <| And.intro in_4 <| And.intro in_5 <| And.intro in_6 <| And.intro in_7 <| And.intro in_8 <| And.intro in_9 <| And.intro in_10 <| And.intro in_11 <| And.intro in_12 <| And.intro in_13 <| And.intro in_14 <| And.intro in_15 <| And.intro in_16 <| And.intro in_17 <| And.intro in_18 <| And.intro in_19 <| And.intro in_20 in_21
