/-! SOUNDNESS 8: the run as a whole -/
def tp_Mo (op : tp_Op) : Prop := ∀ (L : tp_L) (S : tp_T) (h : tp_H) (nx : tp_N), op.2 L S h = some nx → ∃ t L' S' h', nx = .inl (t, L', S', h') ∧ hnx h ≤ hnx h' ∧ hsl h ≤ hsl h'
def tp_isE (op : tp_Op) : Prop := ∀ (L : tp_L) (S : tp_T) (h : tp_H) (nx : tp_N), op.2 L S h = some nx → ∃ o, nx = .inr (.inr (o, h))
/-- what a call's handler may be, at pc -/
def tp_Hd (own : MethodName) (pc hd : Nat) : Prop := hd = 0 ∨ (hd = 1 ∧ tp_hh own = []) ∨ (hd = 72 ∧ own = ⟨"ThroughPack", "text", "()I"⟩ ∧ 30 ≤ pc ∧ pc < 62)
def tp_isC (own : MethodName) (pc : Nat) (op : tp_Op) : Prop := ∀ (L : tp_L) (S : tp_T) (h : tp_H) (nx : tp_N), op.2 L S h = some nx → ∃ k' hd as S', nx = .inr (.inl (k', hd, as, L, S', h)) ∧ tp_Hd own pc hd
section Mo
variable {i : Instr} {x : Int} {a b c j k n t : Nat} {o : Int} {ts cs : List Nat} {ps : List (Int × Nat)} {ds : List tp_V}
theorem mo_null : tp_Mo (o_null) := by
  intro L S h nx e
  simp only [o_null, tp_go, tp_jp] at e
  repeat' split at e
  all_goals first | (cases e; exact ⟨_, _, _, _, rfl, Nat.le_refl _, Nat.le_refl _⟩) | (cases e; done)
theorem mo_int : tp_Mo (o_int i x) := by
  intro L S h nx e
  simp only [o_int, tp_go, tp_jp] at e
  repeat' split at e
  all_goals first | (cases e; exact ⟨_, _, _, _, rfl, Nat.le_refl _, Nat.le_refl _⟩) | (cases e; done)
theorem mo_lng : tp_Mo (o_lng i x) := by
  intro L S h nx e
  simp only [o_lng, tp_go, tp_jp] at e
  repeat' split at e
  all_goals first | (cases e; exact ⟨_, _, _, _, rfl, Nat.le_refl _, Nat.le_refl _⟩) | (cases e; done)
theorem mo_gs : tp_Mo (o_gs i j) := by
  intro L S h nx e
  simp only [o_gs, tp_go, tp_jp] at e
  repeat' split at e
  all_goals first | (cases e; exact ⟨_, _, _, _, rfl, Nat.le_refl _, Nat.le_refl _⟩) | (cases e; done)
theorem mo_ild : tp_Mo (o_ild i a) := by
  intro L S h nx e
  simp only [o_ild, tp_go, tp_jp] at e
  repeat' split at e
  all_goals first | (cases e; exact ⟨_, _, _, _, rfl, Nat.le_refl _, Nat.le_refl _⟩) | (cases e; done)
theorem mo_lld : tp_Mo (o_lld i a) := by
  intro L S h nx e
  simp only [o_lld, tp_go, tp_jp] at e
  repeat' split at e
  all_goals first | (cases e; exact ⟨_, _, _, _, rfl, Nat.le_refl _, Nat.le_refl _⟩) | (cases e; done)
theorem mo_ald : tp_Mo (o_ald i a) := by
  intro L S h nx e
  simp only [o_ald, tp_go, tp_jp] at e
  repeat' split at e
  all_goals first | (cases e; exact ⟨_, _, _, _, rfl, Nat.le_refl _, Nat.le_refl _⟩) | (cases e; done)
theorem mo_ist : tp_Mo (o_ist i a) := by
  intro L S h nx e
  simp only [o_ist, tp_go, tp_jp] at e
  repeat' split at e
  all_goals first | (cases e; exact ⟨_, _, _, _, rfl, Nat.le_refl _, Nat.le_refl _⟩) | (cases e; done)
theorem mo_lst : tp_Mo (o_lst i a) := by
  intro L S h nx e
  simp only [o_lst, tp_go, tp_jp] at e
  repeat' split at e
  all_goals first | (cases e; exact ⟨_, _, _, _, rfl, Nat.le_refl _, Nat.le_refl _⟩) | (cases e; done)
theorem mo_ast : tp_Mo (o_ast i a) := by
  intro L S h nx e
  simp only [o_ast, tp_go, tp_jp] at e
  repeat' split at e
  all_goals first | (cases e; exact ⟨_, _, _, _, rfl, Nat.le_refl _, Nat.le_refl _⟩) | (cases e; done)
theorem mo_inc : tp_Mo (o_inc a x) := by
  intro L S h nx e
  simp only [o_inc, tp_go, tp_jp] at e
  repeat' split at e
  all_goals first | (cases e; exact ⟨_, _, _, _, rfl, Nat.le_refl _, Nat.le_refl _⟩) | (cases e; done)
theorem mo_iadd : tp_Mo (o_iadd) := by
  intro L S h nx e
  simp only [o_iadd, tp_i2, tp_go, tp_jp] at e
  repeat' split at e
  all_goals first | (cases e; exact ⟨_, _, _, _, rfl, Nat.le_refl _, Nat.le_refl _⟩) | (cases e; done)
theorem mo_isub : tp_Mo (o_isub) := by
  intro L S h nx e
  simp only [o_isub, tp_i2, tp_go, tp_jp] at e
  repeat' split at e
  all_goals first | (cases e; exact ⟨_, _, _, _, rfl, Nat.le_refl _, Nat.le_refl _⟩) | (cases e; done)
theorem mo_imul : tp_Mo (o_imul) := by
  intro L S h nx e
  simp only [o_imul, tp_i2, tp_go, tp_jp] at e
  repeat' split at e
  all_goals first | (cases e; exact ⟨_, _, _, _, rfl, Nat.le_refl _, Nat.le_refl _⟩) | (cases e; done)
theorem mo_idiv : tp_Mo (o_idiv) := by
  intro L S h nx e
  simp only [o_idiv, tp_i2, tp_go, tp_jp] at e
  repeat' split at e
  all_goals first | (cases e; exact ⟨_, _, _, _, rfl, Nat.le_refl _, Nat.le_refl _⟩) | (cases e; done)
theorem mo_irem : tp_Mo (o_irem) := by
  intro L S h nx e
  simp only [o_irem, tp_i2, tp_go, tp_jp] at e
  repeat' split at e
  all_goals first | (cases e; exact ⟨_, _, _, _, rfl, Nat.le_refl _, Nat.le_refl _⟩) | (cases e; done)
theorem mo_iand : tp_Mo (o_iand) := by
  intro L S h nx e
  simp only [o_iand, tp_i2, tp_go, tp_jp] at e
  repeat' split at e
  all_goals first | (cases e; exact ⟨_, _, _, _, rfl, Nat.le_refl _, Nat.le_refl _⟩) | (cases e; done)
theorem mo_ior : tp_Mo (o_ior) := by
  intro L S h nx e
  simp only [o_ior, tp_i2, tp_go, tp_jp] at e
  repeat' split at e
  all_goals first | (cases e; exact ⟨_, _, _, _, rfl, Nat.le_refl _, Nat.le_refl _⟩) | (cases e; done)
theorem mo_ishl : tp_Mo (o_ishl) := by
  intro L S h nx e
  simp only [o_ishl, tp_i2, tp_go, tp_jp] at e
  repeat' split at e
  all_goals first | (cases e; exact ⟨_, _, _, _, rfl, Nat.le_refl _, Nat.le_refl _⟩) | (cases e; done)
theorem mo_ishr : tp_Mo (o_ishr) := by
  intro L S h nx e
  simp only [o_ishr, tp_i2, tp_go, tp_jp] at e
  repeat' split at e
  all_goals first | (cases e; exact ⟨_, _, _, _, rfl, Nat.le_refl _, Nat.le_refl _⟩) | (cases e; done)
theorem mo_ladd : tp_Mo (o_ladd) := by
  intro L S h nx e
  simp only [o_ladd, tp_l2, tp_go, tp_jp] at e
  repeat' split at e
  all_goals first | (cases e; exact ⟨_, _, _, _, rfl, Nat.le_refl _, Nat.le_refl _⟩) | (cases e; done)
theorem mo_lsub : tp_Mo (o_lsub) := by
  intro L S h nx e
  simp only [o_lsub, tp_l2, tp_go, tp_jp] at e
  repeat' split at e
  all_goals first | (cases e; exact ⟨_, _, _, _, rfl, Nat.le_refl _, Nat.le_refl _⟩) | (cases e; done)
theorem mo_lmul : tp_Mo (o_lmul) := by
  intro L S h nx e
  simp only [o_lmul, tp_l2, tp_go, tp_jp] at e
  repeat' split at e
  all_goals first | (cases e; exact ⟨_, _, _, _, rfl, Nat.le_refl _, Nat.le_refl _⟩) | (cases e; done)
theorem mo_ldiv : tp_Mo (o_ldiv) := by
  intro L S h nx e
  simp only [o_ldiv, tp_l2, tp_go, tp_jp] at e
  repeat' split at e
  all_goals first | (cases e; exact ⟨_, _, _, _, rfl, Nat.le_refl _, Nat.le_refl _⟩) | (cases e; done)
theorem mo_lor : tp_Mo (o_lor) := by
  intro L S h nx e
  simp only [o_lor, tp_l2, tp_go, tp_jp] at e
  repeat' split at e
  all_goals first | (cases e; exact ⟨_, _, _, _, rfl, Nat.le_refl _, Nat.le_refl _⟩) | (cases e; done)
theorem mo_lshl : tp_Mo (o_lshl) := by
  intro L S h nx e
  simp only [o_lshl, tp_go, tp_jp] at e
  repeat' split at e
  all_goals first | (cases e; exact ⟨_, _, _, _, rfl, Nat.le_refl _, Nat.le_refl _⟩) | (cases e; done)
theorem mo_ineg : tp_Mo (o_ineg) := by
  intro L S h nx e
  simp only [o_ineg, tp_go, tp_jp] at e
  repeat' split at e
  all_goals first | (cases e; exact ⟨_, _, _, _, rfl, Nat.le_refl _, Nat.le_refl _⟩) | (cases e; done)
theorem mo_lneg : tp_Mo (o_lneg) := by
  intro L S h nx e
  simp only [o_lneg, tp_go, tp_jp] at e
  repeat' split at e
  all_goals first | (cases e; exact ⟨_, _, _, _, rfl, Nat.le_refl _, Nat.le_refl _⟩) | (cases e; done)
theorem mo_i2l : tp_Mo (o_i2l) := by
  intro L S h nx e
  simp only [o_i2l, tp_go, tp_jp] at e
  repeat' split at e
  all_goals first | (cases e; exact ⟨_, _, _, _, rfl, Nat.le_refl _, Nat.le_refl _⟩) | (cases e; done)
theorem mo_l2i : tp_Mo (o_l2i) := by
  intro L S h nx e
  simp only [o_l2i, tp_go, tp_jp] at e
  repeat' split at e
  all_goals first | (cases e; exact ⟨_, _, _, _, rfl, Nat.le_refl _, Nat.le_refl _⟩) | (cases e; done)
theorem mo_i2b : tp_Mo (o_i2b) := by
  intro L S h nx e
  simp only [o_i2b, tp_go, tp_jp] at e
  repeat' split at e
  all_goals first | (cases e; exact ⟨_, _, _, _, rfl, Nat.le_refl _, Nat.le_refl _⟩) | (cases e; done)
theorem mo_i2c : tp_Mo (o_i2c) := by
  intro L S h nx e
  simp only [o_i2c, tp_go, tp_jp] at e
  repeat' split at e
  all_goals first | (cases e; exact ⟨_, _, _, _, rfl, Nat.le_refl _, Nat.le_refl _⟩) | (cases e; done)
theorem mo_lcmp : tp_Mo (o_lcmp) := by
  intro L S h nx e
  simp only [o_lcmp, tp_go, tp_jp] at e
  repeat' split at e
  all_goals first | (cases e; exact ⟨_, _, _, _, rfl, Nat.le_refl _, Nat.le_refl _⟩) | (cases e; done)
theorem mo_dup : tp_Mo (o_dup) := by
  intro L S h nx e
  simp only [o_dup, tp_go, tp_jp] at e
  repeat' split at e
  all_goals first | (cases e; exact ⟨_, _, _, _, rfl, Nat.le_refl _, Nat.le_refl _⟩) | (cases e; done)
theorem mo_dup_x1 : tp_Mo (o_dup_x1) := by
  intro L S h nx e
  simp only [o_dup_x1, tp_go, tp_jp] at e
  repeat' split at e
  all_goals first | (cases e; exact ⟨_, _, _, _, rfl, Nat.le_refl _, Nat.le_refl _⟩) | (cases e; done)
theorem mo_dup2 : tp_Mo (o_dup2) := by
  intro L S h nx e
  simp only [o_dup2, tp_go, tp_jp] at e
  repeat' split at e
  all_goals first | (cases e; exact ⟨_, _, _, _, rfl, Nat.le_refl _, Nat.le_refl _⟩) | (cases e; done)
theorem mo_pop : tp_Mo (o_pop) := by
  intro L S h nx e
  simp only [o_pop, tp_go, tp_jp] at e
  repeat' split at e
  all_goals first | (cases e; exact ⟨_, _, _, _, rfl, Nat.le_refl _, Nat.le_refl _⟩) | (cases e; done)
theorem mo_ifeq : tp_Mo (o_ifeq o t) := by
  intro L S h nx e
  simp only [o_ifeq, tp_j1, tp_go, tp_jp] at e
  repeat' split at e
  all_goals first | (cases e; exact ⟨_, _, _, _, rfl, Nat.le_refl _, Nat.le_refl _⟩) | (cases e; done)
theorem mo_ifne : tp_Mo (o_ifne o t) := by
  intro L S h nx e
  simp only [o_ifne, tp_j1, tp_go, tp_jp] at e
  repeat' split at e
  all_goals first | (cases e; exact ⟨_, _, _, _, rfl, Nat.le_refl _, Nat.le_refl _⟩) | (cases e; done)
theorem mo_iflt : tp_Mo (o_iflt o t) := by
  intro L S h nx e
  simp only [o_iflt, tp_j1, tp_go, tp_jp] at e
  repeat' split at e
  all_goals first | (cases e; exact ⟨_, _, _, _, rfl, Nat.le_refl _, Nat.le_refl _⟩) | (cases e; done)
theorem mo_ifge : tp_Mo (o_ifge o t) := by
  intro L S h nx e
  simp only [o_ifge, tp_j1, tp_go, tp_jp] at e
  repeat' split at e
  all_goals first | (cases e; exact ⟨_, _, _, _, rfl, Nat.le_refl _, Nat.le_refl _⟩) | (cases e; done)
theorem mo_ifgt : tp_Mo (o_ifgt o t) := by
  intro L S h nx e
  simp only [o_ifgt, tp_j1, tp_go, tp_jp] at e
  repeat' split at e
  all_goals first | (cases e; exact ⟨_, _, _, _, rfl, Nat.le_refl _, Nat.le_refl _⟩) | (cases e; done)
theorem mo_ifle : tp_Mo (o_ifle o t) := by
  intro L S h nx e
  simp only [o_ifle, tp_j1, tp_go, tp_jp] at e
  repeat' split at e
  all_goals first | (cases e; exact ⟨_, _, _, _, rfl, Nat.le_refl _, Nat.le_refl _⟩) | (cases e; done)
theorem mo_icmpeq : tp_Mo (o_icmpeq o t) := by
  intro L S h nx e
  simp only [o_icmpeq, tp_j2, tp_go, tp_jp] at e
  repeat' split at e
  all_goals first | (cases e; exact ⟨_, _, _, _, rfl, Nat.le_refl _, Nat.le_refl _⟩) | (cases e; done)
theorem mo_icmpne : tp_Mo (o_icmpne o t) := by
  intro L S h nx e
  simp only [o_icmpne, tp_j2, tp_go, tp_jp] at e
  repeat' split at e
  all_goals first | (cases e; exact ⟨_, _, _, _, rfl, Nat.le_refl _, Nat.le_refl _⟩) | (cases e; done)
theorem mo_icmplt : tp_Mo (o_icmplt o t) := by
  intro L S h nx e
  simp only [o_icmplt, tp_j2, tp_go, tp_jp] at e
  repeat' split at e
  all_goals first | (cases e; exact ⟨_, _, _, _, rfl, Nat.le_refl _, Nat.le_refl _⟩) | (cases e; done)
theorem mo_icmpge : tp_Mo (o_icmpge o t) := by
  intro L S h nx e
  simp only [o_icmpge, tp_j2, tp_go, tp_jp] at e
  repeat' split at e
  all_goals first | (cases e; exact ⟨_, _, _, _, rfl, Nat.le_refl _, Nat.le_refl _⟩) | (cases e; done)
theorem mo_icmpgt : tp_Mo (o_icmpgt o t) := by
  intro L S h nx e
  simp only [o_icmpgt, tp_j2, tp_go, tp_jp] at e
  repeat' split at e
  all_goals first | (cases e; exact ⟨_, _, _, _, rfl, Nat.le_refl _, Nat.le_refl _⟩) | (cases e; done)
theorem mo_icmple : tp_Mo (o_icmple o t) := by
  intro L S h nx e
  simp only [o_icmple, tp_j2, tp_go, tp_jp] at e
  repeat' split at e
  all_goals first | (cases e; exact ⟨_, _, _, _, rfl, Nat.le_refl _, Nat.le_refl _⟩) | (cases e; done)
theorem mo_acmpeq : tp_Mo (o_acmpeq o t) := by
  intro L S h nx e
  simp only [o_acmpeq, tp_go, tp_jp] at e
  repeat' split at e
  all_goals first | (cases e; exact ⟨_, _, _, _, rfl, Nat.le_refl _, Nat.le_refl _⟩) | (cases e; done)
theorem mo_acmpne : tp_Mo (o_acmpne o t) := by
  intro L S h nx e
  simp only [o_acmpne, tp_go, tp_jp] at e
  repeat' split at e
  all_goals first | (cases e; exact ⟨_, _, _, _, rfl, Nat.le_refl _, Nat.le_refl _⟩) | (cases e; done)
theorem mo_ifnull : tp_Mo (o_ifnull o t) := by
  intro L S h nx e
  simp only [o_ifnull, tp_go, tp_jp] at e
  repeat' split at e
  all_goals first | (cases e; exact ⟨_, _, _, _, rfl, Nat.le_refl _, Nat.le_refl _⟩) | (cases e; done)
theorem mo_ifnon : tp_Mo (o_ifnon o t) := by
  intro L S h nx e
  simp only [o_ifnon, tp_go, tp_jp] at e
  repeat' split at e
  all_goals first | (cases e; exact ⟨_, _, _, _, rfl, Nat.le_refl _, Nat.le_refl _⟩) | (cases e; done)
theorem mo_goto : tp_Mo (o_goto o t) := by
  intro L S h nx e
  simp only [o_goto, tp_go, tp_jp] at e
  repeat' split at e
  all_goals first | (cases e; exact ⟨_, _, _, _, rfl, Nat.le_refl _, Nat.le_refl _⟩) | (cases e; done)
theorem mo_sw : tp_Mo (o_sw i ps t) := by
  intro L S h nx e
  simp only [o_sw, tp_go, tp_jp] at e
  repeat' split at e
  all_goals first | (cases e; exact ⟨_, _, _, _, rfl, Nat.le_refl _, Nat.le_refl _⟩) | (cases e; done)
theorem mo_getf : tp_Mo (o_getf i b j) := by
  intro L S h nx e
  simp only [o_getf, tp_go, tp_jp] at e
  repeat' split at e
  all_goals first | (cases e; exact ⟨_, _, _, _, rfl, Nat.le_refl _, Nat.le_refl _⟩) | (cases e; done)
theorem mo_putf : tp_Mo (o_putf i b j k) := by
  intro L S h nx e
  simp only [o_putf, tp_go, tp_jp] at e
  repeat' split at e
  all_goals first | (cases e; exact ⟨_, _, _, _, rfl, Nat.le_refl _, Nat.le_refl _⟩) | (cases e; done)
theorem mo_lda : tp_Mo (o_lda i ts) := by
  intro L S h nx e
  simp only [o_lda, tp_go, tp_jp] at e
  repeat' split at e
  all_goals first | (cases e; exact ⟨_, _, _, _, rfl, Nat.le_refl _, Nat.le_refl _⟩) | (cases e; done)
theorem mo_sta : tp_Mo (o_sta i ts) := by
  intro L S h nx e
  simp only [o_sta, tp_go, tp_jp] at e
  repeat' split at e
  all_goals first | (cases e; exact ⟨_, _, _, _, rfl, Nat.le_refl _, Nat.le_refl _⟩) | (cases e; done)
theorem mo_aast : tp_Mo (o_aast ts cs) := by
  intro L S h nx e
  simp only [o_aast, tp_go, tp_jp] at e
  repeat' split at e
  all_goals first | (cases e; exact ⟨_, _, _, _, rfl, Nat.le_refl _, Nat.le_refl _⟩) | (cases e; done)
theorem mo_alen : tp_Mo (o_alen) := by
  intro L S h nx e
  simp only [o_alen, tp_go, tp_jp] at e
  repeat' split at e
  all_goals first | (cases e; exact ⟨_, _, _, _, rfl, Nat.le_refl _, Nat.le_refl _⟩) | (cases e; done)
theorem mo_cast : tp_Mo (o_cast i cs) := by
  intro L S h nx e
  simp only [o_cast, tp_go, tp_jp] at e
  repeat' split at e
  all_goals first | (cases e; exact ⟨_, _, _, _, rfl, Nat.le_refl _, Nat.le_refl _⟩) | (cases e; done)
theorem mo_objinit : tp_Mo (o_objinit i) := by
  intro L S h nx e
  simp only [o_objinit, tp_go, tp_jp] at e
  repeat' split at e
  all_goals first | (cases e; exact ⟨_, _, _, _, rfl, Nat.le_refl _, Nat.le_refl _⟩) | (cases e; done)
theorem mo_excinit : tp_Mo (o_excinit i) := by
  intro L S h nx e
  simp only [o_excinit, tp_go, tp_jp] at e
  repeat' split at e
  all_goals first | (cases e; exact ⟨_, _, _, _, rfl, Nat.le_refl _, Nat.le_refl _⟩) | (cases e; done)
theorem mo_acopy : tp_Mo (o_acopy i) := by
  intro L S h nx e
  simp only [o_acopy, tp_go, tp_jp] at e
  repeat' split at e
  all_goals first | (cases e; exact ⟨_, _, _, _, rfl, Nat.le_refl _, Nat.le_refl _⟩) | (cases e; done)
theorem mo_getcls : tp_Mo (o_getcls i) := by
  intro L S h nx e
  simp only [o_getcls, tp_go, tp_jp] at e
  repeat' split at e
  all_goals first | (cases e; exact ⟨_, _, _, _, rfl, Nat.le_refl _, Nat.le_refl _⟩) | (cases e; done)
theorem mo_fall : tp_Mo (o_fall t) := by
  intro L S h nx e
  simp only [o_fall, tp_go, tp_jp] at e
  repeat' split at e
  all_goals first | (cases e; exact ⟨_, _, _, _, rfl, Nat.le_refl _, Nat.le_refl _⟩) | (cases e; done)
theorem mo_mmax : tp_Mo (o_mmax i) := by
  intro L S h nx e
  simp only [o_mmax, tp_go, tp_jp] at e
  repeat' split at e
  all_goals first | (cases e; exact ⟨_, _, _, _, rfl, Nat.le_refl _, Nat.le_refl _⟩) | (cases e; done)
theorem mo_mmin : tp_Mo (o_mmin i) := by
  intro L S h nx e
  simp only [o_mmin, tp_go, tp_jp] at e
  repeat' split at e
  all_goals first | (cases e; exact ⟨_, _, _, _, rfl, Nat.le_refl _, Nat.le_refl _⟩) | (cases e; done)
theorem mo_mabs : tp_Mo (o_mabs i) := by
  intro L S h nx e
  simp only [o_mabs, tp_go, tp_jp] at e
  repeat' split at e
  all_goals first | (cases e; exact ⟨_, _, _, _, rfl, Nat.le_refl _, Nat.le_refl _⟩) | (cases e; done)
theorem mo_lmax : tp_Mo (o_lmax i) := by
  intro L S h nx e
  simp only [o_lmax, tp_go, tp_jp] at e
  repeat' split at e
  all_goals first | (cases e; exact ⟨_, _, _, _, rfl, Nat.le_refl _, Nat.le_refl _⟩) | (cases e; done)
theorem mo_lmin : tp_Mo (o_lmin i) := by
  intro L S h nx e
  simp only [o_lmin, tp_go, tp_jp] at e
  repeat' split at e
  all_goals first | (cases e; exact ⟨_, _, _, _, rfl, Nat.le_refl _, Nat.le_refl _⟩) | (cases e; done)
theorem mo_newa : tp_Mo (o_newa i t) := by
  intro L S h nx e
  simp only [o_newa, tp_go] at e
  repeat' split at e
  all_goals first | (cases e; exact ⟨_, _, _, _, rfl, by rw [hnx_new]; omega, by rw [hsl_new]; omega⟩) | (cases e; done)
theorem mo_new : tp_Mo (o_new i b n ds) := by
  intro L S h nx e
  cases e
  exact ⟨_, _, _, _, rfl, by rw [hnx_new]; omega, by rw [hsl_new]; omega⟩
theorem tp_many_le (H : tp_H) (e : Nat → tp_E) (n : Nat) : ∀ k, hnx (hmany H k e n) = hnx H + k ∧ hsl (hmany H k e n) = hsl H + k * n
  | 0 => ⟨rfl, by rw [Nat.zero_mul]; rfl⟩
  | k + 1 => by
    obtain ⟨h1, h2⟩ := tp_many_le H e n k
    refine ⟨by show hnx (hnew _ _ _) = _; rw [hnx_new, h1]; omega, ?_⟩
    show hsl (hnew _ _ _) = _
    rw [hsl_new, h2, Nat.succ_mul]; omega
theorem tp_grid_le (H : tp_H) (n k : Nat) : hnx (tp_grid H n k) = hnx H + 1 + n ∧ hsl (tp_grid H n k) = hsl H + n + n * k := by
  obtain ⟨h1, h2⟩ := tp_many_le (hnew H (eA 4 n (fun j => xR (hnx H + 1 + j))) n) (fun _ => eA 0 k (fun _ => xI 0)) k n
  exact ⟨by show hnx (hmany _ _ _ _) = _; rw [h1, hnx_new], by show hsl (hmany _ _ _ _) = _; rw [h2, hsl_new]⟩
theorem tp_cube_le (k l : Nat) : ∀ (xs : List Nat) (H : tp_H), hnx H ≤ hnx (xs.foldl (fun H _ => tp_grid H k l) H) ∧ hsl H ≤ hsl (xs.foldl (fun H _ => tp_grid H k l) H)
  | [], H => ⟨Nat.le_refl _, Nat.le_refl _⟩
  | _ :: xs, H => by
    obtain ⟨h1, h2⟩ := tp_cube_le k l xs (tp_grid H k l)
    obtain ⟨h3, h4⟩ := tp_grid_le H k l
    rw [h3] at h1; rw [h4] at h2
    exact ⟨Nat.le_trans (by omega) h1, Nat.le_trans (by omega) h2⟩
theorem mo_new2 : tp_Mo (o_new2 i) := by
  intro L S h nx e
  simp only [o_new2, tp_go] at e
  repeat' split at e
  all_goals first | (cases e; exact ⟨_, _, _, _, rfl, by rw [(tp_grid_le _ _ _).1]; omega, by rw [(tp_grid_le _ _ _).2]; omega⟩) | (cases e; done)
theorem mo_new3 : tp_Mo (o_new3 i) := by
  intro L S h nx e
  simp only [o_new3, tp_go] at e
  repeat' split at e
  all_goals first | (cases e; exact ⟨_, _, _, _, rfl, Nat.le_trans (by rw [hnx_new]; omega) (tp_cube_le _ _ _ _).1, Nat.le_trans (by rw [hsl_new]; omega) (tp_cube_le _ _ _ _).2⟩) | (cases e; done)
theorem ie_vret : tp_isE (o_vret) := by
  intro L S h nx e
  simp only [o_vret, tp_end] at e
  repeat' split at e
  all_goals first | (cases e; exact ⟨_, rfl⟩) | (cases e; done)
theorem ie_iret : tp_isE (o_iret k) := by
  intro L S h nx e
  simp only [o_iret, tp_end] at e
  repeat' split at e
  all_goals first | (cases e; exact ⟨_, rfl⟩) | (cases e; done)
theorem ie_lret : tp_isE (o_lret) := by
  intro L S h nx e
  simp only [o_lret, tp_end] at e
  repeat' split at e
  all_goals first | (cases e; exact ⟨_, rfl⟩) | (cases e; done)
theorem ie_aret : tp_isE (o_aret) := by
  intro L S h nx e
  simp only [o_aret, tp_end] at e
  repeat' split at e
  all_goals first | (cases e; exact ⟨_, rfl⟩) | (cases e; done)
theorem ie_thr : tp_isE (o_thr) := by
  intro L S h nx e
  simp only [o_thr, tp_end] at e
  repeat' split at e
  all_goals first | (cases e; exact ⟨_, rfl⟩) | (cases e; done)
theorem ic_cs {own : MethodName} {pc : Nat} (hj : tp_Hd own pc j) : tp_isC own pc (o_cs i k n j) := by
  intro L S h nx e
  simp only [o_cs, tp_ask] at e
  repeat' split at e
  all_goals first | (cases e; exact ⟨_, _, _, _, rfl, hj⟩) | (cases e; done)
theorem ic_cv {own : MethodName} {pc : Nat} (hj : tp_Hd own pc j) : tp_isC own pc (o_cv i c k n j) := by
  intro L S h nx e
  simp only [o_cv, tp_ask] at e
  repeat' split at e
  all_goals first | (cases e; exact ⟨_, _, _, _, rfl, hj⟩) | (cases e; done)
theorem ic_cp {own : MethodName} {pc : Nat} (hj : tp_Hd own pc j) : tp_isC own pc (o_cp i k n j) := by
  intro L S h nx e
  simp only [o_cp, tp_ask] at e
  repeat' split at e
  all_goals first | (cases e; exact ⟨_, _, _, _, rfl, hj⟩) | (cases e; done)
theorem ic_ci {own : MethodName} {pc : Nat} {pz : List (Nat × Nat)} (hj : tp_Hd own pc j) : tp_isC own pc (o_ci i pz n j) := by
  intro L S h nx e
  simp only [o_ci, tp_ask] at e
  repeat' split at e
  all_goals first | (cases e; exact ⟨_, _, _, _, rfl, hj⟩) | (cases e; done)
end Mo
