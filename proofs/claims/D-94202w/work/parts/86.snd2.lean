/-! SOUNDNESS 2: locals, constants, switches -/
theorem tp_has {nL : Nat} {L : tp_L} {ls : Array Slot} (h : tp_RL nL L ls) : ∃ lv : List (Nat × Value), lv_has ls nL lv ∧ ∀ (j : Nat) (w : tp_V), L[j]? = some (some w) → ∃ cv, (j, cv) ∈ lv ∧ tp_RV w cv := by
  obtain ⟨h1, h2, h3, h4⟩ := h
  let f : Nat → Option (Nat × Value) := fun i => match ls[i]? with | some (Slot.val cv) => some (i, cv) | _ => none
  refine ⟨(List.range nL).filterMap f, ⟨h2, h3, ?_⟩, ?_⟩
  · intro q hq
    obtain ⟨i, hi, e⟩ := List.mem_filterMap.mp hq
    simp only [f] at e
    split at e
    · rename_i cv e2
      cases e
      exact e2
    · cases e
  · intro j w hj
    obtain ⟨cv, e1, e2⟩ := h4 j w hj
    refine ⟨cv, List.mem_filterMap.mpr ⟨j, ?_, ?_⟩, e2⟩
    · have hl := (List.getElem?_eq_some_iff.mp hj).1
      exact List.mem_range.mpr (by omega)
    · simp only [f, e1]
theorem tp_cat {w : tp_V} {cv : Value} (h : tp_RV w cv) : cv.category = 2 ↔ ∃ x, w = xJ x := by
  rcases w with x | x | _ | a
  · obtain ⟨c, rfl, -⟩ := h; simp [Value.category]
  · obtain ⟨c, rfl, -⟩ := h; simp [Value.category]
  · obtain rfl := h; simp [Value.category]
  · obtain rfl := h; simp [Value.category]
theorem tp_s1_len : ∀ (L : tp_L) (a : Nat) (v : tp_V), (tp_s1 L a v).length = L.length
  | [], _, _ => rfl
  | _ :: _, 0, _ => rfl
  | _ :: L, a + 1, v => congrArg (· + 1) (tp_s1_len L a v)
theorem tp_fx_some {o : Option tp_V} {n : Nat} {w : tp_V} (h : tp_fx o n = some w) : o = some w ∧ (n = 0 → ∀ x, w ≠ xJ x) := by
  rcases o with _ | x | x | r
  · rw [fx_n] at h; cases h
  · rw [fx_I] at h; cases h; exact ⟨rfl, fun _ x h => by cases h⟩
  · cases n with
    | zero => cases h
    | succ n => cases h; exact ⟨rfl, fun h => by omega⟩
  · rw [fx_A] at h; cases h; exact ⟨rfl, fun _ x h => by cases h⟩
theorem tp_s1_get : ∀ (L : tp_L) (a : Nat) (v : tp_V) (j : Nat) (w : tp_V), (tp_s1 L a v)[j]? = some (some w) → (j = a ∧ w = v) ∨ (j ≠ a ∧ L[j]? = some (some w) ∧ (j + 1 = a → ∀ x, w ≠ xJ x))
  | [], _, _, j, w, h => by simp [tp_s1] at h
  | o :: L, 0, v, j, w, h => by
    cases j with
    | zero => simp [tp_s1] at h; exact Or.inl ⟨rfl, h.symm⟩
    | succ j => simp [tp_s1] at h; exact Or.inr ⟨by omega, by simpa using h, fun h => by omega⟩
  | o :: L, a + 1, v, j, w, h => by
    cases j with
    | zero =>
      simp [tp_s1] at h
      obtain ⟨e1, e2⟩ := tp_fx_some h
      exact Or.inr ⟨by omega, by simp [e1], fun h => e2 (by omega)⟩
    | succ j =>
      simp [tp_s1] at h
      rcases tp_s1_get L a v j w h with ⟨e1, e2⟩ | ⟨e1, e2, e3⟩
      · exact Or.inl ⟨by omega, e2⟩
      · exact Or.inr ⟨by omega, by simpa using e2, fun h => e3 (by omega)⟩
theorem tp_s2_len : ∀ (L : tp_L) (a : Nat) (v : tp_V), a + 1 < L.length → (tp_s2 L a v).length = L.length
  | [], _, _, h => by simp at h
  | [_], _, _, h => by simp at h
  | _ :: _ :: _, 0, _, _ => rfl
  | _ :: p :: L, a + 1, v, h => congrArg (· + 1) (tp_s2_len (p :: L) a v (by simp at h ⊢; omega))
theorem tp_s2_get : ∀ (L : tp_L) (a : Nat) (v : tp_V) (j : Nat) (w : tp_V), (tp_s2 L a v)[j]? = some (some w) → (j = a ∧ w = v) ∨ (j ≠ a ∧ j ≠ a + 1 ∧ L[j]? = some (some w) ∧ (j + 1 = a → ∀ x, w ≠ xJ x))
  | [], _, _, j, w, h => by simp [tp_s2] at h
  | [_], _, _, j, w, h => by simp [tp_s2] at h
  | o :: p :: L, 0, v, j, w, h => by
    rcases j with _ | _ | j
    · simp [tp_s2] at h; exact Or.inl ⟨rfl, h.symm⟩
    · simp [tp_s2] at h
    · simp [tp_s2] at h; exact Or.inr ⟨by omega, by omega, by simpa using h, fun h => by omega⟩
  | o :: p :: L, a + 1, v, j, w, h => by
    cases j with
    | zero =>
      simp [tp_s2] at h
      obtain ⟨e1, e2⟩ := tp_fx_some h
      exact Or.inr ⟨by omega, by omega, by simp [e1], fun h => e2 (by omega)⟩
    | succ j =>
      simp only [tp_s2, List.getElem?_cons_succ] at h
      rcases tp_s2_get (p :: L) a v j w h with ⟨e1, e2⟩ | ⟨e1, e0, e2, e3⟩
      · exact Or.inl ⟨by omega, e2⟩
      · exact Or.inr ⟨by omega, by omega, by simpa using e2, fun h => e3 (by omega)⟩
theorem tp_RL_1 {nL a : Nat} {L : tp_L} {ls' : Array Slot} {lv : List (Nat × Value)} {v : tp_V} {cv : Value} (hL : L.length = nL) (hw : ∀ (j : Nat) (w : tp_V), L[j]? = some (some w) → ∃ cv, (j, cv) ∈ lv ∧ tp_RV w cv) (hv : tp_RV v cv)
    (h' : lv_has ls' nL ((a, cv) :: lv.filter (fun q => !(q.1 == a) && !(q.1 + 1 == a && q.2.category == 2)))) : tp_RL nL (tp_s1 L a v) ls' := by
  refine ⟨(tp_s1_len L a v).trans hL, h'.1, h'.2.1, fun j w hj => ?_⟩
  rcases tp_s1_get L a v j w hj with ⟨rfl, rfl⟩ | ⟨e1, e2, e3⟩
  · exact ⟨cv, h'.2.2 (j, cv) List.mem_cons_self, hv⟩
  · obtain ⟨c, hc, hr⟩ := hw j w e2
    refine ⟨c, h'.2.2 (j, c) (List.mem_cons_of_mem _ (List.mem_filter.mpr ⟨hc, ?_⟩)), hr⟩
    by_cases q : j + 1 = a
    · have h2 : ¬ c.category = 2 := fun z => by
        obtain ⟨x, hx⟩ := (tp_cat hr).mp z
        exact e3 q x hx
      simp [e1, h2]
    · simp [e1, q]
theorem tp_RL_2 {nL a : Nat} {L : tp_L} {ls' : Array Slot} {lv : List (Nat × Value)} {v : tp_V} {cv : Value} (hl : a + 1 < nL) (hL : L.length = nL) (hw : ∀ (j : Nat) (w : tp_V), L[j]? = some (some w) → ∃ cv, (j, cv) ∈ lv ∧ tp_RV w cv) (hv : tp_RV v cv)
    (h' : lv_has ls' nL ((a, cv) :: lv.filter (fun q => !(q.1 == a) && (!(q.1 == a + 1) && !(q.1 + 1 == a && q.2.category == 2))))) : tp_RL nL (tp_s2 L a v) ls' := by
  refine ⟨(tp_s2_len L a v (by omega)).trans hL, h'.1, h'.2.1, fun j w hj => ?_⟩
  rcases tp_s2_get L a v j w hj with ⟨rfl, rfl⟩ | ⟨e1, e0, e2, e3⟩
  · exact ⟨cv, h'.2.2 (j, cv) List.mem_cons_self, hv⟩
  · obtain ⟨c, hc, hr⟩ := hw j w e2
    refine ⟨c, h'.2.2 (j, c) (List.mem_cons_of_mem _ (List.mem_filter.mpr ⟨hc, ?_⟩)), hr⟩
    by_cases q : j + 1 = a
    · have h2 : ¬ c.category = 2 := fun z => by
        obtain ⟨x, hx⟩ := (tp_cat hr).mp z
        exact e3 q x hx
      simp [e1, e0, h2]
    · simp [e1, e0, q]
section Sims2
variable {X : tp_X} {own : MethodName} {cc : ByteArray} {ret : Option FieldType} {nL pc : Nat}
theorem sim_ild_n {k : Fin 4} {a : Nat} (hd : decode cc pc = .ok (.iload_n k, 1)) (hk : (k : Nat) = a) : tp_Sim X own cc ret nL pc 1 (o_ild (.iload_n k) a) := by
  intro p l e R s m args below meth c Q a0 b0 F L S h nx hnx
  simp only [o_ild] at hnx
  split at hnx
  · rename_i x hx
    cases hnx
    refine ⟨⟨Nat.le_refl _, Nat.le_refl _⟩, fun _ _ ok => ?_⟩
    intro H locs cells slots ls st hK hL hS hl hc hs
    obtain ⟨cv, e1, e2⟩ := hL.2.2.2 _ _ hx
    obtain ⟨xv, rfl, ex⟩ := e2
    exact lv_iload_n F.1 F.2.1 hd hk e1 (ok _ _ _ _ _ _ hK hL ⟨⟨xv, rfl, ex⟩, hS⟩ hl hc hs)
  · cases hnx
theorem sim_ild {a : Nat} (hd : decode cc pc = .ok (.iload a, 2)) : tp_Sim X own cc ret nL pc 2 (o_ild (.iload a) a) := by
  intro p l e R s m args below meth c Q a0 b0 F L S h nx hnx
  simp only [o_ild] at hnx
  split at hnx
  · rename_i x hx
    cases hnx
    refine ⟨⟨Nat.le_refl _, Nat.le_refl _⟩, fun _ _ ok => ?_⟩
    intro H locs cells slots ls st hK hL hS hl hc hs
    obtain ⟨cv, e1, e2⟩ := hL.2.2.2 _ _ hx
    obtain ⟨xv, rfl, ex⟩ := e2
    exact lv_iload F.1 F.2.1 hd e1 (ok _ _ _ _ _ _ hK hL ⟨⟨xv, rfl, ex⟩, hS⟩ hl hc hs)
  · cases hnx
theorem sim_lld_n {k : Fin 4} {a : Nat} (hd : decode cc pc = .ok (.lload_n k, 1)) (hk : (k : Nat) = a) : tp_Sim X own cc ret nL pc 1 (o_lld (.lload_n k) a) := by
  intro p l e R s m args below meth c Q a0 b0 F L S h nx hnx
  simp only [o_lld] at hnx
  split at hnx
  · rename_i x hx
    cases hnx
    refine ⟨⟨Nat.le_refl _, Nat.le_refl _⟩, fun _ _ ok => ?_⟩
    intro H locs cells slots ls st hK hL hS hl hc hs
    obtain ⟨cv, e1, e2⟩ := hL.2.2.2 _ _ hx
    obtain ⟨xv, rfl, ex⟩ := e2
    exact lv_lload_n F.1 F.2.1 hd hk e1 (ok _ _ _ _ _ _ hK hL ⟨⟨xv, rfl, ex⟩, hS⟩ hl hc hs)
  · cases hnx
theorem sim_lld {a : Nat} (hd : decode cc pc = .ok (.lload a, 2)) : tp_Sim X own cc ret nL pc 2 (o_lld (.lload a) a) := by
  intro p l e R s m args below meth c Q a0 b0 F L S h nx hnx
  simp only [o_lld] at hnx
  split at hnx
  · rename_i x hx
    cases hnx
    refine ⟨⟨Nat.le_refl _, Nat.le_refl _⟩, fun _ _ ok => ?_⟩
    intro H locs cells slots ls st hK hL hS hl hc hs
    obtain ⟨cv, e1, e2⟩ := hL.2.2.2 _ _ hx
    obtain ⟨xv, rfl, ex⟩ := e2
    exact lv_lload F.1 F.2.1 hd e1 (ok _ _ _ _ _ _ hK hL ⟨⟨xv, rfl, ex⟩, hS⟩ hl hc hs)
  · cases hnx
theorem sim_ald_n {k : Fin 4} {a : Nat} (hd : decode cc pc = .ok (.aload_n k, 1)) (hk : (k : Nat) = a) : tp_Sim X own cc ret nL pc 1 (o_ald (.aload_n k) a) := by
  intro p l e R s m args below meth c Q a0 b0 F L S h nx hnx
  simp only [o_ald] at hnx
  split at hnx
  · rename_i x hx
    cases hnx
    refine ⟨⟨Nat.le_refl _, Nat.le_refl _⟩, fun _ _ ok => ?_⟩
    intro H locs cells slots ls st hK hL hS hl hc hs
    obtain ⟨cv, e1, e2⟩ := hL.2.2.2 _ _ hx
    rcases x with _ | q
    · obtain rfl := e2
      exact lv_aload_nN F.1 F.2.1 hd hk e1 (ok _ _ _ _ _ _ hK hL ⟨rfl, hS⟩ hl hc hs)
    · obtain rfl := e2
      exact lv_aload_n F.1 F.2.1 hd hk e1 (ok _ _ _ _ _ _ hK hL ⟨rfl, hS⟩ hl hc hs)
  · cases hnx
theorem sim_ald {a : Nat} (hd : decode cc pc = .ok (.aload a, 2)) : tp_Sim X own cc ret nL pc 2 (o_ald (.aload a) a) := by
  intro p l e R s m args below meth c Q a0 b0 F L S h nx hnx
  simp only [o_ald] at hnx
  split at hnx
  · rename_i x hx
    cases hnx
    refine ⟨⟨Nat.le_refl _, Nat.le_refl _⟩, fun _ _ ok => ?_⟩
    intro H locs cells slots ls st hK hL hS hl hc hs
    obtain ⟨cv, e1, e2⟩ := hL.2.2.2 _ _ hx
    rcases x with _ | q
    · obtain rfl := e2
      exact lv_aloadN F.1 F.2.1 hd e1 (ok _ _ _ _ _ _ hK hL ⟨rfl, hS⟩ hl hc hs)
    · obtain rfl := e2
      exact lv_aload F.1 F.2.1 hd e1 (ok _ _ _ _ _ _ hK hL ⟨rfl, hS⟩ hl hc hs)
  · cases hnx
theorem sim_ist_n {k : Fin 4} {a : Nat} (hd : decode cc pc = .ok (.istore_n k, 1)) (hk : (k : Nat) = a) : tp_Sim X own cc ret nL pc 1 (o_ist (.istore_n k) a) := by
  intro p l e R s m args below meth c Q a0 b0 F L S h nx hnx
  rcases S with _ | ⟨x | x, S⟩ <;> try (simp [o_ist] at hnx; done)
  by_cases ha : a < L.length
  · simp only [o_ist, if_pos ha] at hnx
    cases hnx
    refine ⟨⟨Nat.le_refl _, Nat.le_refl _⟩, fun _ _ ok => ?_⟩
    intro H locs cells slots ls st hK hL hS hl hc hs
    rcases st with _ | ⟨_, st⟩
    · exact hS.elim
    · obtain ⟨e2, hS⟩ := hS
      obtain ⟨lv, hv, hw⟩ := tp_has hL
      obtain ⟨xv, rfl, ex⟩ := e2
      exact lv_istore_n F.1 F.2.1 hd hk hv (by have := hL.1; omega) rfl (fun ls' h' => ok _ _ _ _ _ _ hK (tp_RL_1 hL.1 hw ⟨xv, rfl, ex⟩ h') hS hl hc hs)
  · simp [o_ist, ha] at hnx
theorem sim_ist {a : Nat} (hd : decode cc pc = .ok (.istore a, 2)) : tp_Sim X own cc ret nL pc 2 (o_ist (.istore a) a) := by
  intro p l e R s m args below meth c Q a0 b0 F L S h nx hnx
  rcases S with _ | ⟨x | x, S⟩ <;> try (simp [o_ist] at hnx; done)
  by_cases ha : a < L.length
  · simp only [o_ist, if_pos ha] at hnx
    cases hnx
    refine ⟨⟨Nat.le_refl _, Nat.le_refl _⟩, fun _ _ ok => ?_⟩
    intro H locs cells slots ls st hK hL hS hl hc hs
    rcases st with _ | ⟨_, st⟩
    · exact hS.elim
    · obtain ⟨e2, hS⟩ := hS
      obtain ⟨lv, hv, hw⟩ := tp_has hL
      obtain ⟨xv, rfl, ex⟩ := e2
      exact lv_istore F.1 F.2.1 hd hv (by have := hL.1; omega) rfl (fun ls' h' => ok _ _ _ _ _ _ hK (tp_RL_1 hL.1 hw ⟨xv, rfl, ex⟩ h') hS hl hc hs)
  · simp [o_ist, ha] at hnx
theorem sim_lst_n {k : Fin 4} {a : Nat} (hd : decode cc pc = .ok (.lstore_n k, 1)) (hk : (k : Nat) = a) : tp_Sim X own cc ret nL pc 1 (o_lst (.lstore_n k) a) := by
  intro p l e R s m args below meth c Q a0 b0 F L S h nx hnx
  rcases S with _ | ⟨x | x | x, S⟩ <;> try (simp [o_lst] at hnx; done)
  by_cases ha : a + 1 < L.length
  · simp only [o_lst, if_pos ha] at hnx
    cases hnx
    refine ⟨⟨Nat.le_refl _, Nat.le_refl _⟩, fun _ _ ok => ?_⟩
    intro H locs cells slots ls st hK hL hS hl hc hs
    rcases st with _ | ⟨_, st⟩
    · exact hS.elim
    · obtain ⟨e2, hS⟩ := hS
      obtain ⟨lv, hv, hw⟩ := tp_has hL
      obtain ⟨xv, rfl, ex⟩ := e2
      exact lv_lstore_n F.1 F.2.1 hd hk hv (by have := hL.1; omega) rfl (fun ls' h' => ok _ _ _ _ _ _ hK (tp_RL_2 (by have := hL.1; omega) hL.1 hw ⟨xv, rfl, ex⟩ h') hS hl hc hs)
  · simp [o_lst, ha] at hnx
theorem sim_lst {a : Nat} (hd : decode cc pc = .ok (.lstore a, 2)) : tp_Sim X own cc ret nL pc 2 (o_lst (.lstore a) a) := by
  intro p l e R s m args below meth c Q a0 b0 F L S h nx hnx
  rcases S with _ | ⟨x | x | x, S⟩ <;> try (simp [o_lst] at hnx; done)
  by_cases ha : a + 1 < L.length
  · simp only [o_lst, if_pos ha] at hnx
    cases hnx
    refine ⟨⟨Nat.le_refl _, Nat.le_refl _⟩, fun _ _ ok => ?_⟩
    intro H locs cells slots ls st hK hL hS hl hc hs
    rcases st with _ | ⟨_, st⟩
    · exact hS.elim
    · obtain ⟨e2, hS⟩ := hS
      obtain ⟨lv, hv, hw⟩ := tp_has hL
      obtain ⟨xv, rfl, ex⟩ := e2
      exact lv_lstore F.1 F.2.1 hd hv (by have := hL.1; omega) rfl (fun ls' h' => ok _ _ _ _ _ _ hK (tp_RL_2 (by have := hL.1; omega) hL.1 hw ⟨xv, rfl, ex⟩ h') hS hl hc hs)
  · simp [o_lst, ha] at hnx
theorem sim_ast_n {k : Fin 4} {a : Nat} (hd : decode cc pc = .ok (.astore_n k, 1)) (hk : (k : Nat) = a) : tp_Sim X own cc ret nL pc 1 (o_ast (.astore_n k) a) := by
  intro p l e R s m args below meth c Q a0 b0 F L S h nx hnx
  rcases S with _ | ⟨x | x | r, S⟩ <;> try (simp [o_ast] at hnx; done)
  by_cases ha : a < L.length
  · simp only [o_ast, if_pos ha] at hnx
    cases hnx
    refine ⟨⟨Nat.le_refl _, Nat.le_refl _⟩, fun _ _ ok => ?_⟩
    intro H locs cells slots ls st hK hL hS hl hc hs
    rcases st with _ | ⟨_, st⟩
    · exact hS.elim
    · obtain ⟨e2, hS⟩ := hS
      obtain ⟨lv, hv, hw⟩ := tp_has hL
      rcases r with _ | q
      · obtain rfl := e2
        exact lv_astore_nN F.1 F.2.1 hd hk hv (by have := hL.1; omega) rfl (fun ls' h' => ok _ _ _ _ _ _ hK (tp_RL_1 hL.1 hw rfl h') hS hl hc hs)
      · obtain rfl := e2
        exact lv_astore_n F.1 F.2.1 hd hk hv (by have := hL.1; omega) rfl (fun ls' h' => ok _ _ _ _ _ _ hK (tp_RL_1 hL.1 hw rfl h') hS hl hc hs)
  · simp [o_ast, ha] at hnx
theorem sim_ast {a : Nat} (hd : decode cc pc = .ok (.astore a, 2)) : tp_Sim X own cc ret nL pc 2 (o_ast (.astore a) a) := by
  intro p l e R s m args below meth c Q a0 b0 F L S h nx hnx
  rcases S with _ | ⟨x | x | r, S⟩ <;> try (simp [o_ast] at hnx; done)
  by_cases ha : a < L.length
  · simp only [o_ast, if_pos ha] at hnx
    cases hnx
    refine ⟨⟨Nat.le_refl _, Nat.le_refl _⟩, fun _ _ ok => ?_⟩
    intro H locs cells slots ls st hK hL hS hl hc hs
    rcases st with _ | ⟨_, st⟩
    · exact hS.elim
    · obtain ⟨e2, hS⟩ := hS
      obtain ⟨lv, hv, hw⟩ := tp_has hL
      rcases r with _ | q
      · obtain rfl := e2
        exact lv_astoreN F.1 F.2.1 hd hv (by have := hL.1; omega) rfl (fun ls' h' => ok _ _ _ _ _ _ hK (tp_RL_1 hL.1 hw rfl h') hS hl hc hs)
      · obtain rfl := e2
        exact lv_astore F.1 F.2.1 hd hv (by have := hL.1; omega) rfl (fun ls' h' => ok _ _ _ _ _ _ hK (tp_RL_1 hL.1 hw rfl h') hS hl hc hs)
  · simp [o_ast, ha] at hnx
theorem sim_inc {a : Nat} {n : Int} (hd : decode cc pc = .ok (.iinc a n, 3)) (hn : -32768 ≤ n ∧ n < 32768) : tp_Sim X own cc ret nL pc 3 (o_inc a n) := by
  intro p l e R s m args below meth c Q a0 b0 F L S h nx hnx
  simp only [o_inc] at hnx
  split at hnx
  · rename_i x hx
    cases hnx
    refine ⟨⟨Nat.le_refl _, Nat.le_refl _⟩, fun _ _ ok => ?_⟩
    intro H locs cells slots ls st hK hL hS hl hc hs
    obtain ⟨lv, hv, hw⟩ := tp_has hL
    obtain ⟨cv, e1, e2⟩ := hw _ _ hx
    obtain ⟨xv, rfl, ex⟩ := e2
    obtain ⟨k, hk⟩ := List.getElem?_of_mem e1
    have hl2 := (List.getElem?_eq_some_iff.mp hx).1
    exact lv_iinc F.1 F.2.1 hd hv hk rfl (by have := hL.1; omega) rfl (fun ls' h' => ok _ _ _ _ _ _ hK (tp_RL_1 hL.1 hw ⟨xv + Int32.ofInt n, rfl, by rw [Int32.toInt_add, ex, Int32.toInt_ofInt_of_le (by omega) (by omega)]; rfl⟩ h') hS hl hc hs)
  · cases hnx
theorem sim_iconst {n : Int} (hd : decode cc pc = .ok (.iconst n, 1)) (hn : -2147483648 ≤ n ∧ n < 2147483648) : tp_Sim X own cc ret nL pc 1 (o_int (.iconst n) n) := by
  intro p l e R s m args below meth c Q a0 b0 F L S h nx hnx
  cases hnx
  refine ⟨⟨Nat.le_refl _, Nat.le_refl _⟩, fun _ _ ok => ?_⟩
  intro H locs cells slots ls st hK hL hS hl hc hs
  exact lv_iconst F.1 F.2.1 hd rfl (ok _ _ _ _ _ _ hK hL ⟨⟨Int32.ofInt n, rfl, Int32.toInt_ofInt_of_le (by omega) (by omega)⟩, hS⟩ hl hc hs)
theorem sim_bipush {n : Int} (hd : decode cc pc = .ok (.bipush n, 2)) (hn : -128 ≤ n ∧ n < 128) : tp_Sim X own cc ret nL pc 2 (o_int (.bipush n) n) := by
  intro p l e R s m args below meth c Q a0 b0 F L S h nx hnx
  cases hnx
  refine ⟨⟨Nat.le_refl _, Nat.le_refl _⟩, fun _ _ ok => ?_⟩
  intro H locs cells slots ls st hK hL hS hl hc hs
  exact lv_bipush F.1 F.2.1 hd rfl (ok _ _ _ _ _ _ hK hL ⟨⟨(Int8.ofInt n).toInt32, rfl, by rw [Int8.toInt_toInt32, Int8.toInt_ofInt_of_le (by omega) (by omega)]⟩, hS⟩ hl hc hs)
theorem sim_sipush {n : Int} (hd : decode cc pc = .ok (.sipush n, 3)) (hn : -32768 ≤ n ∧ n < 32768) : tp_Sim X own cc ret nL pc 3 (o_int (.sipush n) n) := by
  intro p l e R s m args below meth c Q a0 b0 F L S h nx hnx
  cases hnx
  refine ⟨⟨Nat.le_refl _, Nat.le_refl _⟩, fun _ _ ok => ?_⟩
  intro H locs cells slots ls st hK hL hS hl hc hs
  exact lv_sipush F.1 F.2.1 hd rfl (ok _ _ _ _ _ _ hK hL ⟨⟨(Int16.ofInt n).toInt32, rfl, by rw [Int16.toInt_toInt32, Int16.toInt_ofInt_of_le (by omega) (by omega)]⟩, hS⟩ hl hc hs)
theorem sim_lconst0 (hd : decode cc pc = .ok (.lconst 0, 1)) : tp_Sim X own cc ret nL pc 1 (o_lng (.lconst 0) 0) := by
  intro p l e R s m args below meth c Q a0 b0 F L S h nx hnx
  cases hnx
  refine ⟨⟨Nat.le_refl _, Nat.le_refl _⟩, fun _ _ ok => ?_⟩
  intro H locs cells slots ls st hK hL hS hl hc hs
  exact lv_lconst F.1 F.2.1 hd rfl (ok _ _ _ _ _ _ hK hL ⟨⟨_, rfl, rfl⟩, hS⟩ hl hc hs)
theorem sim_lconst1 (hd : decode cc pc = .ok (.lconst 1, 1)) : tp_Sim X own cc ret nL pc 1 (o_lng (.lconst 1) 1) := by
  intro p l e R s m args below meth c Q a0 b0 F L S h nx hnx
  cases hnx
  refine ⟨⟨Nat.le_refl _, Nat.le_refl _⟩, fun _ _ ok => ?_⟩
  intro H locs cells slots ls st hK hL hS hl hc hs
  exact lv_lconst F.1 F.2.1 hd rfl (ok _ _ _ _ _ _ hK hL ⟨⟨_, rfl, rfl⟩, hS⟩ hl hc hs)
theorem sim_null (hd : decode cc pc = .ok (.aconst_null, 1)) : tp_Sim X own cc ret nL pc 1 o_null := by
  intro p l e R s m args below meth c Q a0 b0 F L S h nx hnx
  cases hnx
  refine ⟨⟨Nat.le_refl _, Nat.le_refl _⟩, fun _ _ ok => ?_⟩
  intro H locs cells slots ls st hK hL hS hl hc hs
  exact lv_null F.1 F.2.1 hd (ok _ _ _ _ _ _ hK hL ⟨rfl, hS⟩ hl hc hs)
theorem sim_goto {off : Int} {t : Nat} (hd : decode cc pc = .ok (.goto off, 3)) (ht : (pc : Int) + off = (t : Int)) : tp_Sim X own cc ret nL pc 3 (o_goto off t) := by
  intro p l e R s m args below meth c Q a0 b0 F L S h nx hnx
  cases hnx
  refine ⟨⟨Nat.le_refl _, Nat.le_refl _⟩, fun _ _ ok => ?_⟩
  intro H locs cells slots ls st hK hL hS hl hc hs
  exact lv_goto F.1 F.2.1 hd ht (ok _ _ _ _ _ _ hK hL hS hl hc hs)
theorem sim_pop (hd : decode cc pc = .ok (.pop, 1)) : tp_Sim X own cc ret nL pc 1 o_pop := by
  intro p l e R s m args below meth c Q a0 b0 F L S h nx hnx
  rcases S with _ | ⟨x | x | r, S⟩ <;> try (simp [o_pop] at hnx; done)
  · cases hnx
    refine ⟨⟨Nat.le_refl _, Nat.le_refl _⟩, fun _ _ ok => ?_⟩
    intro H locs cells slots ls st hK hL hS hl hc hs
    rcases st with _ | ⟨_, st⟩
    · exact hS.elim
    · obtain ⟨⟨xv, rfl, ex⟩, hS⟩ := hS
      exact lv_pop F.1 F.2.1 hd rfl (ok _ _ _ _ _ _ hK hL hS hl hc hs)
  · cases hnx
    refine ⟨⟨Nat.le_refl _, Nat.le_refl _⟩, fun _ _ ok => ?_⟩
    intro H locs cells slots ls st hK hL hS hl hc hs
    rcases st with _ | ⟨_, st⟩
    · exact hS.elim
    · obtain ⟨e2, hS⟩ := hS
      rcases r with _ | q <;> obtain rfl := e2 <;> exact lv_pop F.1 F.2.1 hd rfl (ok _ _ _ _ _ _ hK hL hS hl hc hs)
theorem sim_dup (hd : decode cc pc = .ok (.dup, 1)) : tp_Sim X own cc ret nL pc 1 o_dup := by
  intro p l e R s m args below meth c Q a0 b0 F L S h nx hnx
  rcases S with _ | ⟨x | x | r, S⟩ <;> try (simp [o_dup] at hnx; done)
  · cases hnx
    refine ⟨⟨Nat.le_refl _, Nat.le_refl _⟩, fun _ _ ok => ?_⟩
    intro H locs cells slots ls st hK hL hS hl hc hs
    rcases st with _ | ⟨_, st⟩
    · exact hS.elim
    · obtain ⟨⟨xv, rfl, ex⟩, hS⟩ := hS
      exact lv_dup F.1 F.2.1 hd rfl (ok _ _ _ _ _ _ hK hL ⟨⟨xv, rfl, ex⟩, ⟨xv, rfl, ex⟩, hS⟩ hl hc hs)
  · cases hnx
    refine ⟨⟨Nat.le_refl _, Nat.le_refl _⟩, fun _ _ ok => ?_⟩
    intro H locs cells slots ls st hK hL hS hl hc hs
    rcases st with _ | ⟨_, st⟩
    · exact hS.elim
    · obtain ⟨e2, hS⟩ := hS
      rcases r with _ | q <;> obtain rfl := e2 <;> exact lv_dup F.1 F.2.1 hd rfl (ok _ _ _ _ _ _ hK hL ⟨rfl, rfl, hS⟩ hl hc hs)
theorem sim_dup_x1 (hd : decode cc pc = .ok (.dup_x1, 1)) : tp_Sim X own cc ret nL pc 1 o_dup_x1 := by
  intro p l e R s m args below meth c Q a0 b0 F L S h nx hnx
  rcases S with _ | ⟨x | x | w, _ | ⟨y | y | r, S⟩⟩ <;> try (simp [o_dup_x1] at hnx; done)
  · cases hnx
    refine ⟨⟨Nat.le_refl _, Nat.le_refl _⟩, fun _ _ ok => ?_⟩
    intro H locs cells slots ls st hK hL hS hl hc hs
    rcases st with _ | ⟨_, _ | ⟨_, st⟩⟩
    · exact hS.elim
    · exact hS.2.elim
    · obtain ⟨⟨xv, rfl, ex⟩, e2, hS⟩ := hS
      rcases r with _ | q <;> obtain rfl := e2 <;> exact lv_dup_x1 F.1 F.2.1 hd rfl rfl (ok _ _ _ _ _ _ hK hL ⟨⟨xv, rfl, ex⟩, rfl, ⟨xv, rfl, ex⟩, hS⟩ hl hc hs)
  · cases hnx
    refine ⟨⟨Nat.le_refl _, Nat.le_refl _⟩, fun _ _ ok => ?_⟩
    intro H locs cells slots ls st hK hL hS hl hc hs
    rcases st with _ | ⟨_, _ | ⟨_, st⟩⟩
    · exact hS.elim
    · exact hS.2.elim
    · obtain ⟨e1, e2, hS⟩ := hS
      rcases w with _ | w <;> rcases r with _ | q <;> obtain rfl := e1 <;> obtain rfl := e2 <;> exact lv_dup_x1 F.1 F.2.1 hd rfl rfl (ok _ _ _ _ _ _ hK hL ⟨rfl, rfl, rfl, hS⟩ hl hc hs)
theorem sim_dup2 (hd : decode cc pc = .ok (.dup2, 1)) : tp_Sim X own cc ret nL pc 1 o_dup2 := by
  intro p l e R s m args below meth c Q a0 b0 F L S h nx hnx
  rcases S with _ | ⟨x | x, _ | ⟨y | y | r, S⟩⟩ <;> try (simp [o_dup2] at hnx; done)
  cases hnx
  refine ⟨⟨Nat.le_refl _, Nat.le_refl _⟩, fun _ _ ok => ?_⟩
  intro H locs cells slots ls st hK hL hS hl hc hs
  rcases st with _ | ⟨_, _ | ⟨_, st⟩⟩
  · exact hS.elim
  · exact hS.2.elim
  · obtain ⟨⟨xv, rfl, ex⟩, e2, hS⟩ := hS
    rcases r with _ | q <;> obtain rfl := e2 <;> exact lv_dup2_11 F.1 F.2.1 hd rfl rfl (ok _ _ _ _ _ _ hK hL ⟨⟨xv, rfl, ex⟩, rfl, ⟨xv, rfl, ex⟩, rfl, hS⟩ hl hc hs)
theorem sim_acmpne {off : Int} {t : Nat} (hd : decode cc pc = .ok (.if_acmp .ne off, 3)) (ht : (pc : Int) + off = (t : Int)) : tp_Sim X own cc ret nL pc 3 (o_acmpne off t) := by
  intro p l e R s m args below meth c Q a0 b0 F L S h nx hnx
  rcases S with _ | ⟨y | y | r2, _ | ⟨x | x | r1, S⟩⟩ <;> try (simp [o_acmpne] at hnx; done)
  by_cases hj : r1 = r2
  · simp only [o_acmpne, if_pos hj] at hnx
    cases hnx
    refine ⟨⟨Nat.le_refl _, Nat.le_refl _⟩, fun _ _ ok => ?_⟩
    intro H locs cells slots ls st hK hL hS hl hc hs
    rcases st with _ | ⟨v1, _ | ⟨v2, st⟩⟩
    · exact hS.elim
    · exact hS.2.elim
    · obtain ⟨e1, e2, hS⟩ := hS
      have h1 : v1 = va_rf r2 := by rcases r2 with _ | q <;> exact e1
      have h2 : v2 = va_rf r1 := by rcases r1 with _ | q <;> exact e2
      rw [h1, h2]
      exact lv_acmp_ne F.1 F.2.1 hd ht (fun q => absurd hj q) (fun q => ok _ _ _ _ _ _ hK hL hS hl hc hs)
  · simp only [o_acmpne, if_neg hj] at hnx
    cases hnx
    refine ⟨⟨Nat.le_refl _, Nat.le_refl _⟩, fun _ _ ok => ?_⟩
    intro H locs cells slots ls st hK hL hS hl hc hs
    rcases st with _ | ⟨v1, _ | ⟨v2, st⟩⟩
    · exact hS.elim
    · exact hS.2.elim
    · obtain ⟨e1, e2, hS⟩ := hS
      have h1 : v1 = va_rf r2 := by rcases r2 with _ | q <;> exact e1
      have h2 : v2 = va_rf r1 := by rcases r1 with _ | q <;> exact e2
      rw [h1, h2]
      exact lv_acmp_ne F.1 F.2.1 hd ht (fun q => ok _ _ _ _ _ _ hK hL hS hl hc hs) (fun q => absurd q hj)
theorem sim_acmpeq {off : Int} {t : Nat} (hd : decode cc pc = .ok (.if_acmp .eq off, 3)) (ht : (pc : Int) + off = (t : Int)) : tp_Sim X own cc ret nL pc 3 (o_acmpeq off t) := by
  intro p l e R s m args below meth c Q a0 b0 F L S h nx hnx
  rcases S with _ | ⟨y | y | r2, _ | ⟨x | x | r1, S⟩⟩ <;> try (simp [o_acmpeq] at hnx; done)
  by_cases hj : r1 = r2
  · simp only [o_acmpeq, if_pos hj] at hnx
    cases hnx
    refine ⟨⟨Nat.le_refl _, Nat.le_refl _⟩, fun _ _ ok => ?_⟩
    intro H locs cells slots ls st hK hL hS hl hc hs
    rcases st with _ | ⟨v1, _ | ⟨v2, st⟩⟩
    · exact hS.elim
    · exact hS.2.elim
    · obtain ⟨e1, e2, hS⟩ := hS
      have h1 : v1 = va_rf r2 := by rcases r2 with _ | q <;> exact e1
      have h2 : v2 = va_rf r1 := by rcases r1 with _ | q <;> exact e2
      rw [h1, h2]
      exact lv_acmp_eq F.1 F.2.1 hd ht (fun q => ok _ _ _ _ _ _ hK hL hS hl hc hs) (fun q => absurd hj q)
  · simp only [o_acmpeq, if_neg hj] at hnx
    cases hnx
    refine ⟨⟨Nat.le_refl _, Nat.le_refl _⟩, fun _ _ ok => ?_⟩
    intro H locs cells slots ls st hK hL hS hl hc hs
    rcases st with _ | ⟨v1, _ | ⟨v2, st⟩⟩
    · exact hS.elim
    · exact hS.2.elim
    · obtain ⟨e1, e2, hS⟩ := hS
      have h1 : v1 = va_rf r2 := by rcases r2 with _ | q <;> exact e1
      have h2 : v2 = va_rf r1 := by rcases r1 with _ | q <;> exact e2
      rw [h1, h2]
      exact lv_acmp_eq F.1 F.2.1 hd ht (fun q => absurd q hj) (fun q => ok _ _ _ _ _ _ hK hL hS hl hc hs)
theorem sim_ifnull {off : Int} {t : Nat} (hd : decode cc pc = .ok (.ifnull off, 3)) (ht : (pc : Int) + off = (t : Int)) : tp_Sim X own cc ret nL pc 3 (o_ifnull off t) := by
  intro p l e R s m args below meth c Q a0 b0 F L S h nx hnx
  rcases S with _ | ⟨x | x | _ | q, S⟩ <;> try (simp [o_ifnull] at hnx; done)
  · cases hnx
    refine ⟨⟨Nat.le_refl _, Nat.le_refl _⟩, fun _ _ ok => ?_⟩
    intro H locs cells slots ls st hK hL hS hl hc hs
    rcases st with _ | ⟨_, st⟩
    · exact hS.elim
    · obtain ⟨e2, hS⟩ := hS
      obtain rfl := e2
      exact lv_ifnullN F.1 F.2.1 hd ht (ok _ _ _ _ _ _ hK hL hS hl hc hs)
  · have hnx : some (.inl (none, L, S, h)) = some nx := by rw [← hnx]; rfl
    cases hnx
    refine ⟨⟨Nat.le_refl _, Nat.le_refl _⟩, fun _ _ ok => ?_⟩
    intro H locs cells slots ls st hK hL hS hl hc hs
    rcases st with _ | ⟨_, st⟩
    · exact hS.elim
    · obtain ⟨e2, hS⟩ := hS
      obtain rfl := e2
      exact lv_ifnull F.1 F.2.1 hd (ok _ _ _ _ _ _ hK hL hS hl hc hs)
theorem sim_ifnon {off : Int} {t : Nat} (hd : decode cc pc = .ok (.ifnonnull off, 3)) (ht : (pc : Int) + off = (t : Int)) : tp_Sim X own cc ret nL pc 3 (o_ifnon off t) := by
  intro p l e R s m args below meth c Q a0 b0 F L S h nx hnx
  rcases S with _ | ⟨x | x | _ | q, S⟩ <;> try (simp [o_ifnon] at hnx; done)
  · cases hnx
    refine ⟨⟨Nat.le_refl _, Nat.le_refl _⟩, fun _ _ ok => ?_⟩
    intro H locs cells slots ls st hK hL hS hl hc hs
    rcases st with _ | ⟨_, st⟩
    · exact hS.elim
    · obtain ⟨e2, hS⟩ := hS
      obtain rfl := e2
      exact lv_ifnonnullN F.1 F.2.1 hd (ok _ _ _ _ _ _ hK hL hS hl hc hs)
  · have hnx : some (.inl (some t, L, S, h)) = some nx := by rw [← hnx]; rfl
    cases hnx
    refine ⟨⟨Nat.le_refl _, Nat.le_refl _⟩, fun _ _ ok => ?_⟩
    intro H locs cells slots ls st hK hL hS hl hc hs
    rcases st with _ | ⟨_, st⟩
    · exact hS.elim
    · obtain ⟨e2, hS⟩ := hS
      obtain rfl := e2
      exact lv_ifnonnull F.1 F.2.1 hd ht (ok _ _ _ _ _ _ hK hL hS hl hc hs)
/-- what a switch's pairs have to do with its offsets -/
def tp_swT (pc : Nat) (dflt lo : Int) (offs : List Int) (ps : List (Int × Nat)) (d : Nat) : Bool := decide ((pc : Int) + dflt = d) && decide (ps = offs.zipIdx.map (fun q => (lo + q.2, ((pc : Int) + q.1).toNat))) && offs.all (fun o => decide (0 ≤ (pc : Int) + o))
theorem tp_lookT (x : Int) (pc : Nat) (d : Nat) : ∀ (offs : List Int) (lo : Int) (k : Nat), (x < lo + k ∨ lo + k + offs.length ≤ x → tp_look x ((offs.zipIdx k).map (fun q => (lo + q.2, ((pc : Int) + q.1).toNat))) d = d) ∧ ∀ (j : Nat) (o : Int), offs[j]? = some o → x = lo + k + j → tp_look x ((offs.zipIdx k).map (fun q => (lo + q.2, ((pc : Int) + q.1).toNat))) d = ((pc : Int) + o).toNat
  | [], lo, k => ⟨fun _ => rfl, fun j o h => by simp at h⟩
  | o1 :: offs, lo, k => by
    obtain ⟨i1, i2⟩ := tp_lookT x pc d offs lo (k + 1)
    simp only [List.zipIdx_cons, List.map_cons, tp_look]
    refine ⟨fun h => ?_, fun j o h hx => ?_⟩
    · rw [if_neg (by simp only [List.length_cons] at h; omega)]
      exact i1 (by simp only [List.length_cons] at h; omega)
    · cases j with
      | zero =>
        simp at h
        rw [if_pos (by omega), h]
      | succ j =>
        rw [if_neg (by omega)]
        exact i2 j o (by simpa using h) (by omega)
theorem sim_tsw {dflt lo hi : Int} {offs : Array Int} {len d : Nat} {ps : List (Int × Nat)} (hd : decode cc pc = .ok (.tableswitch dflt lo hi offs, len)) (ht : tp_swT pc dflt lo offs.toList ps d = true) (hh : hi + 1 = lo + offs.size) : tp_Sim X own cc ret nL pc len (o_sw (.tableswitch dflt lo hi offs) ps d) := by
  intro p l e R s m args below meth c Q a0 b0 F L S h nx hnx
  simp only [tp_swT, Bool.and_eq_true, decide_eq_true_eq, List.all_eq_true] at ht
  obtain ⟨⟨h1, h2⟩, h3⟩ := ht
  rcases S with _ | ⟨x | x, S⟩ <;> try (simp [o_sw] at hnx; done)
  cases hnx
  refine ⟨⟨Nat.le_refl _, Nat.le_refl _⟩, fun _ _ ok => ?_⟩
  intro H locs cells slots ls st hK hL hS hl hc hs
  rcases st with _ | ⟨_, st⟩
  · exact hS.elim
  · obtain ⟨⟨xv, rfl, ex⟩, hS⟩ := hS
    have hlen : (offs.toList.length : Int) = offs.size := by simp
    obtain ⟨i1, i2⟩ := tp_lookT x pc d offs.toList lo 0
    rw [← h2] at i1 i2
    by_cases hr : x < lo ∨ hi < x
    · rw [i1 (by omega)] at ok
      exact lv_tableOut F.1 F.2.1 hd (by rw [ex]; exact hr) h1 (ok _ _ _ _ _ _ hK hL hS hl hc hs)
    · have hlt : (x - lo).toNat < offs.size := by omega
      have ho : offs[(x - lo).toNat]? = some offs[(x - lo).toNat] := Array.getElem?_eq_getElem hlt
      have ho2 : offs.toList[(x - lo).toNat]? = some offs[(x - lo).toNat] := by simpa using ho
      rw [i2 _ _ ho2 (by omega)] at ok
      have h4 : 0 ≤ (pc : Int) + offs[(x - lo).toNat] := by simpa using h3 _ (List.mem_of_getElem? ho2)
      exact lv_tableIn F.1 F.2.1 hd (by rw [ex]; omega) (by rw [ex]; omega) (by rw [ex]; exact ho) (Int.toNat_of_nonneg h4).symm (ok _ _ _ _ _ _ hK hL hS hl hc hs)
theorem tp_lookL (x : Int) (pc d : Nat) (dflt : Int) (hd : (pc : Int) + dflt = d) : ∀ (ps : List (Int × Int)), (∀ q ∈ ps, 0 ≤ (pc : Int) + q.2) → (pc : Int) + Op.lookupswitch.offset ps dflt x = (tp_look x (ps.map (fun q => (q.1, ((pc : Int) + q.2).toNat))) d : Nat)
  | [], _ => by simpa [Op.lookupswitch.offset, tp_look] using hd
  | (k, o) :: ps, h => by
    have ih := tp_lookL x pc d dflt hd ps (fun q hq => h q (List.mem_cons_of_mem _ hq))
    have h0 := h (k, o) List.mem_cons_self
    simp only [List.map_cons, tp_look]
    by_cases e : x = k
    · rw [if_pos e]
      simp [Op.lookupswitch.offset, e]
      omega
    · rw [if_neg e, ← ih]
      have e' : ¬ k = x := fun q => e q.symm
      simp [Op.lookupswitch.offset, e, e']
theorem sim_lsw {dflt : Int} {prs : Array (Int × Int)} {len d : Nat} {ps : List (Int × Nat)} (hd : decode cc pc = .ok (.lookupswitch dflt prs, len)) (hz : (prs.toList.zip (prs.toList.drop 1)).all (fun (a, next) => a.1 < next.1) = true) (h1 : (pc : Int) + dflt = d) (h2 : ps = prs.toList.map (fun q => (q.1, ((pc : Int) + q.2).toNat))) (h3 : ∀ q ∈ prs.toList, 0 ≤ (pc : Int) + q.2) : tp_Sim X own cc ret nL pc len (o_sw (.lookupswitch dflt prs) ps d) := by
  intro p l e R s m args below meth c Q a0 b0 F L S h nx hnx
  rcases S with _ | ⟨x | x, S⟩ <;> try (simp [o_sw] at hnx; done)
  cases hnx
  refine ⟨⟨Nat.le_refl _, Nat.le_refl _⟩, fun _ _ ok => ?_⟩
  intro H locs cells slots ls st hK hL hS hl hc hs
  rcases st with _ | ⟨_, st⟩
  · exact hS.elim
  · obtain ⟨⟨xv, rfl, ex⟩, hS⟩ := hS
    have h4 := tp_lookL x pc d dflt h1 prs.toList h3
    rw [← h2, ← ex] at h4
    rw [← ex] at ok
    exact lv_lookup F.1 F.2.1 hd hz rfl h4 (ok _ _ _ _ _ _ hK hL hS hl hc hs)
end Sims2
