/-! SOUNDNESS 9: a run of the small interpreter is a run of the machine -/
def tp_Fit (X : tp_X) (own : MethodName) (cc : ByteArray) (ret : Option FieldType) (nL : Nat) (nm : Nat → MethodName) (by_ : Nat → ByteArray) (ml : Nat → Nat) (rt : Nat → Option FieldType) : Nat → List tp_Op → Prop
  | _, [] => True
  | pc, op :: is => op = o_fall pc ∨ (∃ len, (tp_Mo op ∧ tp_Sim X own cc ret nL pc len op) ∧ tp_Fit X own cc ret nL nm by_ ml rt (pc + len) is) ∨ (tp_isE op ∧ tp_SimE X own cc ret nL pc op) ∨ (∃ len, (tp_isC own pc op ∧ tp_SimC X own cc ret nL pc len op nm by_ ml rt) ∧ tp_Fit X own cc ret nL nm by_ ml rt (pc + len) is) ∨ (∀ L S h, op.2 L S h = none)
theorem tp_run_le {X : tp_X} {nm : Nat → MethodName} {by_ : Nat → ByteArray} {rt : Nat → Option FieldType} {ok : Nat → Prop} (hB : ∀ k, ok k → ∀ pc, tp_Fit X (nm k) (by_ k) (rt k) (tp_ml k) nm by_ tp_ml rt pc (tp_B k pc)) (hcl : ∀ k, ok k) : ∀ (n d k : Nat) (is : List tp_Op) (L : tp_L) (S : tp_T) (h : tp_H) (o : tp_O) (h' : tp_H) (pc : Nat), tp_run n d k is L S h = some (o, h') → tp_Fit X (nm k) (by_ k) (rt k) (tp_ml k) nm by_ tp_ml rt pc is → hnx h ≤ hnx h' ∧ hsl h ≤ hsl h' := by
  intro n
  induction n with
  | zero => intro d k is L S h o h' pc hr; simp [tp_run] at hr
  | succ n ih =>
    intro d k is L S h o h' pc hr hf
    cases is with
    | nil => simp [tp_run] at hr
    | cons op is =>
      rcases hf with rfl | ⟨len, ⟨hm, -⟩, hf⟩ | ⟨he, -⟩ | ⟨len, ⟨hc, -⟩, hf⟩ | hdead
      · simp only [tp_run, o_fall, tp_jp] at hr
        exact ih _ _ _ _ _ _ _ _ _ hr (hB k (hcl k) pc)
      · rcases e : op.2 L S h with _ | nx
        · simp [tp_run, e] at hr
        · obtain ⟨t, L', S', h1, rfl, m1, m2⟩ := hm L S h nx e
          rcases t with _ | t
          · simp only [tp_run, e] at hr
            obtain ⟨i1, i2⟩ := ih _ _ _ _ _ _ _ _ _ hr hf
            exact ⟨Nat.le_trans m1 i1, Nat.le_trans m2 i2⟩
          · simp only [tp_run, e] at hr
            obtain ⟨i1, i2⟩ := ih _ _ _ _ _ _ _ _ _ hr (hB k (hcl k) t)
            exact ⟨Nat.le_trans m1 i1, Nat.le_trans m2 i2⟩
      · rcases e : op.2 L S h with _ | nx
        · simp [tp_run, e] at hr
        · obtain ⟨o1, rfl⟩ := he L S h nx e
          simp only [tp_run, e] at hr
          cases hr
          exact ⟨Nat.le_refl _, Nat.le_refl _⟩
      · rcases e : op.2 L S h with _ | nx
        · simp [tp_run, e] at hr
        · obtain ⟨k', hd, as, S', rfl, -⟩ := hc L S h nx e
          simp only [tp_run, e] at hr
          cases d with
          | zero => simp at hr
          | succ d =>
            by_cases hw : ¬ tp_words as ≤ tp_ml k'
            · simp [hw] at hr
            have hw := Classical.not_not.mp hw
            simp only [if_pos hw] at hr
            rcases e1 : tp_run n d k' (tp_B k' 0) (tp_en (tp_ml k') as) [] h with _ | ⟨(_ | v) | q, h2⟩
            · rw [e1] at hr; simp at hr
            · rw [e1] at hr
              obtain ⟨j1, j2⟩ := ih _ _ _ _ _ _ _ _ _ e1 (hB k' (hcl k') 0)
              obtain ⟨i1, i2⟩ := ih _ _ _ _ _ _ _ _ _ hr hf
              exact ⟨Nat.le_trans j1 i1, Nat.le_trans j2 i2⟩
            · rw [e1] at hr
              obtain ⟨j1, j2⟩ := ih _ _ _ _ _ _ _ _ _ e1 (hB k' (hcl k') 0)
              obtain ⟨i1, i2⟩ := ih _ _ _ _ _ _ _ _ _ hr hf
              exact ⟨Nat.le_trans j1 i1, Nat.le_trans j2 i2⟩
            · rw [e1] at hr
              obtain ⟨j1, j2⟩ := ih _ _ _ _ _ _ _ _ _ e1 (hB k' (hcl k') 0)
              rcases hd with _ | _ | hd
              · simp at hr
              · cases hr; exact ⟨j1, j2⟩
              · simp only at hr
                split at hr
                · obtain ⟨i1, i2⟩ := ih _ _ _ _ _ _ _ _ _ hr (hB k (hcl k) hd)
                  exact ⟨Nat.le_trans j1 i1, Nat.le_trans j2 i2⟩
                · simp at hr
      · simp [tp_run, hdead] at hr
/-- entry: the locals -/
theorem tp_RS_sl : ∀ (as : List tp_V) (vs : List Value) (n i : Nat), tp_RS as vs → ∀ (j : Nat) (v : tp_V), (tp_en n as)[j]? = some (some v) → ∃ cv, (i + j, cv) ∈ lv_args i vs ∧ tp_RV v cv := by
  intro as
  induction as with
  | nil =>
    intro vs n i _ j v h
    rw [en_0] at h
    have := List.mem_of_getElem? h
    rw [List.mem_replicate] at this
    exact absurd this.2 (by simp)
  | cons w as ih =>
    intro vs n i hS j v h
    rcases vs with _ | ⟨cv, vs⟩
    · exact hS.elim
    · obtain ⟨h1, h2⟩ := hS
      rcases n with _ | n
      · simp [tp_en] at h
      · rcases w with x | x | r
        · rw [show (Sum.inl x : tp_V) = xI x from rfl, en_I] at h
          have hc : ¬ cv.category = 2 := fun z => by obtain ⟨y, hy⟩ := (tp_cat h1).mp z; cases hy
          cases j with
          | zero =>
            simp at h
            exact ⟨cv, by simp [lv_args], by rw [← h]; exact h1⟩
          | succ j =>
            simp at h
            obtain ⟨c2, g1, g2⟩ := ih vs n (i + 1) h2 j v h
            refine ⟨c2, ?_, g2⟩
            rw [lv_args, if_neg hc, show i + (j + 1) = i + 1 + j by omega]
            exact List.mem_cons_of_mem _ g1
        · rcases n with _ | n
          · cases as with
            | nil =>
              cases j with
              | zero =>
                simp [tp_en] at h
                exact ⟨cv, by simp [lv_args], by rw [← h]; exact h1⟩
              | succ j => simp [tp_en] at h
            | cons _ _ =>
              cases j with
              | zero =>
                simp [tp_en] at h
                exact ⟨cv, by simp [lv_args], by rw [← h]; exact h1⟩
              | succ j => simp [tp_en] at h
          · rw [show (Sum.inr (Sum.inl x) : tp_V) = xJ x from rfl, en_J] at h
            have hc : cv.category = 2 := (tp_cat h1).mpr ⟨x, rfl⟩
            rcases j with _ | _ | j
            · simp at h
              exact ⟨cv, by simp [lv_args], by rw [← h]; exact h1⟩
            · simp at h
            · simp at h
              obtain ⟨c2, g1, g2⟩ := ih vs n (i + 2) h2 j v h
              refine ⟨c2, ?_, g2⟩
              rw [lv_args, if_pos hc, show i + (j + 1 + 1) = i + 2 + j by omega]
              exact List.mem_cons_of_mem _ g1
        · rw [show (Sum.inr (Sum.inr r) : tp_V) = xO r from rfl, en_A] at h
          have hc : ¬ cv.category = 2 := fun z => by obtain ⟨y, hy⟩ := (tp_cat h1).mp z; cases hy
          cases j with
          | zero =>
            simp at h
            exact ⟨cv, by simp [lv_args], by rw [← h]; exact h1⟩
          | succ j =>
            simp at h
            obtain ⟨c2, g1, g2⟩ := ih vs n (i + 1) h2 j v h
            refine ⟨c2, ?_, g2⟩
            rw [lv_args, if_neg hc, show i + (j + 1) = i + 1 + j by omega]
            exact List.mem_cons_of_mem _ g1
theorem tp_en_len : ∀ (as : List tp_V) (n : Nat), (tp_en n as).length = n
  | [], n => by rw [en_0]; simp
  | .inl x :: as, 0 => rfl
  | .inr (.inl x) :: as, 0 => rfl
  | .inr (.inr r) :: as, 0 => rfl
  | .inl x :: as, n + 1 => by rw [show (Sum.inl x : tp_V) = xI x from rfl, en_I]; simp [tp_en_len as n]
  | .inr (.inr r) :: as, n + 1 => by rw [show (Sum.inr (Sum.inr r) : tp_V) = xO r from rfl, en_A]; simp [tp_en_len as n]
  | .inr (.inl x) :: as, 1 => by cases as <;> rfl
  | .inr (.inl x) :: as, n + 2 => by rw [show (Sum.inr (Sum.inl x) : tp_V) = xJ x from rfl, en_J]; simp [tp_en_len as n]
theorem tp_words_sl : ∀ (as : List tp_V) (vs : List Value), tp_RS as vs → (lg_sl vs).length = tp_words as
  | [], [], _ => rfl
  | v :: as, cv :: vs, h => by
    have ih := tp_words_sl as vs h.2
    have e : lg_sl (cv :: vs) = (if cv.category = 2 then [Slot.val cv, .second] else [Slot.val cv]) ++ lg_sl vs := by simp [lg_sl]
    rw [e, List.length_append, ih]
    rcases v with x | x | r
    · rw [if_neg (fun z => by obtain ⟨y, hy⟩ := (tp_cat h.1).mp z; cases hy)]; simp [tp_words]; omega
    · rw [if_pos ((tp_cat h.1).mpr ⟨x, rfl⟩)]; simp [tp_words]; omega
    · rw [if_neg (fun z => by obtain ⟨y, hy⟩ := (tp_cat h.1).mp z; cases hy)]; simp [tp_words]; omega
  | [], _ :: _, h => h.elim
  | _ :: _, [], h => h.elim
theorem tp_entry {as : List tp_V} {a : Array Value} {n : Nat} (h : tp_RS as a.toList) (hw : tp_words as ≤ n) (m : MethodId) : ∃ ls : Array Slot, entryFrame m a n = F0 m 0 ls [] ∧ tp_RL n (tp_en n as) ls := by
  have hlen : (lg_sl a.toList).length ≤ n := by rw [tp_words_sl as _ h]; exact hw
  have hl := lv_entry a.toList (n := n) hlen
  have e := lg_entry_eq m a.toList n
  rw [Array.toArray_toList] at e
  refine ⟨_, e, tp_en_len as n, hl.1, hl.2.1, fun j v hj => ?_⟩
  obtain ⟨cv, h1, h2⟩ := tp_RS_sl as a.toList n 0 h j v hj
  rw [Nat.zero_add] at h1
  exact ⟨cv, hl.2.2 _ h1, h2⟩
