/-! THE RUN, and what it is to come to an end with Q -/
def tp_cW : Nat := 6
/-- n: steps left, d: frames left -/
def tp_run : Nat → Nat → Nat → List tp_Op → tp_L → tp_T → tp_H → Option (tp_O × tp_H)
  | 0, _, _, _, _, _, _ => none
  | _ + 1, _, _, [], _, _, _ => none
  | n + 1, d, k, op :: is, L, S, H => match op.2 L S H with
    | none => none
    | some (.inl (none, L, S, H)) => tp_run n d k is L S H
    | some (.inl (some t, L, S, H)) => tp_run n d k (tp_B k t) L S H
    | some (.inr (.inr r)) => some r
    | some (.inr (.inl (k', h, as, L, S, H))) => match d with
      | 0 => none
      | d + 1 => match (if tp_words as ≤ tp_ml k' then tp_run n d k' (tp_B k' 0) (tp_en (tp_ml k') as) [] H else none) with
        | none => none
        | some (.inl none, H) => tp_run n (d + 1) k is L S H
        | some (.inl (some v), H) => tp_run n (d + 1) k is L (v :: S) H
        | some (.inr q, H) => match h with
          | 0 => none
          | 1 => some (.inr q, H)
          | h + 2 => match hat H q with
            | some (.inr (6, _)) => tp_run n (d + 1) k (tp_B k h) L [xR q] H
            | _ => none
theorem tp_run_mono : ∀ (n m d k : Nat) (is : List tp_Op) (L : tp_L) (S : tp_T) (H : tp_H) (r : tp_O × tp_H), tp_run n d k is L S H = some r → n ≤ m → tp_run m d k is L S H = some r := by
  intro n
  induction n with
  | zero => intro m d k is L S H r h; simp [tp_run] at h
  | succ n ih =>
    intro m d k is L S H r h hm
    obtain ⟨m, rfl⟩ : ∃ m', m = m' + 1 := ⟨m - 1, by omega⟩
    have hm : n ≤ m := by omega
    cases is with
    | nil => simp [tp_run] at h
    | cons op is =>
      simp only [tp_run] at h ⊢
      generalize op.2 L S H = nx at h ⊢
      rcases nx with _ | ⟨⟨_ | t, L', S', H'⟩ | ⟨k', hd, as, L', S', H'⟩ | r'⟩
      · exact h
      · exact ih _ _ _ _ _ _ _ _ h hm
      · exact ih _ _ _ _ _ _ _ _ h hm
      · cases d with
        | zero => simp at h
        | succ d =>
          by_cases hw : ¬ tp_words as ≤ tp_ml k'
          · simp [hw] at h
          have hw := Classical.not_not.mp hw
          simp only [if_pos hw] at h ⊢
          rcases e1 : tp_run n d k' (tp_B k' 0) (tp_en (tp_ml k') as) [] H' with _ | ⟨(_ | v) | q, H2⟩
          · rw [e1] at h; simp at h
          · rw [e1] at h; rw [ih _ _ _ _ _ _ _ _ e1 hm]; exact ih _ _ _ _ _ _ _ _ h hm
          · rw [e1] at h; rw [ih _ _ _ _ _ _ _ _ e1 hm]; exact ih _ _ _ _ _ _ _ _ h hm
          · rw [e1] at h; rw [ih _ _ _ _ _ _ _ _ e1 hm]
            rcases hd with _ | _ | hd
            · simp at h
            · exact h
            · simp only at h ⊢
              split at h
              · exact ih _ _ _ _ _ _ _ _ h hm
              · simp at h
      · exact h
def tp_wp (d k : Nat) (is : List tp_Op) (L : tp_L) (S : tp_T) (H : tp_H) (Q : tp_O → tp_H → Prop) : Prop := ∃ (n : Nat) (o : tp_O) (H' : tp_H), tp_run n d k is L S H = some (o, H') ∧ Q o H'
/-- a call of the method k, d frames left for it and below it -/
def tp_wc (d k : Nat) (as : List tp_V) (H : tp_H) (Q : tp_O → tp_H → Prop) : Prop := tp_words as ≤ tp_ml k ∧ tp_wp d k (tp_B k 0) (tp_en (tp_ml k) as) [] H Q
theorem tp_wp_mono {d k : Nat} {is : List tp_Op} {L : tp_L} {S : tp_T} {H : tp_H} {P Q : tp_O → tp_H → Prop} (h : tp_wp d k is L S H P) (hq : ∀ o H', P o H' → Q o H') : tp_wp d k is L S H Q := by
  obtain ⟨n, o, H', h1, h2⟩ := h
  exact ⟨n, o, H', h1, hq _ _ h2⟩
theorem tp_wc_mono {d k : Nat} {as : List tp_V} {H : tp_H} {P Q : tp_O → tp_H → Prop} (h : tp_wc d k as H P) (hq : ∀ o H', P o H' → Q o H') : tp_wc d k as H Q := ⟨h.1, tp_wp_mono h.2 hq⟩
theorem tp_wp_det {d k : Nat} {is : List tp_Op} {L : tp_L} {S : tp_T} {H : tp_H} {Q : tp_O → tp_H → Prop} {o : tp_O} {H' : tp_H} (h : tp_wp d k is L S H (fun o1 H1 => o1 = o ∧ H1 = H')) : tp_wp d k is L S H Q ↔ Q o H' := by
  obtain ⟨n, o1, H1, h1, rfl, rfl⟩ := h
  constructor
  · rintro ⟨m, o2, H2, h2, hq⟩
    have e1 := tp_run_mono _ (n + m) _ _ _ _ _ _ _ h1 (by omega)
    have e2 := tp_run_mono _ (n + m) _ _ _ _ _ _ _ h2 (by omega)
    rw [e1] at e2
    cases e2
    exact hq
  · intro hq
    exact ⟨n, _, _, h1, hq⟩
theorem tp_wc_det {d k : Nat} {as : List tp_V} {H : tp_H} {Q : tp_O → tp_H → Prop} {o : tp_O} {H' : tp_H} (h : tp_wc d k as H (fun o1 H1 => o1 = o ∧ H1 = H')) : tp_wc d k as H Q ↔ Q o H' := ⟨fun q => (tp_wp_det h.2).mp q.2, fun q => ⟨h.1, (tp_wp_det h.2).mpr q⟩⟩
/-- behind a call -/
def tp_rt (d k h : Nat) (is : List tp_Op) (L : tp_L) (S : tp_T) (Q : tp_O → tp_H → Prop) : tp_O → tp_H → Prop := fun o H => match o with
  | .inl none => tp_wp d k is L S H Q
  | .inl (some v) => tp_wp d k is L (v :: S) H Q
  | .inr q => match h with
    | 0 => False
    | 1 => Q (.inr q) H
    | h + 2 => match hat H q with
      | some (.inr (6, _)) => tp_wp d k (tp_B k h) L [xR q] H Q
      | _ => False
def tp_fin (d k : Nat) (is : List tp_Op) (r : Option tp_N) (Q : tp_O → tp_H → Prop) : Prop := match r with
  | none => False
  | some (.inl (none, L, S, H)) => tp_wp d k is L S H Q
  | some (.inl (some t, L, S, H)) => tp_wp d k (tp_B k t) L S H Q
  | some (.inr (.inr r)) => Q r.1 r.2
  | some (.inr (.inl (k', h, as, L, S, H))) => match d with
    | 0 => False
    | d + 1 => tp_wc d k' as H (tp_rt (d + 1) k h is L S Q)
theorem tp_wp_cons (d k : Nat) (op : tp_Op) (is : List tp_Op) (L : tp_L) (S : tp_T) (H : tp_H) (Q : tp_O → tp_H → Prop) : tp_wp d k (op :: is) L S H Q ↔ tp_fin d k is (op.2 L S H) Q := by
  constructor
  · rintro ⟨n, o, H', h, hq⟩
    cases n with
    | zero => simp [tp_run] at h
    | succ n =>
      simp only [tp_run] at h
      generalize op.2 L S H = nx at h ⊢
      rcases nx with _ | ⟨⟨_ | t, L', S', H1⟩ | ⟨k', hd, as, L', S', H1⟩ | r'⟩
      · simp at h
      · exact ⟨n, o, H', h, hq⟩
      · exact ⟨n, o, H', h, hq⟩
      · cases d with
        | zero => simp at h
        | succ d =>
          by_cases hw : ¬ tp_words as ≤ tp_ml k'
          · simp [hw] at h
          have hw := Classical.not_not.mp hw
          simp only [if_pos hw] at h
          rcases e1 : tp_run n d k' (tp_B k' 0) (tp_en (tp_ml k') as) [] H1 with _ | ⟨(_ | v) | q, H2⟩
          · rw [e1] at h; simp at h
          · rw [e1] at h; exact ⟨hw, n, _, _, e1, n, o, H', h, hq⟩
          · rw [e1] at h; exact ⟨hw, n, _, _, e1, n, o, H', h, hq⟩
          · rw [e1] at h
            refine ⟨hw, n, _, _, e1, ?_⟩
            rcases hd with _ | _ | hd
            · simp at h
            · cases h; exact hq
            · simp only [tp_rt] at h ⊢
              split at h
              · exact ⟨n, o, H', h, hq⟩
              · simp at h
      · cases h; exact hq
  · intro h
    rcases e : op.2 L S H with _ | ⟨⟨_ | t, L', S', H1⟩ | ⟨k', hd, as, L', S', H1⟩ | r'⟩
    · rw [e] at h; exact h.elim
    · rw [e] at h
      obtain ⟨n, o, H', h, hq⟩ := h
      exact ⟨n + 1, o, H', by simp only [tp_run, e]; exact h, hq⟩
    · rw [e] at h
      obtain ⟨n, o, H', h, hq⟩ := h
      exact ⟨n + 1, o, H', by simp only [tp_run, e]; exact h, hq⟩
    · rw [e] at h
      cases d with
      | zero => exact h.elim
      | succ d =>
        obtain ⟨hw, n, o, H', h, hq⟩ := h
        rcases o with (_ | v) | q
        · obtain ⟨m, o2, H2, h2, hq⟩ := hq
          refine ⟨n + m + 1, o2, H2, ?_, hq⟩
          simp only [tp_run, e, if_pos hw, tp_run_mono _ (n + m) _ _ _ _ _ _ _ h (by omega)]
          exact tp_run_mono _ (n + m) _ _ _ _ _ _ _ h2 (by omega)
        · obtain ⟨m, o2, H2, h2, hq⟩ := hq
          refine ⟨n + m + 1, o2, H2, ?_, hq⟩
          simp only [tp_run, e, if_pos hw, tp_run_mono _ (n + m) _ _ _ _ _ _ _ h (by omega)]
          exact tp_run_mono _ (n + m) _ _ _ _ _ _ _ h2 (by omega)
        · rcases hd with _ | _ | hd
          · exact hq.elim
          · refine ⟨n + 1, _, _, ?_, hq⟩
            simp only [tp_run, e, if_pos hw, h]
          · simp only [tp_rt] at hq
            split at hq
            · rename_i e2
              obtain ⟨m, o2, H2, h2, hq⟩ := hq
              refine ⟨n + m + 1, o2, H2, ?_, hq⟩
              simp only [tp_run, e, if_pos hw, tp_run_mono _ (n + m) _ _ _ _ _ _ _ h (by omega), e2]
              exact tp_run_mono _ (n + m) _ _ _ _ _ _ _ h2 (by omega)
            · exact hq.elim
    · rw [e] at h
      exact ⟨1, _, _, by simp only [tp_run, e], h⟩
