/-! RULES: how tp_wp goes over each operation; bundled, so that simp takes them by one name -/
def tp_kI (L : tp_L) (a : Nat) (K : Int → Prop) : Prop := match L[a]? with | some (some (.inl x)) => K x | _ => False
def tp_kJ (L : tp_L) (a : Nat) (K : Int → Prop) : Prop := match L[a]? with | some (some (.inr (.inl x))) => K x | _ => False
def tp_kA (L : tp_L) (a : Nat) (K : Option Nat → Prop) : Prop := match L[a]? with | some (some (.inr (.inr r))) => K r | _ => False
def tp_sw (x : Int) (ps : List (Int × Nat)) (d : Nat) (K : Nat → Prop) : Prop := K (tp_look x ps d)
def tp_kf (r : Option tp_E) (c : Nat) (K : (Nat → tp_V) → Prop) : Prop := match r with | some (.inr (c', fs)) => c' = c ∧ K fs | _ => False
def tp_ka (r : Option tp_E) (K : Nat → Nat → (Nat → tp_V) → Prop) : Prop := match r with | some (.inl (t, n, f)) => K t n f | _ => False
def tp_ko (r : Option tp_E) (K : Nat → (Nat → tp_V) → Prop) : Prop := match r with | some (.inr (c, f)) => K c f | _ => False
def tp_kp (n : Nat) (S : tp_T) (as : List tp_V) (K : List tp_V → tp_T → Prop) : Prop := match tp_pop n S as with | some (as, S) => K as S | none => False
def tp_kr (S : tp_T) (K : Nat → tp_T → Prop) : Prop := match S with | .inr (.inr (some a)) :: S => K a S | _ => False
def tp_kn (r : Option Nat) (K : Nat → Prop) : Prop := match r with | some k => K k | none => False
section Rules
variable {d k : Nat} {is : List tp_Op} {L : tp_L} {S : tp_T} {H : tp_H} {Q : tp_O → tp_H → Prop} {i : Instr} {x y z o c : Int} {a b t n j h q : Nat} {r : Option Nat} {v : tp_V}
theorem r_null : tp_wp d k (o_null :: is) L S H Q ↔ tp_wp d k is L (xN :: S) H Q := tp_wp_cons _ _ _ _ _ _ _ _
theorem r_int : tp_wp d k (o_int i x :: is) L S H Q ↔ tp_wp d k is L (xI x :: S) H Q := tp_wp_cons _ _ _ _ _ _ _ _
theorem r_lng : tp_wp d k (o_lng i x :: is) L S H Q ↔ tp_wp d k is L (xJ x :: S) H Q := tp_wp_cons _ _ _ _ _ _ _ _
theorem r_gs : tp_wp d k (o_gs i j :: is) L S H Q ↔ tp_wp d k is L (hgs H j :: S) H Q := tp_wp_cons _ _ _ _ _ _ _ _
theorem r_ild : tp_wp d k (o_ild i a :: is) L S H Q ↔ tp_kI L a (fun x => tp_wp d k is L (xI x :: S) H Q) := by
  rw [tp_wp_cons]; simp only [o_ild, tp_kI]; rcases L[a]? with _ | _ | x | x | r <;> rfl
theorem r_lld : tp_wp d k (o_lld i a :: is) L S H Q ↔ tp_kJ L a (fun x => tp_wp d k is L (xJ x :: S) H Q) := by
  rw [tp_wp_cons]; simp only [o_lld, tp_kJ]; rcases L[a]? with _ | _ | x | x | r <;> rfl
theorem r_ald : tp_wp d k (o_ald i a :: is) L S H Q ↔ tp_kA L a (fun r => tp_wp d k is L (xO r :: S) H Q) := by
  rw [tp_wp_cons]; simp only [o_ald, tp_kA]; rcases L[a]? with _ | _ | x | x | r <;> rfl
theorem r_ist : tp_wp d k (o_ist i a :: is) L (xI x :: S) H Q ↔ a < L.length ∧ tp_wp d k is (tp_s1 L a (xI x)) S H Q := by
  rw [tp_wp_cons]; simp only [o_ist]; by_cases h : a < L.length <;> simp [h, tp_fin, tp_go]
theorem r_lst : tp_wp d k (o_lst i a :: is) L (xJ x :: S) H Q ↔ a + 1 < L.length ∧ tp_wp d k is (tp_s2 L a (xJ x)) S H Q := by
  rw [tp_wp_cons]; simp only [o_lst]; by_cases h : a + 1 < L.length <;> simp [h, tp_fin, tp_go]
theorem r_ast : tp_wp d k (o_ast i a :: is) L (xO r :: S) H Q ↔ a < L.length ∧ tp_wp d k is (tp_s1 L a (xO r)) S H Q := by
  rw [tp_wp_cons]; simp only [o_ast]; by_cases h : a < L.length <;> simp [h, tp_fin, tp_go]
theorem r_inc : tp_wp d k (o_inc a c :: is) L S H Q ↔ tp_kI L a (fun x => tp_wp d k is (tp_s1 L a (xI (tp_wr (x + c)))) S H Q) := by
  rw [tp_wp_cons]; simp only [o_inc, tp_kI]; rcases L[a]? with _ | _ | x | x | r <;> rfl
theorem r_iadd : tp_wp d k (o_iadd :: is) L (xI y :: xI x :: S) H Q ↔ tp_wp d k is L (xI (tp_wr (x + y)) :: S) H Q := tp_wp_cons _ _ _ _ _ _ _ _
theorem r_isub : tp_wp d k (o_isub :: is) L (xI y :: xI x :: S) H Q ↔ tp_wp d k is L (xI (tp_wr (x - y)) :: S) H Q := tp_wp_cons _ _ _ _ _ _ _ _
theorem r_imul : tp_wp d k (o_imul :: is) L (xI y :: xI x :: S) H Q ↔ tp_wp d k is L (xI (tp_wr (x * y)) :: S) H Q := tp_wp_cons _ _ _ _ _ _ _ _
theorem r_idiv : tp_wp d k (o_idiv :: is) L (xI y :: xI x :: S) H Q ↔ ¬ y = 0 ∧ tp_wp d k is L (xI (tp_wr (x.tdiv y)) :: S) H Q := by
  rw [tp_wp_cons]; simp only [o_idiv, tp_i2]; by_cases h : y = 0 <;> simp [h, tp_fin, tp_go]
theorem r_irem : tp_wp d k (o_irem :: is) L (xI y :: xI x :: S) H Q ↔ ¬ y = 0 ∧ tp_wp d k is L (xI (x.tmod y) :: S) H Q := by
  rw [tp_wp_cons]; simp only [o_irem, tp_i2]; by_cases h : y = 0 <;> simp [h, tp_fin, tp_go]
theorem r_iand : tp_wp d k (o_iand :: is) L (xI y :: xI x :: S) H Q ↔ tp_wp d k is L (xI (tp_and x y) :: S) H Q := tp_wp_cons _ _ _ _ _ _ _ _
theorem r_ior : tp_wp d k (o_ior :: is) L (xI y :: xI x :: S) H Q ↔ tp_wp d k is L (xI (tp_or x y) :: S) H Q := tp_wp_cons _ _ _ _ _ _ _ _
theorem r_ishl : tp_wp d k (o_ishl :: is) L (xI y :: xI x :: S) H Q ↔ tp_wp d k is L (xI (tp_shl x y) :: S) H Q := tp_wp_cons _ _ _ _ _ _ _ _
theorem r_ishr : tp_wp d k (o_ishr :: is) L (xI y :: xI x :: S) H Q ↔ tp_wp d k is L (xI (tp_shr x y) :: S) H Q := tp_wp_cons _ _ _ _ _ _ _ _
theorem r_ladd : tp_wp d k (o_ladd :: is) L (xJ y :: xJ x :: S) H Q ↔ tp_wp d k is L (xJ (tp_wl (x + y)) :: S) H Q := tp_wp_cons _ _ _ _ _ _ _ _
theorem r_lsub : tp_wp d k (o_lsub :: is) L (xJ y :: xJ x :: S) H Q ↔ tp_wp d k is L (xJ (tp_wl (x - y)) :: S) H Q := tp_wp_cons _ _ _ _ _ _ _ _
theorem r_lmul : tp_wp d k (o_lmul :: is) L (xJ y :: xJ x :: S) H Q ↔ tp_wp d k is L (xJ (tp_wl (x * y)) :: S) H Q := tp_wp_cons _ _ _ _ _ _ _ _
theorem r_ldiv : tp_wp d k (o_ldiv :: is) L (xJ y :: xJ x :: S) H Q ↔ ¬ y = 0 ∧ tp_wp d k is L (xJ (tp_wl (x.tdiv y)) :: S) H Q := by
  rw [tp_wp_cons]; simp only [o_ldiv, tp_l2]; by_cases h : y = 0 <;> simp [h, tp_fin, tp_go]
theorem r_lor : tp_wp d k (o_lor :: is) L (xJ y :: xJ x :: S) H Q ↔ tp_wp d k is L (xJ (tp_lor x y) :: S) H Q := tp_wp_cons _ _ _ _ _ _ _ _
theorem r_lshl : tp_wp d k (o_lshl :: is) L (xI y :: xJ x :: S) H Q ↔ tp_wp d k is L (xJ (tp_lshl x y) :: S) H Q := tp_wp_cons _ _ _ _ _ _ _ _
theorem r_ineg : tp_wp d k (o_ineg :: is) L (xI x :: S) H Q ↔ tp_wp d k is L (xI (tp_wr (-x)) :: S) H Q := tp_wp_cons _ _ _ _ _ _ _ _
theorem r_lneg : tp_wp d k (o_lneg :: is) L (xJ x :: S) H Q ↔ tp_wp d k is L (xJ (tp_wl (-x)) :: S) H Q := tp_wp_cons _ _ _ _ _ _ _ _
theorem r_i2l : tp_wp d k (o_i2l :: is) L (xI x :: S) H Q ↔ tp_wp d k is L (xJ x :: S) H Q := tp_wp_cons _ _ _ _ _ _ _ _
theorem r_l2i : tp_wp d k (o_l2i :: is) L (xJ x :: S) H Q ↔ tp_wp d k is L (xI (tp_wr x) :: S) H Q := tp_wp_cons _ _ _ _ _ _ _ _
theorem r_i2b : tp_wp d k (o_i2b :: is) L (xI x :: S) H Q ↔ tp_wp d k is L (xI (tp_b8 x) :: S) H Q := tp_wp_cons _ _ _ _ _ _ _ _
theorem r_i2c : tp_wp d k (o_i2c :: is) L (xI x :: S) H Q ↔ tp_wp d k is L (xI (x % 65536) :: S) H Q := tp_wp_cons _ _ _ _ _ _ _ _
theorem r_lcmp : tp_wp d k (o_lcmp :: is) L (xJ y :: xJ x :: S) H Q ↔ tp_wp d k is L (xI (tp_cmp x y) :: S) H Q := tp_wp_cons _ _ _ _ _ _ _ _
theorem r_dupI : tp_wp d k (o_dup :: is) L (xI x :: S) H Q ↔ tp_wp d k is L (xI x :: xI x :: S) H Q := tp_wp_cons _ _ _ _ _ _ _ _
theorem r_dupR : tp_wp d k (o_dup :: is) L (xO r :: S) H Q ↔ tp_wp d k is L (xO r :: xO r :: S) H Q := tp_wp_cons _ _ _ _ _ _ _ _
theorem r_dup_x1 : tp_wp d k (o_dup_x1 :: is) L (xI x :: xO r :: S) H Q ↔ tp_wp d k is L (xI x :: xO r :: xI x :: S) H Q := tp_wp_cons _ _ _ _ _ _ _ _
theorem r_dup_x1A {r2 : Option Nat} : tp_wp d k (o_dup_x1 :: is) L (xO r2 :: xO r :: S) H Q ↔ tp_wp d k is L (xO r2 :: xO r :: xO r2 :: S) H Q := tp_wp_cons _ _ _ _ _ _ _ _
theorem r_dup2 : tp_wp d k (o_dup2 :: is) L (xI x :: xO r :: S) H Q ↔ tp_wp d k is L (xI x :: xO r :: xI x :: xO r :: S) H Q := tp_wp_cons _ _ _ _ _ _ _ _
theorem r_popI : tp_wp d k (o_pop :: is) L (xI x :: S) H Q ↔ tp_wp d k is L S H Q := tp_wp_cons _ _ _ _ _ _ _ _
theorem r_popR : tp_wp d k (o_pop :: is) L (xO r :: S) H Q ↔ tp_wp d k is L S H Q := tp_wp_cons _ _ _ _ _ _ _ _
theorem r_ifeq : tp_wp d k (o_ifeq o t :: is) L (xI x :: S) H Q ↔ (x = 0 → tp_wp d k (tp_B k t) L S H Q) ∧ (¬ x = 0 → tp_wp d k is L S H Q) := by
  rw [tp_wp_cons]; simp only [o_ifeq, tp_j1]; by_cases h : x = 0 <;> simp [h, tp_fin, tp_go, tp_jp]
theorem r_ifne : tp_wp d k (o_ifne o t :: is) L (xI x :: S) H Q ↔ (x = 0 → tp_wp d k is L S H Q) ∧ (¬ x = 0 → tp_wp d k (tp_B k t) L S H Q) := by
  rw [tp_wp_cons]; simp only [o_ifne, tp_j1]; by_cases h : x = 0 <;> simp [h, tp_fin, tp_go, tp_jp]
theorem r_iflt : tp_wp d k (o_iflt o t :: is) L (xI x :: S) H Q ↔ (x < 0 → tp_wp d k (tp_B k t) L S H Q) ∧ (¬ x < 0 → tp_wp d k is L S H Q) := by
  rw [tp_wp_cons]; simp only [o_iflt, tp_j1]; by_cases h : x < 0 <;> simp [h, tp_fin, tp_go, tp_jp]
theorem r_ifge : tp_wp d k (o_ifge o t :: is) L (xI x :: S) H Q ↔ (x < 0 → tp_wp d k is L S H Q) ∧ (¬ x < 0 → tp_wp d k (tp_B k t) L S H Q) := by
  rw [tp_wp_cons]; simp only [o_ifge, tp_j1]; by_cases h : x < 0 <;> simp [h, tp_fin, tp_go, tp_jp]
theorem r_ifgt : tp_wp d k (o_ifgt o t :: is) L (xI x :: S) H Q ↔ (0 < x → tp_wp d k (tp_B k t) L S H Q) ∧ (¬ 0 < x → tp_wp d k is L S H Q) := by
  rw [tp_wp_cons]; simp only [o_ifgt, tp_j1]; by_cases h : 0 < x <;> simp [h, tp_fin, tp_go, tp_jp]
theorem r_ifle : tp_wp d k (o_ifle o t :: is) L (xI x :: S) H Q ↔ (0 < x → tp_wp d k is L S H Q) ∧ (¬ 0 < x → tp_wp d k (tp_B k t) L S H Q) := by
  rw [tp_wp_cons]; simp only [o_ifle, tp_j1]; by_cases h : 0 < x <;> simp [h, tp_fin, tp_go, tp_jp]
theorem r_icmpeq : tp_wp d k (o_icmpeq o t :: is) L (xI y :: xI x :: S) H Q ↔ (x = y → tp_wp d k (tp_B k t) L S H Q) ∧ (¬ x = y → tp_wp d k is L S H Q) := by
  rw [tp_wp_cons]; simp only [o_icmpeq, tp_j2]; by_cases h : x = y <;> simp [h, tp_fin, tp_go, tp_jp]
theorem r_icmpne : tp_wp d k (o_icmpne o t :: is) L (xI y :: xI x :: S) H Q ↔ (x = y → tp_wp d k is L S H Q) ∧ (¬ x = y → tp_wp d k (tp_B k t) L S H Q) := by
  rw [tp_wp_cons]; simp only [o_icmpne, tp_j2]; by_cases h : x = y <;> simp [h, tp_fin, tp_go, tp_jp]
theorem r_icmplt : tp_wp d k (o_icmplt o t :: is) L (xI y :: xI x :: S) H Q ↔ (x < y → tp_wp d k (tp_B k t) L S H Q) ∧ (¬ x < y → tp_wp d k is L S H Q) := by
  rw [tp_wp_cons]; simp only [o_icmplt, tp_j2]; by_cases h : x < y <;> simp [h, tp_fin, tp_go, tp_jp]
theorem r_icmpge : tp_wp d k (o_icmpge o t :: is) L (xI y :: xI x :: S) H Q ↔ (x < y → tp_wp d k is L S H Q) ∧ (¬ x < y → tp_wp d k (tp_B k t) L S H Q) := by
  rw [tp_wp_cons]; simp only [o_icmpge, tp_j2]; by_cases h : x < y <;> simp [h, tp_fin, tp_go, tp_jp]
theorem r_icmpgt : tp_wp d k (o_icmpgt o t :: is) L (xI y :: xI x :: S) H Q ↔ (y < x → tp_wp d k (tp_B k t) L S H Q) ∧ (¬ y < x → tp_wp d k is L S H Q) := by
  rw [tp_wp_cons]; simp only [o_icmpgt, tp_j2]; by_cases h : y < x <;> simp [h, tp_fin, tp_go, tp_jp]
theorem r_icmple : tp_wp d k (o_icmple o t :: is) L (xI y :: xI x :: S) H Q ↔ (y < x → tp_wp d k is L S H Q) ∧ (¬ y < x → tp_wp d k (tp_B k t) L S H Q) := by
  rw [tp_wp_cons]; simp only [o_icmple, tp_j2]; by_cases h : y < x <;> simp [h, tp_fin, tp_go, tp_jp]
theorem r_acmpeq {r1 r2 : Option Nat} : tp_wp d k (o_acmpeq o t :: is) L (xO r2 :: xO r1 :: S) H Q ↔ (r1 = r2 → tp_wp d k (tp_B k t) L S H Q) ∧ (¬ r1 = r2 → tp_wp d k is L S H Q) := by
  rw [tp_wp_cons]; simp only [o_acmpeq]; by_cases h : r1 = r2 <;> simp [h, tp_fin, tp_go, tp_jp]
theorem r_acmpne {r1 r2 : Option Nat} : tp_wp d k (o_acmpne o t :: is) L (xO r2 :: xO r1 :: S) H Q ↔ (r1 = r2 → tp_wp d k is L S H Q) ∧ (¬ r1 = r2 → tp_wp d k (tp_B k t) L S H Q) := by
  rw [tp_wp_cons]; simp only [o_acmpne]; by_cases h : r1 = r2 <;> simp [h, tp_fin, tp_go, tp_jp]
theorem r_ifnull : tp_wp d k (o_ifnull o t :: is) L (xO r :: S) H Q ↔ (r = none → tp_wp d k (tp_B k t) L S H Q) ∧ (¬ r = none → tp_wp d k is L S H Q) := by
  rw [tp_wp_cons]; simp only [o_ifnull]; by_cases h : r = none <;> simp [h, tp_fin, tp_go, tp_jp]
theorem r_ifnon : tp_wp d k (o_ifnon o t :: is) L (xO r :: S) H Q ↔ (r = none → tp_wp d k is L S H Q) ∧ (¬ r = none → tp_wp d k (tp_B k t) L S H Q) := by
  rw [tp_wp_cons]; simp only [o_ifnon]; by_cases h : r = none <;> simp [h, tp_fin, tp_go, tp_jp]
theorem r_goto : tp_wp d k (o_goto o t :: is) L S H Q ↔ tp_wp d k (tp_B k t) L S H Q := tp_wp_cons _ _ _ _ _ _ _ _
theorem r_fall : tp_wp d k (o_fall t :: is) L S H Q ↔ tp_wp d k (tp_B k t) L S H Q := tp_wp_cons _ _ _ _ _ _ _ _
theorem r_sw {ps : List (Int × Nat)} : tp_wp d k (o_sw i ps t :: is) L (xI x :: S) H Q ↔ tp_sw x ps t (fun t => tp_wp d k (tp_B k t) L S H Q) := tp_wp_cons _ _ _ _ _ _ _ _
theorem r_getf : tp_wp d k (o_getf i b j :: is) L (xR a :: S) H Q ↔ tp_kf (hat H a) b (fun fs => tp_wp d k is L (fs j :: S) H Q) := by
  rw [tp_wp_cons]; simp only [o_getf, tp_kf]
  rcases hat H a with _ | ⟨⟩ | ⟨c', fs⟩
  · rfl
  · rfl
  · by_cases h : c' = b <;> simp [h, tp_fin, tp_go]
theorem r_putf : tp_wp d k (o_putf i b j n :: is) L (v :: xR a :: S) H Q ↔ tp_kf (hat H a) b (fun fs => tp_fit n v = true ∧ tp_wp d k is L S (hput H a (eO b (tp_up fs j v))) Q) := by
  rw [tp_wp_cons]; simp only [o_putf, tp_kf]
  rcases hat H a with _ | ⟨⟩ | ⟨c', fs⟩
  · rfl
  · rfl
  · by_cases h : c' = b <;> by_cases h2 : tp_fit n v = true <;> simp [h, h2, tp_fin, tp_go]
theorem r_lda {ts : List Nat} : tp_wp d k (o_lda i ts :: is) L (xI x :: xR a :: S) H Q ↔ tp_ka (hat H a) (fun t n f => tp_in t ts = true ∧ (0 ≤ x ∧ x < n) ∧ tp_wp d k is L (f x.toNat :: S) H Q) := by
  rw [tp_wp_cons]; simp only [o_lda, tp_ka]
  rcases hat H a with _ | ⟨t, n, f⟩ | ⟨⟩
  · rfl
  · by_cases h : tp_in t ts = true ∧ (0 ≤ x ∧ x < n)
    · simp [h, tp_fin, tp_go]
    · simp only [if_neg h]
      exact ⟨fun q => q.elim, fun q => h ⟨q.1, q.2.1⟩⟩
  · rfl
theorem r_sta {ts : List Nat} : tp_wp d k (o_sta i ts :: is) L (v :: xI x :: xR a :: S) H Q ↔ tp_ka (hat H a) (fun t n f => tp_in t ts = true ∧ (0 ≤ x ∧ x < n) ∧ tp_fit t v = true ∧ tp_wp d k is L S (hput H a (eA t n (tp_up f x.toNat v))) Q) := by
  rw [tp_wp_cons]; simp only [o_sta, tp_ka]
  rcases hat H a with _ | ⟨t, n, f⟩ | ⟨⟩
  · rfl
  · by_cases h : tp_in t ts = true ∧ (0 ≤ x ∧ x < n) ∧ tp_fit t v = true
    · simp [h, tp_fin, tp_go]
    · simp only [if_neg h]
      exact ⟨fun q => q.elim, fun q => h ⟨q.1, q.2.1, q.2.2.1⟩⟩
  · rfl
theorem r_aast {ts cs : List Nat} : tp_wp d k (o_aast ts cs :: is) L (xR q :: xI x :: xR a :: S) H Q ↔ tp_ka (hat H a) (fun t n f => tp_ko (hat H q) (fun c _ => tp_in t ts = true ∧ tp_in c cs = true ∧ (0 ≤ x ∧ x < n) ∧ tp_wp d k is L S (hput H a (eA t n (tp_up f x.toNat (xR q)))) Q)) := by
  rw [tp_wp_cons]; simp only [o_aast, tp_ka, tp_ko]
  rcases hat H a with _ | ⟨t, n, f⟩ | ⟨⟩
  · rfl
  · rcases hat H q with _ | ⟨⟩ | ⟨c', fs⟩
    · rfl
    · rfl
    · by_cases h : tp_in t ts = true ∧ tp_in c' cs = true ∧ (0 ≤ x ∧ x < n)
      · simp [h, tp_fin, tp_go]
      · simp only [if_neg h]
        exact ⟨fun q => q.elim, fun q => h ⟨q.1, q.2.1, q.2.2.1⟩⟩
  · rfl
theorem r_alen : tp_wp d k (o_alen :: is) L (xR a :: S) H Q ↔ tp_ka (hat H a) (fun _ n _ => n < 2147483648 ∧ tp_wp d k is L (xI n :: S) H Q) := by
  rw [tp_wp_cons]; simp only [o_alen, tp_ka]
  rcases hat H a with _ | ⟨t, n, f⟩ | ⟨⟩
  · rfl
  · by_cases h : n < 2147483648 <;> simp [h, tp_fin, tp_go]
  · rfl
theorem r_newa : tp_wp d k (o_newa i t :: is) L (xI x :: S) H Q ↔ (0 ≤ x ∧ x ≤ 1000000) ∧ tp_wp d k is L (xR (hnx H) :: S) (hnew H (eA t x.toNat (fun _ => tp_df t)) x.toNat) Q := by
  rw [tp_wp_cons]; simp only [o_newa]; by_cases h : 0 ≤ x ∧ x ≤ 1000000
  · simp [h, tp_fin, tp_go]
  · simp only [if_neg h]
    exact ⟨fun q => q.elim, fun q => h q.1⟩
theorem r_new2 : tp_wp d k (o_new2 i :: is) L (xI y :: xI x :: S) H Q ↔ (0 ≤ x ∧ x ≤ 1000 ∧ 0 ≤ y ∧ y ≤ 1000) ∧ tp_wp d k is L (xR (hnx H) :: S) (tp_grid H x.toNat y.toNat) Q := by
  rw [tp_wp_cons]; simp only [o_new2]; by_cases h : 0 ≤ x ∧ x ≤ 1000 ∧ 0 ≤ y ∧ y ≤ 1000
  · simp [h, tp_fin, tp_go]
  · simp only [if_neg h]
    exact ⟨fun q => q.elim, fun q => h q.1⟩
theorem r_new3 : tp_wp d k (o_new3 i :: is) L (xI z :: xI y :: xI x :: S) H Q ↔ (0 ≤ x ∧ x ≤ 1000 ∧ 0 ≤ y ∧ y ≤ 1000 ∧ 0 ≤ z ∧ z ≤ 1000) ∧ tp_wp d k is L (xR (hnx H) :: S) (tp_cube H x.toNat y.toNat z.toNat) Q := by
  rw [tp_wp_cons]; simp only [o_new3]; by_cases h : 0 ≤ x ∧ x ≤ 1000 ∧ 0 ≤ y ∧ y ≤ 1000 ∧ 0 ≤ z ∧ z ≤ 1000
  · simp [h, tp_fin, tp_go]
  · simp only [if_neg h]
    exact ⟨fun q => q.elim, fun q => h q.1⟩
theorem r_new {ds : List tp_V} : tp_wp d k (o_new i b n ds :: is) L S H Q ↔ tp_wp d k is L (xR (hnx H) :: S) (hnew H (eO b (tp_lf ds)) n) Q := tp_wp_cons _ _ _ _ _ _ _ _
theorem r_cast {cs : List Nat} : tp_wp d k (o_cast i cs :: is) L (xR a :: S) H Q ↔ tp_ko (hat H a) (fun c _ => tp_in c cs = true ∧ tp_wp d k is L (xR a :: S) H Q) := by
  rw [tp_wp_cons]; simp only [o_cast, tp_ko]
  rcases hat H a with _ | ⟨⟩ | ⟨c', fs⟩
  · rfl
  · rfl
  · by_cases h : tp_in c' cs = true <;> simp [h, tp_fin, tp_go]
theorem r_cs : tp_wp (d + 1) k (o_cs i j n h :: is) L S H Q ↔ tp_kp n S [] (fun as S => S.length ≤ 12 ∧ tp_wc d j as H (tp_rt (d + 1) k h is L S Q)) := by
  rw [tp_wp_cons]; simp only [o_cs, tp_kp]
  rcases tp_pop n S [] with _ | ⟨as, S'⟩
  · rfl
  · by_cases h : S'.length ≤ 12 <;> simp [h, tp_fin, tp_ask]
theorem r_cv : tp_wp (d + 1) k (o_cv i b j n h :: is) L S H Q ↔ tp_kp n S [] (fun as S => tp_kr S (fun a S => tp_kf (hat H a) b (fun _ => S.length ≤ 12 ∧ tp_wc d j (xR a :: as) H (tp_rt (d + 1) k h is L S Q)))) := by
  rw [tp_wp_cons]; simp only [o_cv, tp_kp]
  rcases tp_pop n S [] with _ | ⟨as, S'⟩
  · rfl
  · rcases S' with _ | ⟨x | x | _ | a, S'⟩
    · rfl
    · rfl
    · rfl
    · rfl
    · simp only [tp_kr, tp_kf]
      rcases hat H a with _ | ⟨⟩ | ⟨c', fs⟩
      · rfl
      · rfl
      · by_cases h : c' = b <;> by_cases h2 : S'.length ≤ 12 <;> simp [h, h2, tp_fin, tp_ask]
theorem r_cp : tp_wp (d + 1) k (o_cp i j n h :: is) L S H Q ↔ tp_kp n S [] (fun as S => tp_kr S (fun a S => S.length ≤ 12 ∧ tp_wc d j (xR a :: as) H (tp_rt (d + 1) k h is L S Q))) := by
  rw [tp_wp_cons]; simp only [o_cp, tp_kp]
  rcases tp_pop n S [] with _ | ⟨as, S'⟩
  · rfl
  · rcases S' with _ | ⟨x | x | _ | a, S'⟩
    · rfl
    · rfl
    · rfl
    · rfl
    · simp only [tp_kr]
      by_cases h2 : S'.length ≤ 12 <;> simp [h2, tp_fin, tp_ask]
theorem r_ci {ps : List (Nat × Nat)} : tp_wp (d + 1) k (o_ci i ps n h :: is) L S H Q ↔ tp_kp n S [] (fun as S => tp_kr S (fun a S => tp_ko (hat H a) (fun c _ => tp_kn (tp_find c ps) (fun j => S.length ≤ 12 ∧ tp_wc d j (xR a :: as) H (tp_rt (d + 1) k h is L S Q))))) := by
  rw [tp_wp_cons]; simp only [o_ci, tp_kp]
  rcases tp_pop n S [] with _ | ⟨as, S'⟩
  · rfl
  · rcases S' with _ | ⟨x | x | _ | a, S'⟩
    · rfl
    · rfl
    · rfl
    · rfl
    · simp only [tp_kr, tp_ko]
      rcases hat H a with _ | ⟨⟩ | ⟨c', fs⟩
      · rfl
      · rfl
      · simp only [tp_kn]
        rcases tp_find c' ps with _ | j
        · rfl
        · by_cases h2 : S'.length ≤ 12 <;> simp [h2, tp_fin, tp_ask]
theorem r_vret : tp_wp d k (o_vret :: is) L S H Q ↔ Q (.inl none) H := tp_wp_cons _ _ _ _ _ _ _ _
theorem r_iret : tp_wp d k (o_iret 0 :: is) L (xI x :: S) H Q ↔ Q (.inl (some (xI x))) H := tp_wp_cons _ _ _ _ _ _ _ _
theorem r_zret : tp_wp d k (o_iret 1 :: is) L (xI x :: S) H Q ↔ (x = 0 ∨ x = 1) ∧ Q (.inl (some (xI x))) H := by
  rw [tp_wp_cons]; simp only [o_iret, tp_fit]; by_cases h : x = 0 <;> by_cases h1 : x = 1 <;> simp [h, h1, tp_fin, tp_end]
theorem r_bret : tp_wp d k (o_iret 2 :: is) L (xI x :: S) H Q ↔ (-128 ≤ x ∧ x < 128) ∧ Q (.inl (some (xI x))) H := by
  rw [tp_wp_cons]; simp only [o_iret, tp_fit]; by_cases h : -128 ≤ x <;> by_cases h1 : x < 128 <;> simp [h, h1, tp_fin, tp_end]
theorem r_cret : tp_wp d k (o_iret 9 :: is) L (xI x :: S) H Q ↔ (0 ≤ x ∧ x < 65536) ∧ Q (.inl (some (xI x))) H := by
  rw [tp_wp_cons]; simp only [o_iret]; by_cases h : 0 ≤ x <;> by_cases h1 : x < 65536 <;> simp [h, h1, tp_fin, tp_end]
theorem r_lret : tp_wp d k (o_lret :: is) L (xJ x :: S) H Q ↔ Q (.inl (some (xJ x))) H := tp_wp_cons _ _ _ _ _ _ _ _
theorem r_aret : tp_wp d k (o_aret :: is) L (xO r :: S) H Q ↔ Q (.inl (some (xO r))) H := tp_wp_cons _ _ _ _ _ _ _ _
theorem r_thr : tp_wp d k (o_thr :: is) L (xR q :: S) H Q ↔ tp_kf (hat H q) 6 (fun _ => Q (.inr q) H) := by
  rw [tp_wp_cons]; simp only [o_thr, tp_kf]
  rcases hat H q with _ | ⟨⟩ | ⟨c', fs⟩
  · rfl
  · rfl
  · by_cases h : c' = 6 <;> simp [h, tp_fin, tp_end]
theorem r_objinit : tp_wp d k (o_objinit i :: is) L (xR q :: S) H Q ↔ S.length ≤ 12 ∧ tp_wp d k is L S H Q := by
  rw [tp_wp_cons]; simp only [o_objinit]; by_cases h : S.length ≤ 12 <;> simp [h, tp_fin, tp_go]
theorem r_excinit : tp_wp d k (o_excinit i :: is) L (xR a :: S) H Q ↔ tp_kf (hat H a) 6 (fun fs => fs 4 = xN ∧ S.length ≤ 12 ∧ tp_wp d k is L S (hput H a (eO 6 (tp_up (tp_up (tp_up fs 0 (xR a)) 1 (hgs H 9)) 2 (hgs H 10)))) Q) := by
  rw [tp_wp_cons]; simp only [o_excinit, tp_kf]
  rcases hat H a with _ | ⟨⟩ | ⟨c', fs⟩
  · rfl
  · rfl
  · by_cases h : c' = 6 <;> by_cases h2 : S.length ≤ 12 <;> by_cases h3 : fs 4 = xN <;> simp [h, h2, h3, tp_fin, tp_go]
theorem r_acopy : tp_wp d k (o_acopy i :: is) L (xI z :: xI y :: xR b :: xI x :: xR a :: S) H Q ↔ tp_ka (hat H a) (fun t n0 f => tp_ka (hat H b) (fun t' n1 g => t = t' ∧ tp_in t [0, 1, 6, 7] = true ∧ (0 ≤ z ∧ 0 ≤ x ∧ 0 ≤ y ∧ x + z ≤ n0 ∧ y + z ≤ n1) ∧ S.length ≤ 12 ∧ tp_wp d k is L S (hput H b (eA t n1 (tp_cpy f g x.toNat y.toNat z.toNat))) Q)) := by
  rw [tp_wp_cons]; simp only [o_acopy, tp_ka]
  rcases hat H a with _ | ⟨t, n, f⟩ | ⟨⟩
  · rfl
  · rcases hat H b with _ | ⟨t', n', g⟩ | ⟨⟩
    · rfl
    · by_cases h : t = t' ∧ tp_in t [0, 1, 6, 7] = true ∧ (0 ≤ z ∧ 0 ≤ x ∧ 0 ≤ y ∧ x + z ≤ n ∧ y + z ≤ n') ∧ S.length ≤ 12
      · simp only [if_pos h]
        exact ⟨fun q => ⟨h.1, h.2.1, h.2.2.1, h.2.2.2, q⟩, fun q => q.2.2.2.2⟩
      · simp only [if_neg h]
        exact ⟨fun q => q.elim, fun q => h ⟨q.1, q.2.1, q.2.2.1, q.2.2.2.1⟩⟩
    · rfl
  · rfl
theorem r_getcls : tp_wp d k (o_getcls i :: is) L (xR a :: S) H Q ↔ tp_ka (hat H a) (fun t _ _ => t = 6 ∧ S.length ≤ 12 ∧ tp_wp d k is L (hgs H 0 :: S) H Q) := by
  rw [tp_wp_cons]; simp only [o_getcls, tp_ka]
  rcases hat H a with _ | ⟨t, n, f⟩ | ⟨⟩
  · rfl
  · by_cases h : t = 6
    · subst h
      by_cases h2 : S.length ≤ 12 <;> simp [h2, tp_fin, tp_go]
    · simp only [h, false_and]
      split
      · rename_i e
        exact absurd (by cases e; rfl) h
      · rfl
  · rfl
theorem r_mmax : tp_wp d k (o_mmax i :: is) L (xI y :: xI x :: S) H Q ↔ S.length ≤ 12 ∧ tp_wp d k is L (xI (max x y) :: S) H Q := by
  rw [tp_wp_cons]; simp only [o_mmax]; by_cases h : S.length ≤ 12 <;> simp [h, tp_fin, tp_go]
theorem r_mmin : tp_wp d k (o_mmin i :: is) L (xI y :: xI x :: S) H Q ↔ S.length ≤ 12 ∧ tp_wp d k is L (xI (min x y) :: S) H Q := by
  rw [tp_wp_cons]; simp only [o_mmin]; by_cases h : S.length ≤ 12 <;> simp [h, tp_fin, tp_go]
theorem r_mabs : tp_wp d k (o_mabs i :: is) L (xI x :: S) H Q ↔ S.length ≤ 12 ∧ tp_wp d k is L (xI (if 0 ≤ x then x else tp_wr (-x)) :: S) H Q := by
  rw [tp_wp_cons]; simp only [o_mabs]; by_cases h : S.length ≤ 12 <;> simp [h, tp_fin, tp_go]
theorem r_lmax : tp_wp d k (o_lmax i :: is) L (xJ y :: xJ x :: S) H Q ↔ S.length ≤ 12 ∧ tp_wp d k is L (xJ (max x y) :: S) H Q := by
  rw [tp_wp_cons]; simp only [o_lmax]; by_cases h : S.length ≤ 12 <;> simp [h, tp_fin, tp_go]
theorem r_lmin : tp_wp d k (o_lmin i :: is) L (xJ y :: xJ x :: S) H Q ↔ S.length ≤ 12 ∧ tp_wp d k is L (xJ (min x y) :: S) H Q := by
  rw [tp_wp_cons]; simp only [o_lmin]; by_cases h : S.length ≤ 12 <;> simp [h, tp_fin, tp_go]
end Rules
