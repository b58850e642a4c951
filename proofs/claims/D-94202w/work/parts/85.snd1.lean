/-! SOUNDNESS 1: what the small interpreter's states say of the machine; operations without the heap -/
/-- the start s0, numbers of classes, places of fields, numbers of array classes, statics -/
def tp_X : Type := State × (Nat → ClassId) × (Nat → Nat → Nat) × (Nat → ClassId) × (Nat → tp_V)
def xs0 (X : tp_X) : State := X.1
def xD (X : tp_X) : Nat → ClassId := X.2.1
def xF (X : tp_X) : Nat → Nat → Nat := X.2.2.1
def xA (X : tp_X) : Nat → ClassId := X.2.2.2.1
def xG (X : tp_X) : Nat → tp_V := X.2.2.2.2
def tp_RV (v : tp_V) (cv : Value) : Prop := match v with
  | .inl x => ∃ c : Int32, cv = .int c ∧ c.toInt = x
  | .inr (.inl x) => ∃ c : Int64, cv = .long c ∧ c.toInt = x
  | .inr (.inr none) => cv = .null
  | .inr (.inr (some a)) => cv = .ref a
/-- the type of the elements, by the tag -/
def tp_ty : Nat → FieldType
  | 0 => .int
  | 1 => .boolean
  | 2 => .byte
  | 3 => .long
  | 4 => .array .int
  | 5 => .array (.array .int)
  | 6 => .object "java/lang/Object"
  | 7 => .object "ThroughPack$Text"
  | 20 => .int
  | 22 => .byte
  | 28 => .object "java/lang/String"
  | 29 => .object "java/lang/Integer"
  | _ => .int
/-- how many fields are followed, by the class -/
def tp_nf : Nat → Nat
  | 1 => 23
  | 2 => 13
  | 3 => 47
  | 4 => 8
  | 5 => 7
  | 6 => 8
  | 7 => 1
  | 8 => 3
  | 9 => 1
  | 10 => 1
  | 11 => 1
  | 12 => 3
  | 13 => 2
  | 14 => 2
  | 15 => 3
  | 16 => 1
  | 17 => 2
  | _ => 0
def tp_RA (X : tp_X) (q t n : Nat) (f : Nat → tp_V) (H : Heap) : Prop := ∃ cell : Cell, H[q]? = some cell ∧ (xs0 X).isArrayOf cell (tp_ty t) ∧ cell.vm ≠ .unknown ∧ cell.vm.isStatics = false ∧ cell.slots.size = n ∧
  (∀ j, j < n → ∃ cv, cell.slots[j]? = some cv ∧ tp_RV (f j) cv) ∧ (t < 20 → (xs0 X).heap.size ≤ q ∧ t < 8 ∧ cell.cls = xA X t ∧ cell.vm = .none ∧ ∀ j, j < n → tp_fit t (f j) = true)
def tp_RO (X : tp_X) (q c : Nat) (fs : Nat → tp_V) (H : Heap) : Prop := ∃ cell : Cell, H[q]? = some cell ∧ cell.cls = xD X c ∧ cell.vm ≠ .unknown ∧ cell.vm.isStatics = false ∧
  (∀ j, j < tp_nf c → ∃ cv, cell.slots[xF X c j]? = some cv ∧ tp_RV (fs j) cv) ∧ 0 < c ∧ c < 18 ∧ (c < 16 → (xs0 X).heap.size ≤ q ∧ cell.vm = .none ∧ cell.monitor.owner = none ∧ cell.monitor.count = 0)
def tp_RE (X : tp_X) (q : Nat) (e : tp_E) (H : Heap) : Prop := match e with
  | .inl (t, n, f) => tp_RA X q t n f H
  | .inr (c, fs) => tp_RO X q c fs H
/-- the classes whose objects may lie in an array of Object, of Text -/
def tp_okc (t c : Nat) : Bool := if t = 7 then decide (c = 5) else tp_in c [7, 8, 9, 10, 11, 12, 13, 14, 16]
def tp_HI (h : tp_H) : Prop := ∀ (q t n : Nat) (f : Nat → tp_V), hat h q = some (eA t n f) → (t = 6 ∨ t = 7) → ∀ j, j < n → ∀ z, f j = xR z → ∃ (c : Nat) (fs : Nat → tp_V), hat h z = some (eO c fs) ∧ tp_okc t c = true
/-- the heap is the one that the small interpreter has -/
def tp_RH (X : tp_X) (h : tp_H) (H : Heap) : Prop := tp_HI h ∧ hnx h = H.size ∧ (∀ j, hgs h j = xG X j) ∧ (∀ q e, hat h q = some e → tp_RE X q e H) ∧ (xs0 X).heap.size ≤ H.size ∧ ∀ q : Nat, q < (xs0 X).heap.size → H[q]? = (xs0 X).heap[q]?
def tp_RL (nL : Nat) (L : tp_L) (ls : Array Slot) : Prop := L.length = nL ∧ ls.size = nL ∧ lv_wf ls ∧ ∀ (i : Nat) (v : tp_V), L[i]? = some (some v) → ∃ cv : Value, ls[i]? = some (Slot.val cv) ∧ tp_RV v cv
def tp_RS : tp_T → List Value → Prop
  | [], [] => True
  | v :: S, cv :: st => tp_RV v cv ∧ tp_RS S st
  | _, _ => False
/-- the one table of handlers -/
def tp_hh (y : MethodName) : List (Nat × Nat × Nat × Nat) := if y.name = "text" ∧ y.cls = "ThroughPack" then [(30, 62, 70, 156), (30, 62, 96, 0), (70, 89, 96, 0), (96, 98, 96, 0)] else []
/-- a frame of a method of the class own with code cc, answer ret, nL locals -/
def tp_Fr (X : tp_X) (own : MethodName) (cc : ByteArray) (ret : Option FieldType) (nL : Nat) (R : Room) (p : Program) (l : Launch) (s : State) (m : MethodId) (meth : Method) (c : Code) : Prop :=
  p.tables.exec = Jvm.exec ∧ c.code = cc ∧ meth.sig.returnType = ret ∧ meth.locks = false ∧ c.maxLocals = nL ∧ s.vm.findClass own.cls = some m.cls ∧ (xs0 X).WarmedH s.vm ∧ l.flags = flags0 ∧ (xs0 X).heap.size ≤ s.heap.size ∧ meth.name = own.name ∧ 10 ≤ R.frames ∧ 500 ≤ R.locals ∧ c.exceptionTable.toList.map (fun h => (h.startPc, h.endPc, h.handlerPc, h.catchType)) = tp_hh own
def tp_Ok (X : tp_X) (nL : Nat) (p : Program) (l : Launch) (e : Env) (R : Room) (s : State) (m : MethodId) (args : Array Value) (below : List Frame) (meth : Method) (c : Code) (Q : State → Prop) (a0 b0 : Nat) (pc : Nat) (L : tp_L) (S : tp_T) (h : tp_H) : Prop :=
  ∀ (H : Heap) (locs : List Loc) (cells slots : Nat) (ls : Array Slot) (st : List Value), tp_RH X h H → tp_RL nL L ls → tp_RS S st → (∀ z ∈ locs, (xs0 X).heap.size ≤ z.base) → cells + a0 = hnx h → slots + b0 = hsl h →
    W p l e R s m args below meth c H locs cells slots Q (F0 m pc ls st)
/-- one operation that isn't a call nor an end: if it is well behind it, it is well here -/
def tp_Sim (X : tp_X) (own : MethodName) (cc : ByteArray) (ret : Option FieldType) (nL pc len : Nat) (op : tp_Op) : Prop :=
  ∀ (p : Program) (l : Launch) (e : Env) (R : Room) (s : State) (m : MethodId) (args : Array Value) (below : List Frame) (meth : Method) (c : Code) (Q : State → Prop) (a0 b0 : Nat), tp_Fr X own cc ret nL R p l s m meth c → ∀ (L : tp_L) (S : tp_T) (h : tp_H) (nx : tp_N), op.2 L S h = some nx → match nx with
    | .inl (t, L', S', h') => (hnx h ≤ hnx h' ∧ hsl h ≤ hsl h') ∧ (hnx h' ≤ a0 + R.cells → hsl h' ≤ b0 + R.slots → tp_Ok X nL p l e R s m args below meth c Q a0 b0 (t.getD (pc + len)) L' S' h' → tp_Ok X nL p l e R s m args below meth c Q a0 b0 pc L S h)
    | _ => False
theorem tp_q0 {x : Int} {xv : Int32} (ex : xv.toInt = x) : xv = 0 ↔ x = 0 := by rw [← Int32.toInt_inj, ex]; rfl
theorem tp_lt0 {x : Int} {xv : Int32} (ex : xv.toInt = x) : xv < 0 ↔ x < 0 := by rw [Int32.lt_iff_toInt_lt, ex]; rfl
theorem tp_gt0 {x : Int} {xv : Int32} (ex : xv.toInt = x) : 0 < xv ↔ 0 < x := by rw [Int32.lt_iff_toInt_lt, ex]; rfl
theorem tp_ge0 {x : Int} {xv : Int32} (ex : xv.toInt = x) : 0 ≤ xv ↔ ¬ x < 0 := by rw [Int32.le_iff_toInt_le, ex, Int.not_lt]; rfl
theorem tp_le0 {x : Int} {xv : Int32} (ex : xv.toInt = x) : xv ≤ 0 ↔ ¬ 0 < x := by rw [Int32.le_iff_toInt_le, ex, Int.not_lt]; rfl
theorem tp_q2 {x y : Int} {xv yv : Int32} (ex : xv.toInt = x) (ey : yv.toInt = y) : xv = yv ↔ x = y := by rw [← Int32.toInt_inj, ex, ey]
theorem tp_lt2 {x y : Int} {xv yv : Int32} (ex : xv.toInt = x) (ey : yv.toInt = y) : xv < yv ↔ x < y := by rw [Int32.lt_iff_toInt_lt, ex, ey]
theorem tp_gt2 {x y : Int} {xv yv : Int32} (ex : xv.toInt = x) (ey : yv.toInt = y) : yv < xv ↔ y < x := by rw [Int32.lt_iff_toInt_lt, ex, ey]
theorem tp_ge2 {x y : Int} {xv yv : Int32} (ex : xv.toInt = x) (ey : yv.toInt = y) : yv ≤ xv ↔ ¬ x < y := by rw [Int32.le_iff_toInt_le, ex, ey, Int.not_lt]
theorem tp_le2 {x y : Int} {xv yv : Int32} (ex : xv.toInt = x) (ey : yv.toInt = y) : xv ≤ yv ↔ ¬ y < x := by rw [Int32.le_iff_toInt_le, ex, ey, Int.not_lt]
theorem tp_rem32 (x y : Int32) : (x - x / y * y).toInt = x.toInt.tmod y.toInt := by
  have h : x - x / y * y = x % y := by
    apply Int32.toInt_inj.mp
    rw [Int32.toInt_sub, Int32.toInt_mul, Int32.toInt_div, Int32.toInt_mod]
    rw [Int.bmod_mul_bmod]
    have e := Int.tmod_add_mul_tdiv x.toInt y.toInt
    have e2 : x.toInt - x.toInt.tdiv y.toInt * y.toInt = x.toInt.tmod y.toInt := by rw [Int.mul_comm]; omega
    rw [Int.sub_bmod_bmod, e2]
    rw [← Int32.toInt_mod]
    have h1 := (x % y).toInt_lt
    have h2 := (x % y).le_toInt
    apply Int.bmod_eq_of_le <;> omega
  rw [h, Int32.toInt_mod]
theorem tp_i2c32 (x : Int32) : ((x.toUInt32 % 65536).toInt32).toInt = x.toInt % 65536 := by
  rw [pk_char, nI_toInt (by omega)]
  have h : x.toInt = if 2 * x.toBitVec.toNat < 2 ^ 32 then (x.toBitVec.toNat : Int) else (x.toBitVec.toNat : Int) - (2 ^ 32 : Nat) := BitVec.toInt_eq_toNat_cond x.toBitVec
  split at h <;> omega
theorem tp_cmp64 (x y : Int64) : (lg_cmp x y).toInt = tp_cmp x.toInt y.toInt := by
  unfold lg_cmp tp_cmp
  have h1 : x > y ↔ y.toInt < x.toInt := Int64.lt_iff_toInt_lt
  have h2 : x = y ↔ x.toInt = y.toInt := Int64.toInt_inj.symm
  by_cases a : y.toInt < x.toInt
  · rw [if_pos (h1.mpr a), if_neg (by omega), if_neg (by omega)]; rfl
  · rw [if_neg (fun q => a (h1.mp q))]
    by_cases b : x.toInt = y.toInt
    · rw [if_pos (h2.mpr b), if_neg (by omega), if_pos b]; rfl
    · rw [if_neg (fun q => b (h2.mp q)), if_pos (by omega)]; rfl
section Sims
variable {X : tp_X} {own : MethodName} {cc : ByteArray} {ret : Option FieldType} {nL pc : Nat}
theorem sim_iadd (hd : decode cc pc = .ok (.iadd, 1)) : tp_Sim X own cc ret nL pc 1 o_iadd := by
  intro p l e R s m args below meth c Q a0 b0 F L S h nx hnx
  rcases S with _ | ⟨y | y, _ | ⟨x | x, S⟩⟩ <;> try (simp [o_iadd, tp_i2, tp_l2, tp_j1, tp_j2] at hnx; done)
  cases hnx
  refine ⟨⟨Nat.le_refl _, Nat.le_refl _⟩, fun _ _ ok => ?_⟩
  intro H locs cells slots ls st hK hL hS hl hc hs
  rcases st with _ | ⟨_, _ | ⟨_, st⟩⟩
  · exact hS.elim
  · exact hS.2.elim
  · obtain ⟨e1, e2, hS⟩ := hS
    · skip
      obtain ⟨yv, rfl, ey⟩ := e1
      obtain ⟨xv, rfl, ex⟩ := e2
      exact lv_iadd F.1 F.2.1 hd (ok _ _ _ _ _ _ hK hL ⟨⟨xv + yv, rfl, by rw [Int32.toInt_add, ex, ey]; rfl⟩, hS⟩ hl hc hs)
theorem sim_isub (hd : decode cc pc = .ok (.isub, 1)) : tp_Sim X own cc ret nL pc 1 o_isub := by
  intro p l e R s m args below meth c Q a0 b0 F L S h nx hnx
  rcases S with _ | ⟨y | y, _ | ⟨x | x, S⟩⟩ <;> try (simp [o_isub, tp_i2, tp_l2, tp_j1, tp_j2] at hnx; done)
  cases hnx
  refine ⟨⟨Nat.le_refl _, Nat.le_refl _⟩, fun _ _ ok => ?_⟩
  intro H locs cells slots ls st hK hL hS hl hc hs
  rcases st with _ | ⟨_, _ | ⟨_, st⟩⟩
  · exact hS.elim
  · exact hS.2.elim
  · obtain ⟨e1, e2, hS⟩ := hS
    · skip
      obtain ⟨yv, rfl, ey⟩ := e1
      obtain ⟨xv, rfl, ex⟩ := e2
      exact lv_isub F.1 F.2.1 hd (ok _ _ _ _ _ _ hK hL ⟨⟨xv - yv, rfl, by rw [Int32.toInt_sub, ex, ey]; rfl⟩, hS⟩ hl hc hs)
theorem sim_imul (hd : decode cc pc = .ok (.imul, 1)) : tp_Sim X own cc ret nL pc 1 o_imul := by
  intro p l e R s m args below meth c Q a0 b0 F L S h nx hnx
  rcases S with _ | ⟨y | y, _ | ⟨x | x, S⟩⟩ <;> try (simp [o_imul, tp_i2, tp_l2, tp_j1, tp_j2] at hnx; done)
  cases hnx
  refine ⟨⟨Nat.le_refl _, Nat.le_refl _⟩, fun _ _ ok => ?_⟩
  intro H locs cells slots ls st hK hL hS hl hc hs
  rcases st with _ | ⟨_, _ | ⟨_, st⟩⟩
  · exact hS.elim
  · exact hS.2.elim
  · obtain ⟨e1, e2, hS⟩ := hS
    · skip
      obtain ⟨yv, rfl, ey⟩ := e1
      obtain ⟨xv, rfl, ex⟩ := e2
      exact lv_imul F.1 F.2.1 hd (ok _ _ _ _ _ _ hK hL ⟨⟨xv * yv, rfl, by rw [Int32.toInt_mul, ex, ey]; rfl⟩, hS⟩ hl hc hs)
theorem sim_iand (hd : decode cc pc = .ok (.iand, 1)) : tp_Sim X own cc ret nL pc 1 o_iand := by
  intro p l e R s m args below meth c Q a0 b0 F L S h nx hnx
  rcases S with _ | ⟨y | y, _ | ⟨x | x, S⟩⟩ <;> try (simp [o_iand, tp_i2, tp_l2, tp_j1, tp_j2] at hnx; done)
  cases hnx
  refine ⟨⟨Nat.le_refl _, Nat.le_refl _⟩, fun _ _ ok => ?_⟩
  intro H locs cells slots ls st hK hL hS hl hc hs
  rcases st with _ | ⟨_, _ | ⟨_, st⟩⟩
  · exact hS.elim
  · exact hS.2.elim
  · obtain ⟨e1, e2, hS⟩ := hS
    · skip
      obtain ⟨yv, rfl, ey⟩ := e1
      obtain ⟨xv, rfl, ex⟩ := e2
      exact lv_iand F.1 F.2.1 hd (ok _ _ _ _ _ _ hK hL ⟨⟨xv &&& yv, rfl, by simp only [tp_and, ← ex, ← ey, Int32.ofInt_toInt]⟩, hS⟩ hl hc hs)
theorem sim_ior (hd : decode cc pc = .ok (.ior, 1)) : tp_Sim X own cc ret nL pc 1 o_ior := by
  intro p l e R s m args below meth c Q a0 b0 F L S h nx hnx
  rcases S with _ | ⟨y | y, _ | ⟨x | x, S⟩⟩ <;> try (simp [o_ior, tp_i2, tp_l2, tp_j1, tp_j2] at hnx; done)
  cases hnx
  refine ⟨⟨Nat.le_refl _, Nat.le_refl _⟩, fun _ _ ok => ?_⟩
  intro H locs cells slots ls st hK hL hS hl hc hs
  rcases st with _ | ⟨_, _ | ⟨_, st⟩⟩
  · exact hS.elim
  · exact hS.2.elim
  · obtain ⟨e1, e2, hS⟩ := hS
    · skip
      obtain ⟨yv, rfl, ey⟩ := e1
      obtain ⟨xv, rfl, ex⟩ := e2
      exact lv_ior F.1 F.2.1 hd (ok _ _ _ _ _ _ hK hL ⟨⟨xv ||| yv, rfl, by simp only [tp_or, ← ex, ← ey, Int32.ofInt_toInt]⟩, hS⟩ hl hc hs)
theorem sim_ishl (hd : decode cc pc = .ok (.ishl, 1)) : tp_Sim X own cc ret nL pc 1 o_ishl := by
  intro p l e R s m args below meth c Q a0 b0 F L S h nx hnx
  rcases S with _ | ⟨y | y, _ | ⟨x | x, S⟩⟩ <;> try (simp [o_ishl, tp_i2, tp_l2, tp_j1, tp_j2] at hnx; done)
  cases hnx
  refine ⟨⟨Nat.le_refl _, Nat.le_refl _⟩, fun _ _ ok => ?_⟩
  intro H locs cells slots ls st hK hL hS hl hc hs
  rcases st with _ | ⟨_, _ | ⟨_, st⟩⟩
  · exact hS.elim
  · exact hS.2.elim
  · obtain ⟨e1, e2, hS⟩ := hS
    · skip
      obtain ⟨yv, rfl, ey⟩ := e1
      obtain ⟨xv, rfl, ex⟩ := e2
      exact lv_ishl F.1 F.2.1 hd (ok _ _ _ _ _ _ hK hL ⟨⟨xv <<< (yv &&& 31), rfl, by simp only [tp_shl, ← ex, ← ey, Int32.ofInt_toInt]⟩, hS⟩ hl hc hs)
theorem sim_ishr (hd : decode cc pc = .ok (.ishr, 1)) : tp_Sim X own cc ret nL pc 1 o_ishr := by
  intro p l e R s m args below meth c Q a0 b0 F L S h nx hnx
  rcases S with _ | ⟨y | y, _ | ⟨x | x, S⟩⟩ <;> try (simp [o_ishr, tp_i2, tp_l2, tp_j1, tp_j2] at hnx; done)
  cases hnx
  refine ⟨⟨Nat.le_refl _, Nat.le_refl _⟩, fun _ _ ok => ?_⟩
  intro H locs cells slots ls st hK hL hS hl hc hs
  rcases st with _ | ⟨_, _ | ⟨_, st⟩⟩
  · exact hS.elim
  · exact hS.2.elim
  · obtain ⟨e1, e2, hS⟩ := hS
    · skip
      obtain ⟨yv, rfl, ey⟩ := e1
      obtain ⟨xv, rfl, ex⟩ := e2
      exact lv_ishr F.1 F.2.1 hd (ok _ _ _ _ _ _ hK hL ⟨⟨xv >>> (yv &&& 31), rfl, by simp only [tp_shr, ← ex, ← ey, Int32.ofInt_toInt]⟩, hS⟩ hl hc hs)
theorem sim_ladd (hd : decode cc pc = .ok (.ladd, 1)) : tp_Sim X own cc ret nL pc 1 o_ladd := by
  intro p l e R s m args below meth c Q a0 b0 F L S h nx hnx
  rcases S with _ | ⟨y | y | y, _ | ⟨x | x | x, S⟩⟩ <;> try (simp [o_ladd, tp_i2, tp_l2, tp_j1, tp_j2] at hnx; done)
  cases hnx
  refine ⟨⟨Nat.le_refl _, Nat.le_refl _⟩, fun _ _ ok => ?_⟩
  intro H locs cells slots ls st hK hL hS hl hc hs
  rcases st with _ | ⟨_, _ | ⟨_, st⟩⟩
  · exact hS.elim
  · exact hS.2.elim
  · obtain ⟨e1, e2, hS⟩ := hS
    · skip
      obtain ⟨yv, rfl, ey⟩ := e1
      obtain ⟨xv, rfl, ex⟩ := e2
      exact lv_ladd F.1 F.2.1 hd (ok _ _ _ _ _ _ hK hL ⟨⟨xv + yv, rfl, by rw [Int64.toInt_add, ex, ey]; rfl⟩, hS⟩ hl hc hs)
theorem sim_lsub (hd : decode cc pc = .ok (.lsub, 1)) : tp_Sim X own cc ret nL pc 1 o_lsub := by
  intro p l e R s m args below meth c Q a0 b0 F L S h nx hnx
  rcases S with _ | ⟨y | y | y, _ | ⟨x | x | x, S⟩⟩ <;> try (simp [o_lsub, tp_i2, tp_l2, tp_j1, tp_j2] at hnx; done)
  cases hnx
  refine ⟨⟨Nat.le_refl _, Nat.le_refl _⟩, fun _ _ ok => ?_⟩
  intro H locs cells slots ls st hK hL hS hl hc hs
  rcases st with _ | ⟨_, _ | ⟨_, st⟩⟩
  · exact hS.elim
  · exact hS.2.elim
  · obtain ⟨e1, e2, hS⟩ := hS
    · skip
      obtain ⟨yv, rfl, ey⟩ := e1
      obtain ⟨xv, rfl, ex⟩ := e2
      exact lv_lsub F.1 F.2.1 hd (ok _ _ _ _ _ _ hK hL ⟨⟨xv - yv, rfl, by rw [Int64.toInt_sub, ex, ey]; rfl⟩, hS⟩ hl hc hs)
theorem sim_lmul (hd : decode cc pc = .ok (.lmul, 1)) : tp_Sim X own cc ret nL pc 1 o_lmul := by
  intro p l e R s m args below meth c Q a0 b0 F L S h nx hnx
  rcases S with _ | ⟨y | y | y, _ | ⟨x | x | x, S⟩⟩ <;> try (simp [o_lmul, tp_i2, tp_l2, tp_j1, tp_j2] at hnx; done)
  cases hnx
  refine ⟨⟨Nat.le_refl _, Nat.le_refl _⟩, fun _ _ ok => ?_⟩
  intro H locs cells slots ls st hK hL hS hl hc hs
  rcases st with _ | ⟨_, _ | ⟨_, st⟩⟩
  · exact hS.elim
  · exact hS.2.elim
  · obtain ⟨e1, e2, hS⟩ := hS
    · skip
      obtain ⟨yv, rfl, ey⟩ := e1
      obtain ⟨xv, rfl, ex⟩ := e2
      exact lv_lmul F.1 F.2.1 hd (ok _ _ _ _ _ _ hK hL ⟨⟨xv * yv, rfl, by rw [Int64.toInt_mul, ex, ey]; rfl⟩, hS⟩ hl hc hs)
theorem sim_lor (hd : decode cc pc = .ok (.lor, 1)) : tp_Sim X own cc ret nL pc 1 o_lor := by
  intro p l e R s m args below meth c Q a0 b0 F L S h nx hnx
  rcases S with _ | ⟨y | y | y, _ | ⟨x | x | x, S⟩⟩ <;> try (simp [o_lor, tp_i2, tp_l2, tp_j1, tp_j2] at hnx; done)
  cases hnx
  refine ⟨⟨Nat.le_refl _, Nat.le_refl _⟩, fun _ _ ok => ?_⟩
  intro H locs cells slots ls st hK hL hS hl hc hs
  rcases st with _ | ⟨_, _ | ⟨_, st⟩⟩
  · exact hS.elim
  · exact hS.2.elim
  · obtain ⟨e1, e2, hS⟩ := hS
    · skip
      obtain ⟨yv, rfl, ey⟩ := e1
      obtain ⟨xv, rfl, ex⟩ := e2
      exact lv_lor F.1 F.2.1 hd (ok _ _ _ _ _ _ hK hL ⟨⟨xv ||| yv, rfl, by simp only [tp_lor, ← ex, ← ey, Int64.ofInt_toInt]⟩, hS⟩ hl hc hs)
theorem sim_idiv (hd : decode cc pc = .ok (.idiv, 1)) : tp_Sim X own cc ret nL pc 1 o_idiv := by
  intro p l e R s m args below meth c Q a0 b0 F L S h nx hnx
  rcases S with _ | ⟨y | y, _ | ⟨x | x, S⟩⟩ <;> try (simp [o_idiv, tp_i2, tp_l2, tp_j1, tp_j2] at hnx; done)
  have hy : ¬ y = 0 := by
    intro e0; simp [o_idiv, tp_i2, e0] at hnx
  simp only [o_idiv, tp_i2, if_neg hy, tp_go] at hnx
  cases hnx
  refine ⟨⟨Nat.le_refl _, Nat.le_refl _⟩, fun _ _ ok => ?_⟩
  intro H locs cells slots ls st hK hL hS hl hc hs
  rcases st with _ | ⟨_, _ | ⟨_, st⟩⟩
  · exact hS.elim
  · exact hS.2.elim
  · obtain ⟨e1, e2, hS⟩ := hS
    · skip
      obtain ⟨yv, rfl, ey⟩ := e1
      obtain ⟨xv, rfl, ex⟩ := e2
      exact lv_idiv F.1 F.2.1 hd (fun e0 => hy (by rw [← ey, e0]; rfl)) (ok _ _ _ _ _ _ hK hL ⟨⟨xv / yv, rfl, by rw [Int32.toInt_div, ex, ey]; rfl⟩, hS⟩ hl hc hs)
theorem sim_ldiv (hd : decode cc pc = .ok (.ldiv, 1)) : tp_Sim X own cc ret nL pc 1 o_ldiv := by
  intro p l e R s m args below meth c Q a0 b0 F L S h nx hnx
  rcases S with _ | ⟨y | y | y, _ | ⟨x | x | x, S⟩⟩ <;> try (simp [o_ldiv, tp_i2, tp_l2, tp_j1, tp_j2] at hnx; done)
  have hy : ¬ y = 0 := by
    intro e0; simp [o_ldiv, tp_l2, e0] at hnx
  simp only [o_ldiv, tp_l2, if_neg hy, tp_go] at hnx
  cases hnx
  refine ⟨⟨Nat.le_refl _, Nat.le_refl _⟩, fun _ _ ok => ?_⟩
  intro H locs cells slots ls st hK hL hS hl hc hs
  rcases st with _ | ⟨_, _ | ⟨_, st⟩⟩
  · exact hS.elim
  · exact hS.2.elim
  · obtain ⟨e1, e2, hS⟩ := hS
    · skip
      obtain ⟨yv, rfl, ey⟩ := e1
      obtain ⟨xv, rfl, ex⟩ := e2
      exact lv_ldiv F.1 F.2.1 hd (fun e0 => hy (by rw [← ey, e0]; rfl)) (ok _ _ _ _ _ _ hK hL ⟨⟨xv / yv, rfl, by rw [Int64.toInt_div, ex, ey]; rfl⟩, hS⟩ hl hc hs)
theorem sim_irem (hd : decode cc pc = .ok (.irem, 1)) : tp_Sim X own cc ret nL pc 1 o_irem := by
  intro p l e R s m args below meth c Q a0 b0 F L S h nx hnx
  rcases S with _ | ⟨y | y, _ | ⟨x | x, S⟩⟩ <;> try (simp [o_irem, tp_i2, tp_l2, tp_j1, tp_j2] at hnx; done)
  have hy : ¬ y = 0 := by
    intro e0; simp [o_irem, tp_i2, e0] at hnx
  simp only [o_irem, tp_i2, if_neg hy, tp_go] at hnx
  cases hnx
  refine ⟨⟨Nat.le_refl _, Nat.le_refl _⟩, fun _ _ ok => ?_⟩
  intro H locs cells slots ls st hK hL hS hl hc hs
  rcases st with _ | ⟨_, _ | ⟨_, st⟩⟩
  · exact hS.elim
  · exact hS.2.elim
  · obtain ⟨e1, e2, hS⟩ := hS
    · skip
      obtain ⟨yv, rfl, ey⟩ := e1
      obtain ⟨xv, rfl, ex⟩ := e2
      exact lv_irem F.1 F.2.1 hd (fun e0 => hy (by rw [← ey, e0]; rfl)) (ok _ _ _ _ _ _ hK hL ⟨⟨xv - xv / yv * yv, rfl, by rw [tp_rem32, ex, ey]⟩, hS⟩ hl hc hs)
theorem sim_ineg (hd : decode cc pc = .ok (.ineg, 1)) : tp_Sim X own cc ret nL pc 1 o_ineg := by
  intro p l e R s m args below meth c Q a0 b0 F L S h nx hnx
  rcases S with _ | ⟨x | x, S⟩ <;> try (simp [o_ineg, tp_i2, tp_l2, tp_j1, tp_j2] at hnx; done)
  cases hnx
  refine ⟨⟨Nat.le_refl _, Nat.le_refl _⟩, fun _ _ ok => ?_⟩
  intro H locs cells slots ls st hK hL hS hl hc hs
  rcases st with _ | ⟨_, st⟩
  · exact hS.elim
  · obtain ⟨e2, hS⟩ := hS
    obtain ⟨xv, rfl, ex⟩ := e2
    exact lv_ineg F.1 F.2.1 hd (ok _ _ _ _ _ _ hK hL ⟨⟨-xv, rfl, by rw [Int32.toInt_neg, ex]; rfl⟩, hS⟩ hl hc hs)
theorem sim_i2l (hd : decode cc pc = .ok (.i2l, 1)) : tp_Sim X own cc ret nL pc 1 o_i2l := by
  intro p l e R s m args below meth c Q a0 b0 F L S h nx hnx
  rcases S with _ | ⟨x | x, S⟩ <;> try (simp [o_i2l, tp_i2, tp_l2, tp_j1, tp_j2] at hnx; done)
  cases hnx
  refine ⟨⟨Nat.le_refl _, Nat.le_refl _⟩, fun _ _ ok => ?_⟩
  intro H locs cells slots ls st hK hL hS hl hc hs
  rcases st with _ | ⟨_, st⟩
  · exact hS.elim
  · obtain ⟨e2, hS⟩ := hS
    obtain ⟨xv, rfl, ex⟩ := e2
    exact lv_i2l F.1 F.2.1 hd rfl (ok _ _ _ _ _ _ hK hL ⟨⟨xv.toInt64, rfl, by rw [Int32.toInt_toInt64, ex]⟩, hS⟩ hl hc hs)
theorem sim_i2b (hd : decode cc pc = .ok (.i2b, 1)) : tp_Sim X own cc ret nL pc 1 o_i2b := by
  intro p l e R s m args below meth c Q a0 b0 F L S h nx hnx
  rcases S with _ | ⟨x | x, S⟩ <;> try (simp [o_i2b, tp_i2, tp_l2, tp_j1, tp_j2] at hnx; done)
  cases hnx
  refine ⟨⟨Nat.le_refl _, Nat.le_refl _⟩, fun _ _ ok => ?_⟩
  intro H locs cells slots ls st hK hL hS hl hc hs
  rcases st with _ | ⟨_, st⟩
  · exact hS.elim
  · obtain ⟨e2, hS⟩ := hS
    obtain ⟨xv, rfl, ex⟩ := e2
    exact lv_i2b F.1 F.2.1 hd rfl (ok _ _ _ _ _ _ hK hL ⟨⟨xv.toInt8.toInt32, rfl, by simp only [tp_b8, ← ex, Int32.ofInt_toInt]⟩, hS⟩ hl hc hs)
theorem sim_i2c (hd : decode cc pc = .ok (.i2c, 1)) : tp_Sim X own cc ret nL pc 1 o_i2c := by
  intro p l e R s m args below meth c Q a0 b0 F L S h nx hnx
  rcases S with _ | ⟨x | x, S⟩ <;> try (simp [o_i2c, tp_i2, tp_l2, tp_j1, tp_j2] at hnx; done)
  cases hnx
  refine ⟨⟨Nat.le_refl _, Nat.le_refl _⟩, fun _ _ ok => ?_⟩
  intro H locs cells slots ls st hK hL hS hl hc hs
  rcases st with _ | ⟨_, st⟩
  · exact hS.elim
  · obtain ⟨e2, hS⟩ := hS
    obtain ⟨xv, rfl, ex⟩ := e2
    exact lv_i2c F.1 F.2.1 hd rfl (ok _ _ _ _ _ _ hK hL ⟨⟨(xv.toUInt32 % 65536).toInt32, rfl, by rw [tp_i2c32, ex]⟩, hS⟩ hl hc hs)
theorem sim_lneg (hd : decode cc pc = .ok (.lneg, 1)) : tp_Sim X own cc ret nL pc 1 o_lneg := by
  intro p l e R s m args below meth c Q a0 b0 F L S h nx hnx
  rcases S with _ | ⟨x | x | x, S⟩ <;> try (simp [o_lneg, tp_i2, tp_l2, tp_j1, tp_j2] at hnx; done)
  cases hnx
  refine ⟨⟨Nat.le_refl _, Nat.le_refl _⟩, fun _ _ ok => ?_⟩
  intro H locs cells slots ls st hK hL hS hl hc hs
  rcases st with _ | ⟨_, st⟩
  · exact hS.elim
  · obtain ⟨e2, hS⟩ := hS
    obtain ⟨xv, rfl, ex⟩ := e2
    exact lv_lneg F.1 F.2.1 hd (ok _ _ _ _ _ _ hK hL ⟨⟨-xv, rfl, by rw [Int64.toInt_neg, ex]; rfl⟩, hS⟩ hl hc hs)
theorem sim_l2i (hd : decode cc pc = .ok (.l2i, 1)) : tp_Sim X own cc ret nL pc 1 o_l2i := by
  intro p l e R s m args below meth c Q a0 b0 F L S h nx hnx
  rcases S with _ | ⟨x | x | x, S⟩ <;> try (simp [o_l2i, tp_i2, tp_l2, tp_j1, tp_j2] at hnx; done)
  cases hnx
  refine ⟨⟨Nat.le_refl _, Nat.le_refl _⟩, fun _ _ ok => ?_⟩
  intro H locs cells slots ls st hK hL hS hl hc hs
  rcases st with _ | ⟨_, st⟩
  · exact hS.elim
  · obtain ⟨e2, hS⟩ := hS
    obtain ⟨xv, rfl, ex⟩ := e2
    exact lv_l2i F.1 F.2.1 hd rfl (ok _ _ _ _ _ _ hK hL ⟨⟨xv.toInt32, rfl, by rw [Int64.toInt_toInt32, ex]; rfl⟩, hS⟩ hl hc hs)
theorem sim_lshl (hd : decode cc pc = .ok (.lshl, 1)) : tp_Sim X own cc ret nL pc 1 o_lshl := by
  intro p l e R s m args below meth c Q a0 b0 F L S h nx hnx
  rcases S with _ | ⟨y | y, _ | ⟨x | x | x, S⟩⟩ <;> try (simp [o_lshl, tp_i2, tp_l2, tp_j1, tp_j2] at hnx; done)
  cases hnx
  refine ⟨⟨Nat.le_refl _, Nat.le_refl _⟩, fun _ _ ok => ?_⟩
  intro H locs cells slots ls st hK hL hS hl hc hs
  rcases st with _ | ⟨_, _ | ⟨_, st⟩⟩
  · exact hS.elim
  · exact hS.2.elim
  · obtain ⟨e1, e2, hS⟩ := hS
    · skip
      obtain ⟨yv, rfl, ey⟩ := e1
      obtain ⟨xv, rfl, ex⟩ := e2
      exact lv_lshl F.1 F.2.1 hd rfl (ok _ _ _ _ _ _ hK hL ⟨⟨xv <<< (yv.toInt64 &&& 63), rfl, by simp only [tp_lshl, ← ex, ← ey, Int32.ofInt_toInt, Int64.ofInt_toInt]⟩, hS⟩ hl hc hs)
theorem sim_lcmp (hd : decode cc pc = .ok (.lcmp, 1)) : tp_Sim X own cc ret nL pc 1 o_lcmp := by
  intro p l e R s m args below meth c Q a0 b0 F L S h nx hnx
  rcases S with _ | ⟨y | y | y, _ | ⟨x | x | x, S⟩⟩ <;> try (simp [o_lcmp, tp_i2, tp_l2, tp_j1, tp_j2] at hnx; done)
  cases hnx
  refine ⟨⟨Nat.le_refl _, Nat.le_refl _⟩, fun _ _ ok => ?_⟩
  intro H locs cells slots ls st hK hL hS hl hc hs
  rcases st with _ | ⟨_, _ | ⟨_, st⟩⟩
  · exact hS.elim
  · exact hS.2.elim
  · obtain ⟨e1, e2, hS⟩ := hS
    · skip
      obtain ⟨yv, rfl, ey⟩ := e1
      obtain ⟨xv, rfl, ex⟩ := e2
      exact W.lcmp F.1 F.2.1 hd (ok _ _ _ _ _ _ hK hL ⟨⟨lg_cmp xv yv, rfl, by rw [tp_cmp64, ex, ey]⟩, hS⟩ hl hc hs)
theorem sim_ifeq {off : Int} {t : Nat} (hd : decode cc pc = .ok (.ifCond .eq off, 3)) (ht : (pc : Int) + off = (t : Int)) : tp_Sim X own cc ret nL pc 3 (o_ifeq off t) := by
  intro p l e R s m args below meth c Q a0 b0 F L S h nx hnx
  rcases S with _ | ⟨x | x, S⟩ <;> try (simp [o_ifeq, tp_i2, tp_l2, tp_j1, tp_j2] at hnx; done)
  by_cases hj : x = 0
  · have hnx : some (.inl (some t, L, S, h)) = some nx := by rw [← hnx]; simp only [o_ifeq, tp_j1, decide_eq_true_eq, if_pos hj, tp_jp]
    cases hnx
    refine ⟨⟨Nat.le_refl _, Nat.le_refl _⟩, fun _ _ ok => ?_⟩
    intro H locs cells slots ls st hK hL hS hl hc hs
    rcases st with _ | ⟨_, st⟩
    · exact hS.elim
    · obtain ⟨e2, hS⟩ := hS
      obtain ⟨xv, rfl, ex⟩ := e2
      exact lv_if_eq F.1 F.2.1 hd ht (fun q => ok _ _ _ _ _ _ hK hL hS hl hc hs) (fun q => absurd ((tp_q0 ex).mpr hj) q)
  · have hnx : some (.inl (none, L, S, h)) = some nx := by rw [← hnx]; simp only [o_ifeq, tp_j1, decide_eq_true_eq, if_neg hj, tp_go]
    cases hnx
    refine ⟨⟨Nat.le_refl _, Nat.le_refl _⟩, fun _ _ ok => ?_⟩
    intro H locs cells slots ls st hK hL hS hl hc hs
    rcases st with _ | ⟨_, st⟩
    · exact hS.elim
    · obtain ⟨e2, hS⟩ := hS
      obtain ⟨xv, rfl, ex⟩ := e2
      exact lv_if_eq F.1 F.2.1 hd ht (fun q => absurd ((tp_q0 ex).mp q) hj) (fun q => ok _ _ _ _ _ _ hK hL hS hl hc hs)
theorem sim_iflt {off : Int} {t : Nat} (hd : decode cc pc = .ok (.ifCond .lt off, 3)) (ht : (pc : Int) + off = (t : Int)) : tp_Sim X own cc ret nL pc 3 (o_iflt off t) := by
  intro p l e R s m args below meth c Q a0 b0 F L S h nx hnx
  rcases S with _ | ⟨x | x, S⟩ <;> try (simp [o_iflt, tp_i2, tp_l2, tp_j1, tp_j2] at hnx; done)
  by_cases hj : x < 0
  · have hnx : some (.inl (some t, L, S, h)) = some nx := by rw [← hnx]; simp only [o_iflt, tp_j1, decide_eq_true_eq, if_pos hj, tp_jp]
    cases hnx
    refine ⟨⟨Nat.le_refl _, Nat.le_refl _⟩, fun _ _ ok => ?_⟩
    intro H locs cells slots ls st hK hL hS hl hc hs
    rcases st with _ | ⟨_, st⟩
    · exact hS.elim
    · obtain ⟨e2, hS⟩ := hS
      obtain ⟨xv, rfl, ex⟩ := e2
      exact lv_if_lt F.1 F.2.1 hd ht (fun q => ok _ _ _ _ _ _ hK hL hS hl hc hs) (fun q => absurd ((tp_lt0 ex).mpr hj) q)
  · have hnx : some (.inl (none, L, S, h)) = some nx := by rw [← hnx]; simp only [o_iflt, tp_j1, decide_eq_true_eq, if_neg hj, tp_go]
    cases hnx
    refine ⟨⟨Nat.le_refl _, Nat.le_refl _⟩, fun _ _ ok => ?_⟩
    intro H locs cells slots ls st hK hL hS hl hc hs
    rcases st with _ | ⟨_, st⟩
    · exact hS.elim
    · obtain ⟨e2, hS⟩ := hS
      obtain ⟨xv, rfl, ex⟩ := e2
      exact lv_if_lt F.1 F.2.1 hd ht (fun q => absurd ((tp_lt0 ex).mp q) hj) (fun q => ok _ _ _ _ _ _ hK hL hS hl hc hs)
theorem sim_ifge {off : Int} {t : Nat} (hd : decode cc pc = .ok (.ifCond .ge off, 3)) (ht : (pc : Int) + off = (t : Int)) : tp_Sim X own cc ret nL pc 3 (o_ifge off t) := by
  intro p l e R s m args below meth c Q a0 b0 F L S h nx hnx
  rcases S with _ | ⟨x | x, S⟩ <;> try (simp [o_ifge, tp_i2, tp_l2, tp_j1, tp_j2] at hnx; done)
  by_cases hj : ¬ x < 0
  · have hnx : some (.inl (some t, L, S, h)) = some nx := by rw [← hnx]; simp only [o_ifge, tp_j1, decide_eq_true_eq, if_pos hj, tp_jp]
    cases hnx
    refine ⟨⟨Nat.le_refl _, Nat.le_refl _⟩, fun _ _ ok => ?_⟩
    intro H locs cells slots ls st hK hL hS hl hc hs
    rcases st with _ | ⟨_, st⟩
    · exact hS.elim
    · obtain ⟨e2, hS⟩ := hS
      obtain ⟨xv, rfl, ex⟩ := e2
      exact lv_if_ge F.1 F.2.1 hd ht (fun q => ok _ _ _ _ _ _ hK hL hS hl hc hs) (fun q => absurd ((tp_ge0 ex).mpr hj) q)
  · have hnx : some (.inl (none, L, S, h)) = some nx := by rw [← hnx]; simp only [o_ifge, tp_j1, decide_eq_true_eq, if_neg hj, tp_go]
    cases hnx
    refine ⟨⟨Nat.le_refl _, Nat.le_refl _⟩, fun _ _ ok => ?_⟩
    intro H locs cells slots ls st hK hL hS hl hc hs
    rcases st with _ | ⟨_, st⟩
    · exact hS.elim
    · obtain ⟨e2, hS⟩ := hS
      obtain ⟨xv, rfl, ex⟩ := e2
      exact lv_if_ge F.1 F.2.1 hd ht (fun q => absurd ((tp_ge0 ex).mp q) hj) (fun q => ok _ _ _ _ _ _ hK hL hS hl hc hs)
theorem sim_ifgt {off : Int} {t : Nat} (hd : decode cc pc = .ok (.ifCond .gt off, 3)) (ht : (pc : Int) + off = (t : Int)) : tp_Sim X own cc ret nL pc 3 (o_ifgt off t) := by
  intro p l e R s m args below meth c Q a0 b0 F L S h nx hnx
  rcases S with _ | ⟨x | x, S⟩ <;> try (simp [o_ifgt, tp_i2, tp_l2, tp_j1, tp_j2] at hnx; done)
  by_cases hj : 0 < x
  · have hnx : some (.inl (some t, L, S, h)) = some nx := by rw [← hnx]; simp only [o_ifgt, tp_j1, decide_eq_true_eq, if_pos hj, tp_jp]
    cases hnx
    refine ⟨⟨Nat.le_refl _, Nat.le_refl _⟩, fun _ _ ok => ?_⟩
    intro H locs cells slots ls st hK hL hS hl hc hs
    rcases st with _ | ⟨_, st⟩
    · exact hS.elim
    · obtain ⟨e2, hS⟩ := hS
      obtain ⟨xv, rfl, ex⟩ := e2
      exact lv_if_gt F.1 F.2.1 hd ht (fun q => ok _ _ _ _ _ _ hK hL hS hl hc hs) (fun q => absurd ((tp_gt0 ex).mpr hj) q)
  · have hnx : some (.inl (none, L, S, h)) = some nx := by rw [← hnx]; simp only [o_ifgt, tp_j1, decide_eq_true_eq, if_neg hj, tp_go]
    cases hnx
    refine ⟨⟨Nat.le_refl _, Nat.le_refl _⟩, fun _ _ ok => ?_⟩
    intro H locs cells slots ls st hK hL hS hl hc hs
    rcases st with _ | ⟨_, st⟩
    · exact hS.elim
    · obtain ⟨e2, hS⟩ := hS
      obtain ⟨xv, rfl, ex⟩ := e2
      exact lv_if_gt F.1 F.2.1 hd ht (fun q => absurd ((tp_gt0 ex).mp q) hj) (fun q => ok _ _ _ _ _ _ hK hL hS hl hc hs)
theorem sim_ifle {off : Int} {t : Nat} (hd : decode cc pc = .ok (.ifCond .le off, 3)) (ht : (pc : Int) + off = (t : Int)) : tp_Sim X own cc ret nL pc 3 (o_ifle off t) := by
  intro p l e R s m args below meth c Q a0 b0 F L S h nx hnx
  rcases S with _ | ⟨x | x, S⟩ <;> try (simp [o_ifle, tp_i2, tp_l2, tp_j1, tp_j2] at hnx; done)
  by_cases hj : ¬ 0 < x
  · have hnx : some (.inl (some t, L, S, h)) = some nx := by rw [← hnx]; simp only [o_ifle, tp_j1, decide_eq_true_eq, if_pos hj, tp_jp]
    cases hnx
    refine ⟨⟨Nat.le_refl _, Nat.le_refl _⟩, fun _ _ ok => ?_⟩
    intro H locs cells slots ls st hK hL hS hl hc hs
    rcases st with _ | ⟨_, st⟩
    · exact hS.elim
    · obtain ⟨e2, hS⟩ := hS
      obtain ⟨xv, rfl, ex⟩ := e2
      exact lv_if_le F.1 F.2.1 hd ht (fun q => ok _ _ _ _ _ _ hK hL hS hl hc hs) (fun q => absurd ((tp_le0 ex).mpr hj) q)
  · have hnx : some (.inl (none, L, S, h)) = some nx := by rw [← hnx]; simp only [o_ifle, tp_j1, decide_eq_true_eq, if_neg hj, tp_go]
    cases hnx
    refine ⟨⟨Nat.le_refl _, Nat.le_refl _⟩, fun _ _ ok => ?_⟩
    intro H locs cells slots ls st hK hL hS hl hc hs
    rcases st with _ | ⟨_, st⟩
    · exact hS.elim
    · obtain ⟨e2, hS⟩ := hS
      obtain ⟨xv, rfl, ex⟩ := e2
      exact lv_if_le F.1 F.2.1 hd ht (fun q => absurd ((tp_le0 ex).mp q) hj) (fun q => ok _ _ _ _ _ _ hK hL hS hl hc hs)
theorem sim_ifne {off : Int} {t : Nat} (hd : decode cc pc = .ok (.ifCond .ne off, 3)) (ht : (pc : Int) + off = (t : Int)) : tp_Sim X own cc ret nL pc 3 (o_ifne off t) := by
  intro p l e R s m args below meth c Q a0 b0 F L S h nx hnx
  rcases S with _ | ⟨x | x, S⟩ <;> try (simp [o_ifne, tp_i2, tp_l2, tp_j1, tp_j2] at hnx; done)
  by_cases hj : ¬ x = 0
  · have hnx : some (.inl (some t, L, S, h)) = some nx := by rw [← hnx]; simp only [o_ifne, tp_j1, decide_eq_true_eq, if_pos hj, tp_jp]
    cases hnx
    refine ⟨⟨Nat.le_refl _, Nat.le_refl _⟩, fun _ _ ok => ?_⟩
    intro H locs cells slots ls st hK hL hS hl hc hs
    rcases st with _ | ⟨_, st⟩
    · exact hS.elim
    · obtain ⟨e2, hS⟩ := hS
      obtain ⟨xv, rfl, ex⟩ := e2
      exact lv_if_ne F.1 F.2.1 hd ht (fun q => ok _ _ _ _ _ _ hK hL hS hl hc hs) (fun q => absurd ((tp_q0 ex).mp q) hj)
  · have hnx : some (.inl (none, L, S, h)) = some nx := by rw [← hnx]; simp only [o_ifne, tp_j1, decide_eq_true_eq, if_neg hj, tp_go]
    cases hnx
    refine ⟨⟨Nat.le_refl _, Nat.le_refl _⟩, fun _ _ ok => ?_⟩
    intro H locs cells slots ls st hK hL hS hl hc hs
    rcases st with _ | ⟨_, st⟩
    · exact hS.elim
    · obtain ⟨e2, hS⟩ := hS
      obtain ⟨xv, rfl, ex⟩ := e2
      exact lv_if_ne F.1 F.2.1 hd ht (fun q => absurd ((tp_q0 ex).mpr (Classical.not_not.mp hj)) q) (fun q => ok _ _ _ _ _ _ hK hL hS hl hc hs)
theorem sim_icmpeq {off : Int} {t : Nat} (hd : decode cc pc = .ok (.if_icmp .eq off, 3)) (ht : (pc : Int) + off = (t : Int)) : tp_Sim X own cc ret nL pc 3 (o_icmpeq off t) := by
  intro p l e R s m args below meth c Q a0 b0 F L S h nx hnx
  rcases S with _ | ⟨y | y, _ | ⟨x | x, S⟩⟩ <;> try (simp [o_icmpeq, tp_i2, tp_l2, tp_j1, tp_j2] at hnx; done)
  by_cases hj : x = y
  · have hnx : some (.inl (some t, L, S, h)) = some nx := by rw [← hnx]; simp only [o_icmpeq, tp_j2, decide_eq_true_eq, if_pos hj, tp_jp]
    cases hnx
    refine ⟨⟨Nat.le_refl _, Nat.le_refl _⟩, fun _ _ ok => ?_⟩
    intro H locs cells slots ls st hK hL hS hl hc hs
    rcases st with _ | ⟨_, _ | ⟨_, st⟩⟩
    · exact hS.elim
    · exact hS.2.elim
    · obtain ⟨e1, e2, hS⟩ := hS
      · skip
        obtain ⟨yv, rfl, ey⟩ := e1
        obtain ⟨xv, rfl, ex⟩ := e2
        exact lv_icmp_eq F.1 F.2.1 hd ht (fun q => ok _ _ _ _ _ _ hK hL hS hl hc hs) (fun q => absurd ((tp_q2 ex ey).mpr hj) q)
  · have hnx : some (.inl (none, L, S, h)) = some nx := by rw [← hnx]; simp only [o_icmpeq, tp_j2, decide_eq_true_eq, if_neg hj, tp_go]
    cases hnx
    refine ⟨⟨Nat.le_refl _, Nat.le_refl _⟩, fun _ _ ok => ?_⟩
    intro H locs cells slots ls st hK hL hS hl hc hs
    rcases st with _ | ⟨_, _ | ⟨_, st⟩⟩
    · exact hS.elim
    · exact hS.2.elim
    · obtain ⟨e1, e2, hS⟩ := hS
      · skip
        obtain ⟨yv, rfl, ey⟩ := e1
        obtain ⟨xv, rfl, ex⟩ := e2
        exact lv_icmp_eq F.1 F.2.1 hd ht (fun q => absurd ((tp_q2 ex ey).mp q) hj) (fun q => ok _ _ _ _ _ _ hK hL hS hl hc hs)
theorem sim_icmplt {off : Int} {t : Nat} (hd : decode cc pc = .ok (.if_icmp .lt off, 3)) (ht : (pc : Int) + off = (t : Int)) : tp_Sim X own cc ret nL pc 3 (o_icmplt off t) := by
  intro p l e R s m args below meth c Q a0 b0 F L S h nx hnx
  rcases S with _ | ⟨y | y, _ | ⟨x | x, S⟩⟩ <;> try (simp [o_icmplt, tp_i2, tp_l2, tp_j1, tp_j2] at hnx; done)
  by_cases hj : x < y
  · have hnx : some (.inl (some t, L, S, h)) = some nx := by rw [← hnx]; simp only [o_icmplt, tp_j2, decide_eq_true_eq, if_pos hj, tp_jp]
    cases hnx
    refine ⟨⟨Nat.le_refl _, Nat.le_refl _⟩, fun _ _ ok => ?_⟩
    intro H locs cells slots ls st hK hL hS hl hc hs
    rcases st with _ | ⟨_, _ | ⟨_, st⟩⟩
    · exact hS.elim
    · exact hS.2.elim
    · obtain ⟨e1, e2, hS⟩ := hS
      · skip
        obtain ⟨yv, rfl, ey⟩ := e1
        obtain ⟨xv, rfl, ex⟩ := e2
        exact lv_icmp_lt F.1 F.2.1 hd ht (fun q => ok _ _ _ _ _ _ hK hL hS hl hc hs) (fun q => absurd ((tp_lt2 ex ey).mpr hj) q)
  · have hnx : some (.inl (none, L, S, h)) = some nx := by rw [← hnx]; simp only [o_icmplt, tp_j2, decide_eq_true_eq, if_neg hj, tp_go]
    cases hnx
    refine ⟨⟨Nat.le_refl _, Nat.le_refl _⟩, fun _ _ ok => ?_⟩
    intro H locs cells slots ls st hK hL hS hl hc hs
    rcases st with _ | ⟨_, _ | ⟨_, st⟩⟩
    · exact hS.elim
    · exact hS.2.elim
    · obtain ⟨e1, e2, hS⟩ := hS
      · skip
        obtain ⟨yv, rfl, ey⟩ := e1
        obtain ⟨xv, rfl, ex⟩ := e2
        exact lv_icmp_lt F.1 F.2.1 hd ht (fun q => absurd ((tp_lt2 ex ey).mp q) hj) (fun q => ok _ _ _ _ _ _ hK hL hS hl hc hs)
theorem sim_icmpge {off : Int} {t : Nat} (hd : decode cc pc = .ok (.if_icmp .ge off, 3)) (ht : (pc : Int) + off = (t : Int)) : tp_Sim X own cc ret nL pc 3 (o_icmpge off t) := by
  intro p l e R s m args below meth c Q a0 b0 F L S h nx hnx
  rcases S with _ | ⟨y | y, _ | ⟨x | x, S⟩⟩ <;> try (simp [o_icmpge, tp_i2, tp_l2, tp_j1, tp_j2] at hnx; done)
  by_cases hj : ¬ x < y
  · have hnx : some (.inl (some t, L, S, h)) = some nx := by rw [← hnx]; simp only [o_icmpge, tp_j2, decide_eq_true_eq, if_pos hj, tp_jp]
    cases hnx
    refine ⟨⟨Nat.le_refl _, Nat.le_refl _⟩, fun _ _ ok => ?_⟩
    intro H locs cells slots ls st hK hL hS hl hc hs
    rcases st with _ | ⟨_, _ | ⟨_, st⟩⟩
    · exact hS.elim
    · exact hS.2.elim
    · obtain ⟨e1, e2, hS⟩ := hS
      · skip
        obtain ⟨yv, rfl, ey⟩ := e1
        obtain ⟨xv, rfl, ex⟩ := e2
        exact lv_icmp_ge F.1 F.2.1 hd ht (fun q => ok _ _ _ _ _ _ hK hL hS hl hc hs) (fun q => absurd ((tp_ge2 ex ey).mpr hj) q)
  · have hnx : some (.inl (none, L, S, h)) = some nx := by rw [← hnx]; simp only [o_icmpge, tp_j2, decide_eq_true_eq, if_neg hj, tp_go]
    cases hnx
    refine ⟨⟨Nat.le_refl _, Nat.le_refl _⟩, fun _ _ ok => ?_⟩
    intro H locs cells slots ls st hK hL hS hl hc hs
    rcases st with _ | ⟨_, _ | ⟨_, st⟩⟩
    · exact hS.elim
    · exact hS.2.elim
    · obtain ⟨e1, e2, hS⟩ := hS
      · skip
        obtain ⟨yv, rfl, ey⟩ := e1
        obtain ⟨xv, rfl, ex⟩ := e2
        exact lv_icmp_ge F.1 F.2.1 hd ht (fun q => absurd ((tp_ge2 ex ey).mp q) hj) (fun q => ok _ _ _ _ _ _ hK hL hS hl hc hs)
theorem sim_icmpgt {off : Int} {t : Nat} (hd : decode cc pc = .ok (.if_icmp .gt off, 3)) (ht : (pc : Int) + off = (t : Int)) : tp_Sim X own cc ret nL pc 3 (o_icmpgt off t) := by
  intro p l e R s m args below meth c Q a0 b0 F L S h nx hnx
  rcases S with _ | ⟨y | y, _ | ⟨x | x, S⟩⟩ <;> try (simp [o_icmpgt, tp_i2, tp_l2, tp_j1, tp_j2] at hnx; done)
  by_cases hj : y < x
  · have hnx : some (.inl (some t, L, S, h)) = some nx := by rw [← hnx]; simp only [o_icmpgt, tp_j2, decide_eq_true_eq, if_pos hj, tp_jp]
    cases hnx
    refine ⟨⟨Nat.le_refl _, Nat.le_refl _⟩, fun _ _ ok => ?_⟩
    intro H locs cells slots ls st hK hL hS hl hc hs
    rcases st with _ | ⟨_, _ | ⟨_, st⟩⟩
    · exact hS.elim
    · exact hS.2.elim
    · obtain ⟨e1, e2, hS⟩ := hS
      · skip
        obtain ⟨yv, rfl, ey⟩ := e1
        obtain ⟨xv, rfl, ex⟩ := e2
        exact lv_icmp_gt F.1 F.2.1 hd ht (fun q => ok _ _ _ _ _ _ hK hL hS hl hc hs) (fun q => absurd ((tp_gt2 ex ey).mpr hj) q)
  · have hnx : some (.inl (none, L, S, h)) = some nx := by rw [← hnx]; simp only [o_icmpgt, tp_j2, decide_eq_true_eq, if_neg hj, tp_go]
    cases hnx
    refine ⟨⟨Nat.le_refl _, Nat.le_refl _⟩, fun _ _ ok => ?_⟩
    intro H locs cells slots ls st hK hL hS hl hc hs
    rcases st with _ | ⟨_, _ | ⟨_, st⟩⟩
    · exact hS.elim
    · exact hS.2.elim
    · obtain ⟨e1, e2, hS⟩ := hS
      · skip
        obtain ⟨yv, rfl, ey⟩ := e1
        obtain ⟨xv, rfl, ex⟩ := e2
        exact lv_icmp_gt F.1 F.2.1 hd ht (fun q => absurd ((tp_gt2 ex ey).mp q) hj) (fun q => ok _ _ _ _ _ _ hK hL hS hl hc hs)
theorem sim_icmple {off : Int} {t : Nat} (hd : decode cc pc = .ok (.if_icmp .le off, 3)) (ht : (pc : Int) + off = (t : Int)) : tp_Sim X own cc ret nL pc 3 (o_icmple off t) := by
  intro p l e R s m args below meth c Q a0 b0 F L S h nx hnx
  rcases S with _ | ⟨y | y, _ | ⟨x | x, S⟩⟩ <;> try (simp [o_icmple, tp_i2, tp_l2, tp_j1, tp_j2] at hnx; done)
  by_cases hj : ¬ y < x
  · have hnx : some (.inl (some t, L, S, h)) = some nx := by rw [← hnx]; simp only [o_icmple, tp_j2, decide_eq_true_eq, if_pos hj, tp_jp]
    cases hnx
    refine ⟨⟨Nat.le_refl _, Nat.le_refl _⟩, fun _ _ ok => ?_⟩
    intro H locs cells slots ls st hK hL hS hl hc hs
    rcases st with _ | ⟨_, _ | ⟨_, st⟩⟩
    · exact hS.elim
    · exact hS.2.elim
    · obtain ⟨e1, e2, hS⟩ := hS
      · skip
        obtain ⟨yv, rfl, ey⟩ := e1
        obtain ⟨xv, rfl, ex⟩ := e2
        exact lv_icmp_le F.1 F.2.1 hd ht (fun q => ok _ _ _ _ _ _ hK hL hS hl hc hs) (fun q => absurd ((tp_le2 ex ey).mpr hj) q)
  · have hnx : some (.inl (none, L, S, h)) = some nx := by rw [← hnx]; simp only [o_icmple, tp_j2, decide_eq_true_eq, if_neg hj, tp_go]
    cases hnx
    refine ⟨⟨Nat.le_refl _, Nat.le_refl _⟩, fun _ _ ok => ?_⟩
    intro H locs cells slots ls st hK hL hS hl hc hs
    rcases st with _ | ⟨_, _ | ⟨_, st⟩⟩
    · exact hS.elim
    · exact hS.2.elim
    · obtain ⟨e1, e2, hS⟩ := hS
      · skip
        obtain ⟨yv, rfl, ey⟩ := e1
        obtain ⟨xv, rfl, ex⟩ := e2
        exact lv_icmp_le F.1 F.2.1 hd ht (fun q => absurd ((tp_le2 ex ey).mp q) hj) (fun q => ok _ _ _ _ _ _ hK hL hS hl hc hs)
theorem sim_icmpne {off : Int} {t : Nat} (hd : decode cc pc = .ok (.if_icmp .ne off, 3)) (ht : (pc : Int) + off = (t : Int)) : tp_Sim X own cc ret nL pc 3 (o_icmpne off t) := by
  intro p l e R s m args below meth c Q a0 b0 F L S h nx hnx
  rcases S with _ | ⟨y | y, _ | ⟨x | x, S⟩⟩ <;> try (simp [o_icmpne, tp_i2, tp_l2, tp_j1, tp_j2] at hnx; done)
  by_cases hj : ¬ x = y
  · have hnx : some (.inl (some t, L, S, h)) = some nx := by rw [← hnx]; simp only [o_icmpne, tp_j2, decide_eq_true_eq, if_pos hj, tp_jp]
    cases hnx
    refine ⟨⟨Nat.le_refl _, Nat.le_refl _⟩, fun _ _ ok => ?_⟩
    intro H locs cells slots ls st hK hL hS hl hc hs
    rcases st with _ | ⟨_, _ | ⟨_, st⟩⟩
    · exact hS.elim
    · exact hS.2.elim
    · obtain ⟨e1, e2, hS⟩ := hS
      · skip
        obtain ⟨yv, rfl, ey⟩ := e1
        obtain ⟨xv, rfl, ex⟩ := e2
        exact lv_icmp_ne F.1 F.2.1 hd ht (fun q => ok _ _ _ _ _ _ hK hL hS hl hc hs) (fun q => absurd ((tp_q2 ex ey).mp q) hj)
  · have hnx : some (.inl (none, L, S, h)) = some nx := by rw [← hnx]; simp only [o_icmpne, tp_j2, decide_eq_true_eq, if_neg hj, tp_go]
    cases hnx
    refine ⟨⟨Nat.le_refl _, Nat.le_refl _⟩, fun _ _ ok => ?_⟩
    intro H locs cells slots ls st hK hL hS hl hc hs
    rcases st with _ | ⟨_, _ | ⟨_, st⟩⟩
    · exact hS.elim
    · exact hS.2.elim
    · obtain ⟨e1, e2, hS⟩ := hS
      · skip
        obtain ⟨yv, rfl, ey⟩ := e1
        obtain ⟨xv, rfl, ex⟩ := e2
        exact lv_icmp_ne F.1 F.2.1 hd ht (fun q => absurd ((tp_q2 ex ey).mpr (Classical.not_not.mp hj)) q) (fun q => ok _ _ _ _ _ _ hK hL hS hl hc hs)
end Sims
