/-! THE SMALL INTERPRETER: values, heap, operations. Ints are mathematical numbers that every arithmetic operation wraps; references are addresses. -/
abbrev tp_V : Type := Int ⊕ (Int ⊕ Option Nat)
abbrev xI (x : Int) : tp_V := Sum.inl x
abbrev xJ (x : Int) : tp_V := Sum.inr (Sum.inl x)
abbrev xR (a : Nat) : tp_V := Sum.inr (Sum.inr (some a))
abbrev xN : tp_V := Sum.inr (Sum.inr none)
abbrev xO (r : Option Nat) : tp_V := Sum.inr (Sum.inr r)
/-- a cell: an array (tag of its type, length, contents) or an object (number of its class, its fields) -/
abbrev tp_E : Type := (Nat × Nat × (Nat → tp_V)) ⊕ (Nat × (Nat → tp_V))
abbrev eA (t n : Nat) (f : Nat → tp_V) : tp_E := Sum.inl (t, n, f)
abbrev eO (c : Nat) (fs : Nat → tp_V) : tp_E := Sum.inr (c, fs)
def tp_lf (l : List tp_V) : Nat → tp_V := fun j => l[j]?.getD xN
def tp_up (f : Nat → tp_V) (k : Nat) (v : tp_V) : Nat → tp_V := fun j => if j = k then v else f j
def tp_in (t : Nat) (ts : List Nat) : Bool := decide (t ∈ ts)
/-- the heap: cells, the next address, slots made so far, statics and constants -/
def tp_H : Type := (Nat → Option tp_E) × Nat × Nat × (Nat → tp_V)
def hat (H : tp_H) (q : Nat) : Option tp_E := H.1 q
def hnx (H : tp_H) : Nat := H.2.1
def hsl (H : tp_H) : Nat := H.2.2.1
def hgs (H : tp_H) (j : Nat) : tp_V := H.2.2.2 j
def hput (H : tp_H) (q : Nat) (e : tp_E) : tp_H := (fun z => if z = q then some e else H.1 z, H.2)
def hnew (H : tp_H) (e : tp_E) (n : Nat) : tp_H := (fun z => if z = H.2.1 then some e else H.1 z, H.2.1 + 1, H.2.2.1 + n, H.2.2.2)
/-- n cells behind one another -/
def hmany (H : tp_H) : Nat → (Nat → tp_E) → Nat → tp_H
  | 0, _, _ => H
  | k + 1, e, n => hnew (hmany H k e n) (e k) n
theorem hat_put (H : tp_H) (q z : Nat) (e : tp_E) : hat (hput H q e) z = if z = q then some e else hat H z := rfl
theorem hat_put_s (H : tp_H) (q : Nat) (e : tp_E) : hat (hput H q e) q = some e := by simp [hat_put]
theorem hat_put_n {H : tp_H} {q z : Nat} {e : tp_E} (h : z ≠ q) : hat (hput H q e) z = hat H z := by simp [hat_put, h]
theorem hnx_put (H : tp_H) (q : Nat) (e : tp_E) : hnx (hput H q e) = hnx H := rfl
theorem hsl_put (H : tp_H) (q : Nat) (e : tp_E) : hsl (hput H q e) = hsl H := rfl
theorem hgs_put (H : tp_H) (q : Nat) (e : tp_E) (j : Nat) : hgs (hput H q e) j = hgs H j := rfl
theorem hat_new (H : tp_H) (z : Nat) (e : tp_E) (n : Nat) : hat (hnew H e n) z = if z = hnx H then some e else hat H z := rfl
theorem hnx_new (H : tp_H) (e : tp_E) (n : Nat) : hnx (hnew H e n) = hnx H + 1 := rfl
theorem hsl_new (H : tp_H) (e : tp_E) (n : Nat) : hsl (hnew H e n) = hsl H + n := rfl
theorem hgs_new (H : tp_H) (e : tp_E) (n j : Nat) : hgs (hnew H e n) j = hgs H j := rfl
abbrev tp_L : Type := List (Option tp_V)
abbrev tp_T : Type := List tp_V
abbrev tp_O : Type := Option tp_V ⊕ Nat
/-- where it goes on: here or at a block | a call (method, handler, its arguments, the frame behind it) | the end -/
abbrev tp_N : Type := (Option Nat × tp_L × tp_T × tp_H) ⊕ ((Nat × Nat × List tp_V × tp_L × tp_T × tp_H) ⊕ (tp_O × tp_H))
abbrev tp_S : Type := tp_L → tp_T → tp_H → Option tp_N
abbrev tp_Op : Type := Instr × tp_S
def tp_go (L : tp_L) (S : tp_T) (H : tp_H) : Option tp_N := some (.inl (none, L, S, H))
def tp_jp (t : Nat) (L : tp_L) (S : tp_T) (H : tp_H) : Option tp_N := some (.inl (some t, L, S, H))
def tp_end (o : tp_O) (H : tp_H) : Option tp_N := some (.inr (.inr (o, H)))
def tp_ask (k h : Nat) (as : List tp_V) (L : tp_L) (S : tp_T) (H : tp_H) : Option tp_N := some (.inr (.inl (k, h, as, L, S, H)))
/-! numbers -/
def tp_wr (x : Int) : Int := x.bmod 4294967296
def tp_wl (x : Int) : Int := x.bmod 18446744073709551616
def tp_b8 (x : Int) : Int := (Int32.ofInt x).toInt8.toInt32.toInt
def tp_and (x y : Int) : Int := (Int32.ofInt x &&& Int32.ofInt y).toInt
def tp_or (x y : Int) : Int := (Int32.ofInt x ||| Int32.ofInt y).toInt
def tp_shl (x y : Int) : Int := (Int32.ofInt x <<< (Int32.ofInt y &&& 31)).toInt
def tp_shr (x y : Int) : Int := (Int32.ofInt x >>> (Int32.ofInt y &&& 31)).toInt
def tp_lor (x y : Int) : Int := (Int64.ofInt x ||| Int64.ofInt y).toInt
def tp_lshl (x y : Int) : Int := (Int64.ofInt x <<< ((Int32.ofInt y).toInt64 &&& 63)).toInt
def tp_cmp (x y : Int) : Int := if x < y then -1 else if x = y then 0 else 1
/-! locals -/
def tp_fx : Option tp_V → Nat → Option tp_V
  | some (.inr (.inl _)), 0 => none
  | o, _ => o
def tp_s1 : tp_L → Nat → tp_V → tp_L
  | [], _, _ => []
  | _ :: L, 0, v => some v :: L
  | o :: L, n + 1, v => tp_fx o n :: tp_s1 L n v
def tp_s2 : tp_L → Nat → tp_V → tp_L
  | [], _, _ => []
  | [_], _, _ => []
  | _ :: _ :: L, 0, v => some v :: none :: L
  | o :: p :: L, n + 1, v => tp_fx o n :: tp_s2 (p :: L) n v
def tp_en : Nat → List tp_V → tp_L
  | n, [] => List.replicate n none
  | 0, _ => []
  | 1, v :: _ => [some v]
  | n + 2, .inr (.inl x) :: as => some (.inr (.inl x)) :: none :: tp_en n as
  | n + 2, .inl x :: as => some (.inl x) :: tp_en (n + 1) as
  | n + 2, .inr (.inr r) :: as => some (.inr (.inr r)) :: tp_en (n + 1) as
/-- how many words the arguments take -/
def tp_words : List tp_V → Nat
  | [] => 0
  | .inr (.inl _) :: as => tp_words as + 2
  | .inl _ :: as => tp_words as + 1
  | .inr (.inr _) :: as => tp_words as + 1
/-! operations without the heap -/
def o_null : tp_Op := (.aconst_null, fun L S H => tp_go L (xN :: S) H)
def o_int (i : Instr) (x : Int) : tp_Op := (i, fun L S H => tp_go L (xI x :: S) H)
def o_lng (i : Instr) (x : Int) : tp_Op := (i, fun L S H => tp_go L (xJ x :: S) H)
def o_gs (i : Instr) (j : Nat) : tp_Op := (i, fun L S H => tp_go L (hgs H j :: S) H)
def o_ild (i : Instr) (a : Nat) : tp_Op := (i, fun L S H => match L[a]? with | some (some (.inl x)) => tp_go L (xI x :: S) H | _ => none)
def o_lld (i : Instr) (a : Nat) : tp_Op := (i, fun L S H => match L[a]? with | some (some (.inr (.inl x))) => tp_go L (xJ x :: S) H | _ => none)
def o_ald (i : Instr) (a : Nat) : tp_Op := (i, fun L S H => match L[a]? with | some (some (.inr (.inr r))) => tp_go L (xO r :: S) H | _ => none)
def o_ist (i : Instr) (a : Nat) : tp_Op := (i, fun L S H => match S with | .inl x :: S => if a < L.length then tp_go (tp_s1 L a (xI x)) S H else none | _ => none)
def o_lst (i : Instr) (a : Nat) : tp_Op := (i, fun L S H => match S with | .inr (.inl x) :: S => if a + 1 < L.length then tp_go (tp_s2 L a (xJ x)) S H else none | _ => none)
def o_ast (i : Instr) (a : Nat) : tp_Op := (i, fun L S H => match S with | .inr (.inr r) :: S => if a < L.length then tp_go (tp_s1 L a (xO r)) S H else none | _ => none)
def o_inc (a : Nat) (c : Int) : tp_Op := (.iinc a c, fun L S H => match L[a]? with | some (some (.inl x)) => tp_go (tp_s1 L a (xI (tp_wr (x + c)))) S H | _ => none)
def tp_i2 (f : Int → Int → Option Int) : tp_S := fun L S H => match S with | .inl y :: .inl x :: S => (match f x y with | some z => tp_go L (xI z :: S) H | none => none) | _ => none
def tp_l2 (f : Int → Int → Option Int) : tp_S := fun L S H => match S with | .inr (.inl y) :: .inr (.inl x) :: S => (match f x y with | some z => tp_go L (xJ z :: S) H | none => none) | _ => none
def o_iadd : tp_Op := (.iadd, tp_i2 (fun x y => some (tp_wr (x + y))))
def o_isub : tp_Op := (.isub, tp_i2 (fun x y => some (tp_wr (x - y))))
def o_imul : tp_Op := (.imul, tp_i2 (fun x y => some (tp_wr (x * y))))
def o_idiv : tp_Op := (.idiv, tp_i2 (fun x y => if y = 0 then none else some (tp_wr (x.tdiv y))))
def o_irem : tp_Op := (.irem, tp_i2 (fun x y => if y = 0 then none else some (x.tmod y)))
def o_iand : tp_Op := (.iand, tp_i2 (fun x y => some (tp_and x y)))
def o_ior : tp_Op := (.ior, tp_i2 (fun x y => some (tp_or x y)))
def o_ishl : tp_Op := (.ishl, tp_i2 (fun x y => some (tp_shl x y)))
def o_ishr : tp_Op := (.ishr, tp_i2 (fun x y => some (tp_shr x y)))
def o_ladd : tp_Op := (.ladd, tp_l2 (fun x y => some (tp_wl (x + y))))
def o_lsub : tp_Op := (.lsub, tp_l2 (fun x y => some (tp_wl (x - y))))
def o_lmul : tp_Op := (.lmul, tp_l2 (fun x y => some (tp_wl (x * y))))
def o_ldiv : tp_Op := (.ldiv, tp_l2 (fun x y => if y = 0 then none else some (tp_wl (x.tdiv y))))
def o_lor : tp_Op := (.lor, tp_l2 (fun x y => some (tp_lor x y)))
def o_lshl : tp_Op := (.lshl, fun L S H => match S with | .inl y :: .inr (.inl x) :: S => tp_go L (xJ (tp_lshl x y) :: S) H | _ => none)
def o_ineg : tp_Op := (.ineg, fun L S H => match S with | .inl x :: S => tp_go L (xI (tp_wr (-x)) :: S) H | _ => none)
def o_lneg : tp_Op := (.lneg, fun L S H => match S with | .inr (.inl x) :: S => tp_go L (xJ (tp_wl (-x)) :: S) H | _ => none)
def o_i2l : tp_Op := (.i2l, fun L S H => match S with | .inl x :: S => tp_go L (xJ x :: S) H | _ => none)
def o_l2i : tp_Op := (.l2i, fun L S H => match S with | .inr (.inl x) :: S => tp_go L (xI (tp_wr x) :: S) H | _ => none)
def o_i2b : tp_Op := (.i2b, fun L S H => match S with | .inl x :: S => tp_go L (xI (tp_b8 x) :: S) H | _ => none)
def o_i2c : tp_Op := (.i2c, fun L S H => match S with | .inl x :: S => tp_go L (xI (x % 65536) :: S) H | _ => none)
def o_lcmp : tp_Op := (.lcmp, fun L S H => match S with | .inr (.inl y) :: .inr (.inl x) :: S => tp_go L (xI (tp_cmp x y) :: S) H | _ => none)
def o_dup : tp_Op := (.dup, fun L S H => match S with | .inl x :: S => tp_go L (xI x :: xI x :: S) H | .inr (.inr r) :: S => tp_go L (xO r :: xO r :: S) H | _ => none)
def o_dup_x1 : tp_Op := (.dup_x1, fun L S H => match S with | .inl x :: .inr (.inr r) :: S => tp_go L (xI x :: xO r :: xI x :: S) H | .inr (.inr q) :: .inr (.inr r) :: S => tp_go L (xO q :: xO r :: xO q :: S) H | _ => none)
def o_dup2 : tp_Op := (.dup2, fun L S H => match S with | .inl x :: .inr (.inr r) :: S => tp_go L (xI x :: xO r :: xI x :: xO r :: S) H | _ => none)
def o_pop : tp_Op := (.pop, fun L S H => match S with | .inl _ :: S => tp_go L S H | .inr (.inr _) :: S => tp_go L S H | _ => none)
def tp_j1 (c : Int → Bool) (t : Nat) : tp_S := fun L S H => match S with | .inl x :: S => if c x then tp_jp t L S H else tp_go L S H | _ => none
def tp_j2 (c : Int → Int → Bool) (t : Nat) : tp_S := fun L S H => match S with | .inl y :: .inl x :: S => if c x y then tp_jp t L S H else tp_go L S H | _ => none
def o_ifeq (o : Int) (t : Nat) : tp_Op := (.ifCond .eq o, tp_j1 (fun x => decide (x = 0)) t)
def o_ifne (o : Int) (t : Nat) : tp_Op := (.ifCond .ne o, tp_j1 (fun x => decide (¬ x = 0)) t)
def o_iflt (o : Int) (t : Nat) : tp_Op := (.ifCond .lt o, tp_j1 (fun x => decide (x < 0)) t)
def o_ifge (o : Int) (t : Nat) : tp_Op := (.ifCond .ge o, tp_j1 (fun x => decide (¬ x < 0)) t)
def o_ifgt (o : Int) (t : Nat) : tp_Op := (.ifCond .gt o, tp_j1 (fun x => decide (0 < x)) t)
def o_ifle (o : Int) (t : Nat) : tp_Op := (.ifCond .le o, tp_j1 (fun x => decide (¬ 0 < x)) t)
def o_icmpeq (o : Int) (t : Nat) : tp_Op := (.if_icmp .eq o, tp_j2 (fun x y => decide (x = y)) t)
def o_icmpne (o : Int) (t : Nat) : tp_Op := (.if_icmp .ne o, tp_j2 (fun x y => decide (¬ x = y)) t)
def o_icmplt (o : Int) (t : Nat) : tp_Op := (.if_icmp .lt o, tp_j2 (fun x y => decide (x < y)) t)
def o_icmpge (o : Int) (t : Nat) : tp_Op := (.if_icmp .ge o, tp_j2 (fun x y => decide (¬ x < y)) t)
def o_icmpgt (o : Int) (t : Nat) : tp_Op := (.if_icmp .gt o, tp_j2 (fun x y => decide (y < x)) t)
def o_icmple (o : Int) (t : Nat) : tp_Op := (.if_icmp .le o, tp_j2 (fun x y => decide (¬ y < x)) t)
def o_acmpeq (o : Int) (t : Nat) : tp_Op := (.if_acmp .eq o, fun L S H => match S with | .inr (.inr y) :: .inr (.inr x) :: S => if x = y then tp_jp t L S H else tp_go L S H | _ => none)
def o_acmpne (o : Int) (t : Nat) : tp_Op := (.if_acmp .ne o, fun L S H => match S with | .inr (.inr y) :: .inr (.inr x) :: S => if x = y then tp_go L S H else tp_jp t L S H | _ => none)
def o_ifnull (o : Int) (t : Nat) : tp_Op := (.ifnull o, fun L S H => match S with | .inr (.inr x) :: S => if x = none then tp_jp t L S H else tp_go L S H | _ => none)
def o_ifnon (o : Int) (t : Nat) : tp_Op := (.ifnonnull o, fun L S H => match S with | .inr (.inr x) :: S => if x = none then tp_go L S H else tp_jp t L S H | _ => none)
def o_goto (o : Int) (t : Nat) : tp_Op := (.goto o, fun L S H => tp_jp t L S H)
/-- no instruction: the block ends, the next begins -/
def o_fall (t : Nat) : tp_Op := (.nop, fun L S H => tp_jp t L S H)
def tp_look (x : Int) : List (Int × Nat) → Nat → Nat
  | [], d => d
  | (k, t) :: ps, d => if x = k then t else tp_look x ps d
def o_sw (i : Instr) (ps : List (Int × Nat)) (d : Nat) : tp_Op := (i, fun L S H => match S with | .inl x :: S => tp_jp (tp_look x ps d) L S H | _ => none)
/-! the heap. Tags of arrays: 0 int 1 boolean 2 byte 3 long 4 int[] 5 int[][] 6 Object 7 Text, from 20 on never written: 20 int 22 byte 28 String 29 Integer -/
/-- what a field or an array of a kind takes: 0 int, 1 boolean, 2 byte, 3 long, others references -/
def tp_fit (k : Nat) (v : tp_V) : Bool := match k, v with
  | 0, .inl _ => true
  | 1, .inl x => decide (x = 0) || decide (x = 1)
  | 2, .inl x => decide (-128 ≤ x) && decide (x < 128)
  | 3, .inr (.inl _) => true
  | 0, _ => false
  | 1, _ => false
  | 2, _ => false
  | 3, _ => false
  | _, .inr (.inr _) => true
  | _, _ => false
def o_getf (i : Instr) (c j : Nat) : tp_Op := (i, fun L S H => match S with
  | .inr (.inr (some a)) :: S => (match hat H a with | some (.inr (c', fs)) => if c' = c then tp_go L (fs j :: S) H else none | _ => none)
  | _ => none)
def o_putf (i : Instr) (c j k : Nat) : tp_Op := (i, fun L S H => match S with
  | v :: .inr (.inr (some a)) :: S => (match hat H a with | some (.inr (c', fs)) => if c' = c ∧ tp_fit k v = true then tp_go L S (hput H a (eO c (tp_up fs j v))) else none | _ => none)
  | _ => none)
def o_lda (i : Instr) (ts : List Nat) : tp_Op := (i, fun L S H => match S with
  | .inl x :: .inr (.inr (some a)) :: S => (match hat H a with | some (.inl (t, n, f)) => if tp_in t ts = true ∧ (0 ≤ x ∧ x < n) then tp_go L (f x.toNat :: S) H else none | _ => none)
  | _ => none)
def o_sta (i : Instr) (ts : List Nat) : tp_Op := (i, fun L S H => match S with
  | v :: .inl x :: .inr (.inr (some a)) :: S => (match hat H a with | some (.inl (t, n, f)) => if tp_in t ts = true ∧ (0 ≤ x ∧ x < n) ∧ tp_fit t v = true then tp_go L S (hput H a (eA t n (tp_up f x.toNat v))) else none | _ => none)
  | _ => none)
/-- a reference into an array: null, or an object of one of the classes cs -/
def o_aast (ts : List Nat) (cs : List Nat) : tp_Op := (.aastore, fun L S H => match S with
  | .inr (.inr (some q)) :: .inl x :: .inr (.inr (some a)) :: S => (match hat H a, hat H q with | some (.inl (t, n, f)), some (.inr (c, _)) => if tp_in t ts = true ∧ tp_in c cs = true ∧ (0 ≤ x ∧ x < n) then tp_go L S (hput H a (eA t n (tp_up f x.toNat (xR q)))) else none | _, _ => none)
  | _ => none)
def o_alen : tp_Op := (.arraylength, fun L S H => match S with | .inr (.inr (some a)) :: S => (match hat H a with | some (.inl (_, n, _)) => if n < 2147483648 then tp_go L (xI n :: S) H else none | _ => none) | _ => none)
def tp_df : Nat → tp_V
  | 0 => xI 0
  | 1 => xI 0
  | 2 => xI 0
  | 3 => xJ 0
  | _ => xN
def o_newa (i : Instr) (t : Nat) : tp_Op := (i, fun L S H => match S with | .inl x :: S => if 0 ≤ x ∧ x ≤ 1000000 then tp_go L (xR (hnx H) :: S) (hnew H (eA t x.toNat (fun _ => tp_df t)) x.toNat) else none | _ => none)
/-- int[n][k]: the outer array first, its rows behind it -/
def tp_grid (H : tp_H) (n k : Nat) : tp_H := hmany (hnew H (eA 4 n (fun j => xR (hnx H + 1 + j))) n) n (fun _ => eA 0 k (fun _ => xI 0)) k
def o_new2 (i : Instr) : tp_Op := (i, fun L S H => match S with | .inl y :: .inl x :: S => if 0 ≤ x ∧ x ≤ 1000 ∧ 0 ≤ y ∧ y ≤ 1000 then tp_go L (xR (hnx H) :: S) (tp_grid H x.toNat y.toNat) else none | _ => none)
/-- int[n][k][l]: the outer array, then each of its grids -/
def tp_cube (H : tp_H) (n k l : Nat) : tp_H := (List.range n).foldl (fun H _ => tp_grid H k l) (hnew H (eA 5 n (fun j => xR (hnx H + 1 + j * (k + 1)))) n)
def o_new3 (i : Instr) : tp_Op := (i, fun L S H => match S with | .inl z :: .inl y :: .inl x :: S => if 0 ≤ x ∧ x ≤ 1000 ∧ 0 ≤ y ∧ y ≤ 1000 ∧ 0 ≤ z ∧ z ≤ 1000 then tp_go L (xR (hnx H) :: S) (tp_cube H x.toNat y.toNat z.toNat) else none | _ => none)
def o_new (i : Instr) (c n : Nat) (ds : List tp_V) : tp_Op := (i, fun L S H => tp_go L (xR (hnx H) :: S) (hnew H (eO c (tp_lf ds)) n))
def o_cast (i : Instr) (cs : List Nat) : tp_Op := (i, fun L S H => match S with | .inr (.inr (some a)) :: S => (match hat H a with | some (.inr (c, _)) => if tp_in c cs = true then tp_go L (xR a :: S) H else none | _ => none) | .inr (.inr none) :: S => tp_go L (xN :: S) H | _ => none)
/-! calls: method, number of its arguments (without the receiver), the handler's block + 1 or 0 -/
def tp_pop : Nat → tp_T → List tp_V → Option (List tp_V × tp_T)
  | 0, S, as => some (as, S)
  | _ + 1, [], _ => none
  | n + 1, v :: S, as => tp_pop n S (v :: as)
def o_cs (i : Instr) (k n h : Nat) : tp_Op := (i, fun L S H => match tp_pop n S [] with | some (as, S) => if S.length ≤ 12 then tp_ask k h as L S H else none | none => none)
def o_cv (i : Instr) (c k n h : Nat) : tp_Op := (i, fun L S H => match tp_pop n S [] with
  | some (as, .inr (.inr (some a)) :: S) => (match hat H a with | some (.inr (c', _)) => if c' = c ∧ S.length ≤ 12 then tp_ask k h (xR a :: as) L S H else none | _ => none)
  | _ => none)
def o_cp (i : Instr) (k n h : Nat) : tp_Op := (i, fun L S H => match tp_pop n S [] with
  | some (as, .inr (.inr (some a)) :: S) => if S.length ≤ 12 then tp_ask k h (xR a :: as) L S H else none
  | _ => none)
def tp_find (c : Nat) : List (Nat × Nat) → Option Nat
  | [] => none
  | (c', k) :: ps => if c = c' then some k else tp_find c ps
def o_ci (i : Instr) (ps : List (Nat × Nat)) (n h : Nat) : tp_Op := (i, fun L S H => match tp_pop n S [] with
  | some (as, .inr (.inr (some a)) :: S) => (match hat H a with | some (.inr (c, _)) => (match tp_find c ps with | some k => if S.length ≤ 12 then tp_ask k h (xR a :: as) L S H else none | none => none) | _ => none)
  | _ => none)
/-! ends -/
def o_vret : tp_Op := (.return_, fun _ _ H => tp_end (.inl none) H)
/-- k: what the method answers, as in tp_fit; 9 char -/
def o_iret (k : Nat) : tp_Op := (.ireturn, fun _ S H => match S with | .inl x :: _ => if (if k = 9 then decide (0 ≤ x) && decide (x < 65536) else tp_fit k (xI x)) = true then tp_end (.inl (some (xI x))) H else none | _ => none)
def o_lret : tp_Op := (.lreturn, fun _ S H => match S with | .inr (.inl x) :: _ => tp_end (.inl (some (xJ x))) H | _ => none)
def o_aret : tp_Op := (.areturn, fun _ S H => match S with | .inr (.inr r) :: _ => tp_end (.inl (some (xO r))) H | _ => none)
def o_thr : tp_Op := (.athrow, fun _ S H => match S with | .inr (.inr (some q)) :: _ => (match hat H q with | some (.inr (c, _)) => if c = 6 then tp_end (.inr q) H else none | _ => none) | _ => none)
/-! built in -/
def o_objinit (i : Instr) : tp_Op := (i, fun L S H => match S with | .inr (.inr (some _)) :: S => if S.length ≤ 12 then tp_go L S H else none | _ => none)
def o_excinit (i : Instr) : tp_Op := (i, fun L S H => match S with | .inr (.inr (some a)) :: S => (match hat H a with | some (.inr (c, fs)) => if c = 6 ∧ fs 4 = xN ∧ S.length ≤ 12 then tp_go L S (hput H a (eO 6 (tp_up (tp_up (tp_up fs 0 (xR a)) 1 (hgs H 9)) 2 (hgs H 10)))) else none | _ => none) | _ => none)
def tp_cpy (f g : Nat → tp_V) (sp dp n : Nat) : Nat → tp_V := fun j => if dp ≤ j ∧ j < dp + n then f (sp + (j - dp)) else g j
def o_acopy (i : Instr) : tp_Op := (i, fun L S H => match S with
  | .inl n :: .inl dp :: .inr (.inr (some b)) :: .inl sp :: .inr (.inr (some a)) :: S => (match hat H a, hat H b with
    | some (.inl (t, n0, f)), some (.inl (t', n1, g)) => if t = t' ∧ tp_in t [0, 1, 6, 7] = true ∧ (0 ≤ n ∧ 0 ≤ sp ∧ 0 ≤ dp ∧ sp + n ≤ n0 ∧ dp + n ≤ n1) ∧ S.length ≤ 12 then tp_go L S (hput H b (eA t n1 (tp_cpy f g sp.toNat dp.toNat n.toNat))) else none
    | _, _ => none)
  | _ => none)
/-- Object.getClass of an Object[]: the mirror, kept with the statics at place 0 -/
def o_getcls (i : Instr) : tp_Op := (i, fun L S H => match S with | .inr (.inr (some a)) :: S => (match hat H a with | some (.inl (6, _, _)) => if S.length ≤ 12 then tp_go L (hgs H 0 :: S) H else none | _ => none) | _ => none)
/-! Math -/
def o_mmax (i : Instr) : tp_Op := (i, fun L S H => match S with | .inl y :: .inl x :: S => if S.length ≤ 12 then tp_go L (xI (max x y) :: S) H else none | _ => none)
def o_mmin (i : Instr) : tp_Op := (i, fun L S H => match S with | .inl y :: .inl x :: S => if S.length ≤ 12 then tp_go L (xI (min x y) :: S) H else none | _ => none)
def o_mabs (i : Instr) : tp_Op := (i, fun L S H => match S with | .inl x :: S => if S.length ≤ 12 then tp_go L (xI (if 0 ≤ x then x else tp_wr (-x)) :: S) H else none | _ => none)
def o_lmax (i : Instr) : tp_Op := (i, fun L S H => match S with | .inr (.inl y) :: .inr (.inl x) :: S => if S.length ≤ 12 then tp_go L (xJ (max x y) :: S) H else none | _ => none)
def o_lmin (i : Instr) : tp_Op := (i, fun L S H => match S with | .inr (.inl y) :: .inr (.inl x) :: S => if S.length ≤ 12 then tp_go L (xJ (min x y) :: S) H else none | _ => none)
