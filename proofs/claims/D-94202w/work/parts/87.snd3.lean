/-! SOUNDNESS 3: the heap -/
def tp_Tstr : u_T := fun k => match k with
  | 0 => ("java/lang/String", "value", "[B", true)
  | _ => ("java/lang/String", "coder", "B", true)
/-- the classes by their numbers -/
def tp_cl : List vw_C := [(RX1, TX1, 0), (RX1, TX1, 23), (RX2, TX2, 13), (RX3, TX3, 47), (RX4, TX4, 8), (RX5, TX5, 7), (RX6, TX6, 8), (RX7, TX7, 1), (RX8, TX8, 3), (RX9, TX9, 1), (RX10, TX10, 1), (RX11, TX11, 1), (RX12, TX12, 3), (RX13, TX13, 2), (RX14, TX14, 2), (RJ4, TJ4, 3), (RJ13, TJ13, 1)]
def tp_Good (X : tp_X) (az : Array Value) : Prop := (∀ w ∈ lw_tbl, w.before az (xs0 X) = true) ∧
  (∀ (c : Nat) (q : vw_C), tp_cl[c]? = some q → u_Kn (xs0 X) q.1 q.2.1 q.2.2 (xD X c) (xF X c)) ∧
  (∀ t, t < 8 → ArrOfT (xs0 X) (xA X t) (tp_ty t) ∧ va_RA (xs0 X) (xA X t) (tp_ty t)) ∧
  (∀ t c, t = 6 ∨ t = 7 → tp_okc t c = true → ∃ (kA : Class) (comp : ClassId) (ty : FieldType) (kcomp kc : Class), (xs0 X).vm.classes[xA X t]? = some kA ∧ kA.kind = .array comp ty ∧ ty.isReference = true ∧ (xs0 X).vm.classes[comp]? = some kcomp ∧ (xs0 X).vm.classes[xD X c]? = some kc ∧ (xs0 X).vm.assignable (xD X c) comp = true) ∧
  ((xs0 X).vm.findClass "java/lang/String" = some (xD X 17) ∧ ∀ j, j < 2 → ∃ (cf fi : Nat) (kf : Class) (fd : Field), (xs0 X).fieldFound? (tp_Tstr j).1 (tp_Tstr j).2.1 (tp_Tstr j).2.2.1 = some (cf, kf, fi, fd) ∧ fd.slot = xF X 17 j ∧ fd.isStatic = false)
theorem tp_word {X : tp_X} {az : Array Value} (hG : tp_Good X az) {s : State} (hW : (xs0 X).WarmedH s.vm) {w : Cond} (hw : w ∈ lw_all) (a : Array Value) : w.before a s = true :=
  word_at hW (good_of_word (List.mem_filter.mp hw).2) (hG.1 w (lw_all_tbl hw))
theorem tp_RE_kept {X : tp_X} {q : Nat} {e : tp_E} {H H' : Heap} (h : tp_RE X q e H) (hq : H'[q]? = H[q]?) : tp_RE X q e H' := by
  rcases e with ⟨t, n, f⟩ | ⟨c, fs⟩
  · obtain ⟨cell, h1, h2⟩ := h
    exact ⟨cell, hq.trans h1, h2⟩
  · obtain ⟨cell, h1, h2⟩ := h
    exact ⟨cell, hq.trans h1, h2⟩
theorem tp_RE_lt {X : tp_X} {q : Nat} {e : tp_E} {H : Heap} (h : tp_RE X q e H) : q < H.size := by
  rcases e with ⟨t, n, f⟩ | ⟨c, fs⟩
  · obtain ⟨cell, h1, h2⟩ := h
    exact (Array.getElem?_eq_some_iff.mp h1).1
  · obtain ⟨cell, h1, h2⟩ := h
    exact (Array.getElem?_eq_some_iff.mp h1).1
theorem tp_RH_put {X : tp_X} {h : tp_H} {H H' : Heap} {a : Nat} {e' : tp_E} (hK : tp_RH X h H) (hE : tp_RE X a e' H') (hz : H'.size = H.size) (ho : ∀ q : Nat, q ≠ a → H'[q]? = H[q]?) (hB : (xs0 X).heap.size ≤ a) (hI : tp_HI (hput h a e')) : tp_RH X (hput h a e') H' := by
  obtain ⟨-, k1, k2, k3, k4, k5⟩ := hK
  refine ⟨hI, k1.trans hz.symm, k2, fun q e hq => ?_, by omega, fun q hq => (ho q (by omega)).trans (k5 q hq)⟩
  rw [hat_put] at hq
  by_cases ha : q = a
  · rw [if_pos ha] at hq
    cases hq
    rw [ha]; exact hE
  · rw [if_neg ha] at hq
    exact tp_RE_kept (k3 q e hq) (ho q ha)
theorem tp_RH_new {X : tp_X} {h : tp_H} {H H' : Heap} {e' : tp_E} {n : Nat} (hK : tp_RH X h H) (hE : tp_RE X H.size e' H') (hz : H'.size = H.size + 1) (ho : ∀ q : Nat, q < H.size → H'[q]? = H[q]?) (hI : tp_HI (hnew h e' n)) : tp_RH X (hnew h e' n) H' := by
  obtain ⟨-, k1, k2, k3, k4, k5⟩ := hK
  refine ⟨hI, by rw [hnx_new, k1, hz], k2, fun q e hq => ?_, by omega, fun q hq => (ho q (by omega)).trans (k5 q hq)⟩
  rw [hat_new] at hq
  by_cases ha : q = hnx h
  · rw [if_pos ha] at hq
    cases hq
    rw [ha, k1]; exact hE
  · rw [if_neg ha] at hq
    have h9 := k3 q e hq
    exact tp_RE_kept h9 (ho q (tp_RE_lt h9))
theorem tp_HI_put {h : tp_H} {a : Nat} {e' : tp_E} (hI : tp_HI h) (hk : ∀ c fs, hat h a = some (eO c fs) → ∃ fs', e' = eO c fs')
    (he : ∀ t n f, e' = eA t n f → (t = 6 ∨ t = 7) → ∀ j, j < n → ∀ z, f j = xR z → ∃ (c : Nat) (fs : Nat → tp_V), hat h z = some (eO c fs) ∧ tp_okc t c = true) : tp_HI (hput h a e') := by
  intro q t n f hq ht j hj z hz
  have key : ∀ c fs, hat h z = some (eO c fs) → ∃ fs', hat (hput h a e') z = some (eO c fs') := by
    intro c fs hc
    by_cases hza : z = a
    · subst hza
      obtain ⟨fs', rfl⟩ := hk c fs hc
      exact ⟨fs', hat_put_s _ _ _⟩
    · exact ⟨fs, by rw [hat_put_n hza]; exact hc⟩
  have h0 : ∃ (c : Nat) (fs : Nat → tp_V), hat h z = some (eO c fs) ∧ tp_okc t c = true := by
    by_cases ha : q = a
    · subst ha
      rw [hat_put_s] at hq
      exact he t n f (Option.some.inj hq) ht j hj z hz
    · rw [hat_put_n ha] at hq
      exact hI q t n f hq ht j hj z hz
  obtain ⟨c, fs, h1, h2⟩ := h0
  obtain ⟨fs', h3⟩ := key c fs h1
  exact ⟨c, fs', h3, h2⟩
theorem tp_HI_new {X : tp_X} {h : tp_H} {H : Heap} {e' : tp_E} {n : Nat} (hK : tp_RH X h H) (he : ∀ t n f, e' = eA t n f → (t = 6 ∨ t = 7) → ∀ j, j < n → ∀ z, f j ≠ xR z) : tp_HI (hnew h e' n) := by
  intro q t n' f hq ht j hj z hz
  rw [hat_new] at hq
  by_cases ha : q = hnx h
  · rw [if_pos ha] at hq
    exact absurd hz (he t n' f (Option.some.inj hq) ht j hj z)
  · rw [if_neg ha] at hq
    obtain ⟨c, fs, h1, h2⟩ := hK.1 q t n' f hq ht j hj z hz
    have h3 := tp_RE_lt (hK.2.2.2.1 z _ h1)
    refine ⟨c, fs, ?_, h2⟩
    rw [hat_new, if_neg (by have := hK.2.1; omega)]
    exact h1
/-- an object's field, as the machine sees it -/
theorem tp_fld {X : tp_X} {az : Array Value} (hG : tp_Good X az) {s : State} (hW : (xs0 X).WarmedH s.vm) {b : Nat} {C : String} {T : u_T} {N j : Nat} (hc : tp_cl[b]? = some (C, T, N)) (hj : j < N) (hin : ∀ w ∈ u_ws C T N, w ∈ lw_all) : ∃ (cf fi : Nat) (kf kC : Class) (fd : Field), s.fieldFound? (T j).1 (T j).2.1 (T j).2.2.1 = some (cf, kf, fi, fd) ∧ fd.slot = xF X b j ∧ fd.isStatic = false ∧ s.vm.findClass C = some (xD X b) ∧ s.vm.classes[xD X b]? = some kC ∧ kC.kind = .ordinary := by
  obtain ⟨hS, hfc, kC, hkC, hkind⟩ := u_Kn_moved hW.alike (hG.2.1 b _ hc)
  obtain ⟨cf, kf, fi, fd, hi, he⟩ := hS j hj
  have hts : ∀ w ∈ lw_all, w.before az s = true := fun w hw => tp_word hG hW hw az
  exact ⟨cf, fi, kf, kC, fd, hi, he, (u_facts hfc hkC (u_lays hts hin hj) hi).1, hfc, hkC, hkind⟩
theorem tp_nat {z : Int32} {x : Int} (ez : z.toInt = x) : z.toNatClampNeg = x.toNat := by subst ez; rfl
theorem tp_inb {z : Int32} {x : Int} {n : Nat} (ez : z.toInt = x) (h : 0 ≤ x ∧ x < n) : ¬ (z < 0 ∨ n ≤ z.toNatClampNeg) := by
  rw [tp_nat ez, tp_lt0 ez]; omega
theorem tp_fits {t : Nat} {ty : FieldType} {v : tp_V} {cv : Value} (hr : tp_RV v cv) (hf : tp_fit t v = true) (ht : ty = .int ∧ t = 0 ∨ ty = .boolean ∧ t = 1 ∨ ty = .byte ∧ t = 2 ∨ ty = .long ∧ t = 3 ∨ ((∃ n, ty = .object n) ∨ ∃ u, ty = .array u) ∧ 4 ≤ t) : fits ty cv = true ∧ narrow ty cv = cv := by
  rcases ht with ⟨rfl, rfl⟩ | ⟨rfl, rfl⟩ | ⟨rfl, rfl⟩ | ⟨rfl, rfl⟩ | ⟨h1, h2⟩
  · rcases v with x | x | r
    · obtain ⟨c, rfl, -⟩ := hr; exact ⟨rfl, rfl⟩
    · simp [tp_fit] at hf
    · simp [tp_fit] at hf
  · rcases v with x | x | r
    · obtain ⟨c, rfl, hx⟩ := hr
      rw [fit_Z] at hf
      have hc : c = 0 ∨ c = 1 := by
        rcases hf with e | e
        · exact Or.inl ((tp_q0 hx).mpr e)
        · exact Or.inr (Int32.toInt_inj.mp (by rw [hx, e]; rfl))
      rcases hc with rfl | rfl <;> exact ⟨by decide, by decide⟩
    · simp [tp_fit] at hf
    · simp [tp_fit] at hf
  · rcases v with x | x | r
    · obtain ⟨c, rfl, hx⟩ := hr
      rw [fit_B] at hf
      have h8 : c.toInt8.toInt32 = c := by
        apply Int32.toInt_inj.mp
        rw [Int8.toInt_toInt32, Int32.toInt_toInt8, hx]
        apply Int.bmod_eq_of_le <;> omega
      refine ⟨?_, by simp only [narrow, h8]⟩
      have h1 : (-128 : Int32) ≤ c := by rw [Int32.le_iff_toInt_le, hx]; exact hf.1
      have h2 : c ≤ (127 : Int32) := by rw [Int32.le_iff_toInt_le, hx]; exact Int.le_of_lt_add_one hf.2
      simp [fits, h1, h2]
    · simp [tp_fit] at hf
    · simp [tp_fit] at hf
  · rcases v with x | x | r
    · simp [tp_fit] at hf
    · obtain ⟨c, rfl, -⟩ := hr; exact ⟨rfl, rfl⟩
    · simp [tp_fit] at hf
  · obtain ⟨t, rfl⟩ : ∃ t', t = t' + 4 := ⟨t - 4, by omega⟩
    rcases v with x | x | _ | a
    · simp [tp_fit] at hf
    · simp [tp_fit] at hf
    · obtain rfl := hr
      rcases h1 with ⟨n, rfl⟩ | ⟨u, rfl⟩ <;> exact ⟨rfl, rfl⟩
    · obtain rfl := hr
      rcases h1 with ⟨n, rfl⟩ | ⟨u, rfl⟩ <;> exact ⟨rfl, rfl⟩
section Sims3
variable {X : tp_X} {az : Array Value} {own : MethodName} {cc : ByteArray} {ret : Option FieldType} {nL pc : Nat}
theorem sim_getfG (hG : tp_Good X az) {index b j N : Nat} {C ref : String} {T : u_T} (hd : decode cc pc = .ok (.getfield index, 3)) (hc : tp_cl[b]? = some (C, T, N)) (hj : j < N) (hN : tp_nf b = N) (hin : ∀ w ∈ u_ws C T N, w ∈ lw_all) (hsame : ∀ (s : State), (xs0 X).WarmedH s.vm → ∀ x, s.fieldFound? (T j).1 (T j).2.1 (T j).2.2.1 = some x → s.fieldFound? ref (T j).2.1 (T j).2.2.1 = some x)
    (hlink : Cond.fieldLink own.cls index ref (T j).2.1 (T j).2.2.1 ∈ lw_all ∨ ∃ host, Cond.fieldLinkNest own.cls index ref (T j).2.1 (T j).2.2.1 host ∈ lw_tbl) : tp_Sim X own cc ret nL pc 3 (o_getf (.getfield index) b j) := by
  intro p l e R s m args below meth c Q a0 b0 F L S h nx hnx
  rcases S with _ | ⟨x | x | _ | a, S⟩ <;> try (simp [o_getf] at hnx; done)
  simp only [o_getf] at hnx
  rcases h0 : hat h a with _ | ⟨⟩ | ⟨c', fs⟩ <;> rw [h0] at hnx
  · cases hnx
  · cases hnx
  · by_cases hb : c' = b
    · subst hb
      simp only [if_true, tp_go] at hnx
      cases hnx
      refine ⟨⟨Nat.le_refl _, Nat.le_refl _⟩, fun _ _ ok => ?_⟩
      intro H locs cells slots ls st hK hL hS hl hc1 hs
      rcases st with _ | ⟨v, st⟩
      · exact hS.elim
      · obtain ⟨e2, hS⟩ := hS
        obtain rfl := e2
        obtain ⟨cell, q1, q2, q3, q4, q5, q6⟩ := hK.2.2.2.1 a _ h0
        obtain ⟨cv, q7, q8⟩ := q5 j (by omega)
        obtain ⟨cf, fi, kf, kC, fd, r1, r2, r3, r4, r5, r6⟩ := tp_fld hG F.2.2.2.2.2.2.1 hc hj hin
        have k := ok H locs cells slots ls (cv :: st) hK hL ⟨q8, hS⟩ hl hc1 hs
        rcases hlink with hlink | ⟨host, hlink⟩
        · exact W.getf F.1 F.2.1 F.2.2.2.2.2.1 (tp_word hG F.2.2.2.2.2.2.1 hlink args) (hsame s F.2.2.2.2.2.2.1 _ r1) r3 q1 q3 (by rw [r2]; exact q7) rfl rfl hd k
        · exact va_Wgetf F.1 F.2.1 F.2.2.2.2.2.1 (va_Nw.use rfl (va_Nw.warmF F.2.2.2.2.2.2.1 (va_Nw.of rfl (hG.1 _ hlink)))) (hsame s F.2.2.2.2.2.2.1 _ r1) r3 q1 q3 (by rw [r2]; exact q7) rfl rfl hd k
    · simp only [if_neg hb] at hnx; cases hnx
theorem sim_putf (hG : tp_Good X az) {index b j N k : Nat} {C ref : String} {T : u_T} {ty : Nat → FieldType} (hd : decode cc pc = .ok (.putfield index, 3)) (hc : tp_cl[b]? = some (C, T, N)) (hj : j < N) (hN : tp_nf b = N) (hb16 : b < 16) (hin : ∀ w ∈ u_ws C T N, w ∈ lw_all) (hty : ∀ k, k < N → parseFieldDescriptor (T k).2.2.1 = some (ty k)) (hnm : ∀ a, a < N → ∀ b, b < N → a ≠ b → (T a).2.1 ≠ (T b).2.1) (hkt : ty j = .int ∧ k = 0 ∨ ty j = .boolean ∧ k = 1 ∨ ty j = .byte ∧ k = 2 ∨ ty j = .long ∧ k = 3 ∨ ((∃ n, ty j = .object n) ∨ ∃ u, ty j = .array u) ∧ 4 ≤ k) (hsame : ∀ (s : State), (xs0 X).WarmedH s.vm → ∀ x, s.fieldFound? (T j).1 (T j).2.1 (T j).2.2.1 = some x → s.fieldFound? ref (T j).2.1 (T j).2.2.1 = some x)
    (hfin : (T j).2.2.2 = false) (hlink : Cond.fieldLink own.cls index ref (T j).2.1 (T j).2.2.1 ∈ lw_all) : tp_Sim X own cc ret nL pc 3 (o_putf (.putfield index) b j k) := by
  intro p l e R s m args below meth c Q a0 b0 F L S h nx hnx
  rcases S with _ | ⟨v, _ | ⟨x | x | _ | a, S⟩⟩ <;> try (simp [o_putf] at hnx; done)
  simp only [o_putf] at hnx
  rcases h0 : hat h a with _ | ⟨⟩ | ⟨c', fs⟩ <;> rw [h0] at hnx
  · cases hnx
  · cases hnx
  · by_cases hb : c' = b ∧ tp_fit k v = true
    · simp only [if_pos hb, tp_go] at hnx
      obtain ⟨rfl, hfit⟩ := hb
      cases hnx
      refine ⟨⟨Nat.le_refl _, Nat.le_refl _⟩, fun _ _ ok => ?_⟩
      intro H locs cells slots ls st hK hL hS hl hc1 hs
      rcases st with _ | ⟨cv, _ | ⟨v2, st⟩⟩
      · exact hS.elim
      · exact hS.2.elim
      · obtain ⟨e1, e2, hS⟩ := hS
        obtain rfl := e2
        have hW := F.2.2.2.2.2.2.1
        obtain ⟨cell, q1, q2, q3, q4, q5, q6, q7, q8⟩ := hK.2.2.2.1 a _ h0
        obtain ⟨hB, hvm, hmon⟩ := q8 hb16
        obtain ⟨cvj, q9, q10⟩ := q5 j (by omega)
        obtain ⟨cf, fi, kf, kC, fd, r1, r2, r3, r4, r5, r6⟩ := tp_fld hG hW hc hj hin
        have hts : ∀ w ∈ lw_all, w.before args s = true := fun w hw => tp_word hG hW hw args
        obtain ⟨hfn, hnn⟩ := tp_fits e1 hfit hkt
        have hlay := hts _ (hin _ (u_in_lay hj))
        unfold u_lay at hlay
        have hap : ∀ x y, x < N → y < N → x ≠ y → xF X c' x ≠ xF X c' y := by
          intro x y hx hy hxy
          obtain ⟨cf1, fi1, kf1, kC1, fd1, t1, t2, t3, t4, t5, t6⟩ := tp_fld hG hW hc hx hin
          obtain ⟨cf2, fi2, kf2, kC2, fd2, u1, u2, u3, u4, u5, u6⟩ := tp_fld hG hW hc hy hin
          rw [← t2, ← u2]
          refine u_apart (u_lays hts hin hx) (u_lays hts hin hy) t1 u1 ?_
          rw [(State.fieldFound?_type t1 (hty x hx)).1, (State.fieldFound?_type u1 (hty y hy)).1]
          exact hnm x hx y hy hxy
        have fin : ∀ H' : Heap, H'[a]? = some (cell.setSlot fd.slot cv) → H'.size = H.size → (∀ q, q ≠ a → H'[q]? = H[q]?) → W p l e R s m args below meth c H' (locs ++ [⟨a, fd.slot⟩]) cells slots Q (F0 m (pc + 3) ls st) := by
          intro H' g1 g2 g3
          refine ok H' _ cells slots ls st (tp_RH_put hK ⟨cell.setSlot fd.slot cv, g1, q2, q3, q4, ?_, q6, q7, fun _ => ⟨hB, hvm, hmon⟩⟩ g2 g3 hB (tp_HI_put hK.1 (fun c2 fs2 h2 => ?_) (fun t n f h2 => by cases h2))) hL hS (fun z hz => ?_) hc1 hs
          · intro i hi
            have hi : i < N := by omega
            obtain ⟨cvi, z1, z2⟩ := q5 i (by omega)
            by_cases hij : i = j
            · subst hij
              refine ⟨cv, ?_, by rw [tp_up, if_pos rfl]; exact e1⟩
              rw [r2]
              have hlt := (Array.getElem?_eq_some_iff.mp z1).1
              simp [Cell.setSlot, Array.getElem?_setIfInBounds, hlt]
            · refine ⟨cvi, ?_, by rw [tp_up, if_neg hij]; exact z2⟩
              rw [r2]
              have hne := hap j i hj hi (Ne.symm hij)
              simp [Cell.setSlot, Array.getElem?_setIfInBounds, hne, z1]
          · rw [h0] at h2; cases h2; exact ⟨_, rfl⟩
          · rcases List.mem_append.mp hz with h9 | h9
            · exact hl z h9
            · rw [List.mem_singleton.mp h9]; exact hB
        have hlt : fd.slot < cell.slots.size := by rw [r2]; exact (Array.getElem?_eq_some_iff.mp q9).1
        rw [if_neg (by rw [hfin]; decide)] at hlay
        have h6 := u_store r4 r5 r6 hlay r1 (hty j hj) hnn hfn
        exact W.putK F.1 F.2.1 ⟨F.2.2.2.2.2.1, hts _ hlink, ⟨cf, kf, fi, hsame s hW _ r1⟩, r3⟩ (by rw [q2]; exact h6) q1 hvm hlt rfl rfl hd fin
    · simp only [if_neg hb] at hnx; cases hnx
theorem sim_putfN (hG : tp_Good X az) {index b j N k : Nat} {C ref : String} {T : u_T} {ty : Nat → FieldType} (hd : decode cc pc = .ok (.putfield index, 3)) (hc : tp_cl[b]? = some (C, T, N)) (hj : j < N) (hN : tp_nf b = N) (hb16 : b < 16) (hin : ∀ w ∈ u_ws C T N, w ∈ lw_all) (hty : ∀ k, k < N → parseFieldDescriptor (T k).2.2.1 = some (ty k)) (hnm : ∀ a, a < N → ∀ b, b < N → a ≠ b → (T a).2.1 ≠ (T b).2.1) (hkt : ty j = .int ∧ k = 0 ∨ ty j = .boolean ∧ k = 1 ∨ ty j = .byte ∧ k = 2 ∨ ty j = .long ∧ k = 3 ∨ ((∃ n, ty j = .object n) ∨ ∃ u, ty j = .array u) ∧ 4 ≤ k) (hsame : ∀ (s : State), (xs0 X).WarmedH s.vm → ∀ x, s.fieldFound? (T j).1 (T j).2.1 (T j).2.2.1 = some x → s.fieldFound? ref (T j).2.1 (T j).2.2.1 = some x)
    (hfin : (T j).2.2.2 = false) {host : String} (hlink : Cond.fieldLinkNest own.cls index ref (T j).2.1 (T j).2.2.1 host ∈ lw_tbl) : tp_Sim X own cc ret nL pc 3 (o_putf (.putfield index) b j k) := by
  intro p l e R s m args below meth c Q a0 b0 F L S h nx hnx
  rcases S with _ | ⟨v, _ | ⟨x | x | _ | a, S⟩⟩ <;> try (simp [o_putf] at hnx; done)
  simp only [o_putf] at hnx
  rcases h0 : hat h a with _ | ⟨⟩ | ⟨c', fs⟩ <;> rw [h0] at hnx
  · cases hnx
  · cases hnx
  · by_cases hb : c' = b ∧ tp_fit k v = true
    · simp only [if_pos hb, tp_go] at hnx
      obtain ⟨rfl, hfit⟩ := hb
      cases hnx
      refine ⟨⟨Nat.le_refl _, Nat.le_refl _⟩, fun _ _ ok => ?_⟩
      intro H locs cells slots ls st hK hL hS hl hc1 hs
      rcases st with _ | ⟨cv, _ | ⟨v2, st⟩⟩
      · exact hS.elim
      · exact hS.2.elim
      · obtain ⟨e1, e2, hS⟩ := hS
        obtain rfl := e2
        have hW := F.2.2.2.2.2.2.1
        obtain ⟨cell, q1, q2, q3, q4, q5, q6, q7, q8⟩ := hK.2.2.2.1 a _ h0
        obtain ⟨hB, hvm, hmon⟩ := q8 hb16
        obtain ⟨cvj, q9, q10⟩ := q5 j (by omega)
        obtain ⟨cf, fi, kf, kC, fd, r1, r2, r3, r4, r5, r6⟩ := tp_fld hG hW hc hj hin
        have hts : ∀ w ∈ lw_all, w.before args s = true := fun w hw => tp_word hG hW hw args
        obtain ⟨hfn, hnn⟩ := tp_fits e1 hfit hkt
        have hlay := hts _ (hin _ (u_in_lay hj))
        unfold u_lay at hlay
        have hap : ∀ x y, x < N → y < N → x ≠ y → xF X c' x ≠ xF X c' y := by
          intro x y hx hy hxy
          obtain ⟨cf1, fi1, kf1, kC1, fd1, t1, t2, t3, t4, t5, t6⟩ := tp_fld hG hW hc hx hin
          obtain ⟨cf2, fi2, kf2, kC2, fd2, u1, u2, u3, u4, u5, u6⟩ := tp_fld hG hW hc hy hin
          rw [← t2, ← u2]
          refine u_apart (u_lays hts hin hx) (u_lays hts hin hy) t1 u1 ?_
          rw [(State.fieldFound?_type t1 (hty x hx)).1, (State.fieldFound?_type u1 (hty y hy)).1]
          exact hnm x hx y hy hxy
        have fin : ∀ H' : Heap, H'[a]? = some (cell.setSlot fd.slot cv) → H'.size = H.size → (∀ q, q ≠ a → H'[q]? = H[q]?) → W p l e R s m args below meth c H' (locs ++ [⟨a, fd.slot⟩]) cells slots Q (F0 m (pc + 3) ls st) := by
          intro H' g1 g2 g3
          refine ok H' _ cells slots ls st (tp_RH_put hK ⟨cell.setSlot fd.slot cv, g1, q2, q3, q4, ?_, q6, q7, fun _ => ⟨hB, hvm, hmon⟩⟩ g2 g3 hB (tp_HI_put hK.1 (fun c2 fs2 h2 => ?_) (fun t n f h2 => by cases h2))) hL hS (fun z hz => ?_) hc1 hs
          · intro i hi
            have hi : i < N := by omega
            obtain ⟨cvi, z1, z2⟩ := q5 i (by omega)
            by_cases hij : i = j
            · subst hij
              refine ⟨cv, ?_, by rw [tp_up, if_pos rfl]; exact e1⟩
              rw [r2]
              have hlt := (Array.getElem?_eq_some_iff.mp z1).1
              simp [Cell.setSlot, Array.getElem?_setIfInBounds, hlt]
            · refine ⟨cvi, ?_, by rw [tp_up, if_neg hij]; exact z2⟩
              rw [r2]
              have hne := hap j i hj hi (Ne.symm hij)
              simp [Cell.setSlot, Array.getElem?_setIfInBounds, hne, z1]
          · rw [h0] at h2; cases h2; exact ⟨_, rfl⟩
          · rcases List.mem_append.mp hz with h9 | h9
            · exact hl z h9
            · rw [List.mem_singleton.mp h9]; exact hB
        have hlt : fd.slot < cell.slots.size := by rw [r2]; exact (Array.getElem?_eq_some_iff.mp q9).1
        rw [if_neg (by rw [hfin]; decide)] at hlay
        have h6 := u_store r4 r5 r6 hlay r1 (hty j hj) hnn hfn
        exact va_WputK F.1 F.2.1 F.2.2.2.2.2.1 (va_Nw.use rfl (va_Nw.warmF hW (va_Nw.of rfl (hG.1 _ hlink)))) (hsame s hW _ r1) r3 (by rw [q2]; exact h6) q1 hvm hlt rfl rfl hd fin
    · simp only [if_neg hb] at hnx; cases hnx
theorem sim_putfF (hG : tp_Good X az) {index b j N k : Nat} {C ref : String} {T : u_T} {ty : Nat → FieldType} (hd : decode cc pc = .ok (.putfield index, 3)) (hc : tp_cl[b]? = some (C, T, N)) (hj : j < N) (hN : tp_nf b = N) (hb16 : b < 16) (hin : ∀ w ∈ u_ws C T N, w ∈ lw_all) (hty : ∀ k, k < N → parseFieldDescriptor (T k).2.2.1 = some (ty k)) (hnm : ∀ a, a < N → ∀ b, b < N → a ≠ b → (T a).2.1 ≠ (T b).2.1) (hkt : ty j = .int ∧ k = 0 ∨ ty j = .boolean ∧ k = 1 ∨ ty j = .byte ∧ k = 2 ∨ ty j = .long ∧ k = 3 ∨ ((∃ n, ty j = .object n) ∨ ∃ u, ty j = .array u) ∧ 4 ≤ k) (hsame : ∀ (s : State), (xs0 X).WarmedH s.vm → ∀ x, s.fieldFound? (T j).1 (T j).2.1 (T j).2.2.1 = some x → s.fieldFound? ref (T j).2.1 (T j).2.2.1 = some x)
    (hfin : (T j).2.2.2 = true) (hinit : own.name = "<init>") (hdecl : (T j).1 = own.cls) (hlink : Cond.fieldLink own.cls index ref (T j).2.1 (T j).2.2.1 ∈ lw_all) : tp_Sim X own cc ret nL pc 3 (o_putf (.putfield index) b j k) := by
  intro p l e R s m args below meth c Q a0 b0 F L S h nx hnx
  rcases S with _ | ⟨v, _ | ⟨x | x | _ | a, S⟩⟩ <;> try (simp [o_putf] at hnx; done)
  simp only [o_putf] at hnx
  rcases h0 : hat h a with _ | ⟨⟩ | ⟨c', fs⟩ <;> rw [h0] at hnx
  · cases hnx
  · cases hnx
  · by_cases hb : c' = b ∧ tp_fit k v = true
    · simp only [if_pos hb, tp_go] at hnx
      obtain ⟨rfl, hfit⟩ := hb
      cases hnx
      refine ⟨⟨Nat.le_refl _, Nat.le_refl _⟩, fun _ _ ok => ?_⟩
      intro H locs cells slots ls st hK hL hS hl hc1 hs
      rcases st with _ | ⟨cv, _ | ⟨v2, st⟩⟩
      · exact hS.elim
      · exact hS.2.elim
      · obtain ⟨e1, e2, hS⟩ := hS
        obtain rfl := e2
        have hW := F.2.2.2.2.2.2.1
        obtain ⟨cell, q1, q2, q3, q4, q5, q6, q7, q8⟩ := hK.2.2.2.1 a _ h0
        obtain ⟨hB, hvm, hmon⟩ := q8 hb16
        obtain ⟨cvj, q9, q10⟩ := q5 j (by omega)
        obtain ⟨cf, fi, kf, kC, fd, r1, r2, r3, r4, r5, r6⟩ := tp_fld hG hW hc hj hin
        have hts : ∀ w ∈ lw_all, w.before args s = true := fun w hw => tp_word hG hW hw args
        obtain ⟨hfn, hnn⟩ := tp_fits e1 hfit hkt
        have hlay := hts _ (hin _ (u_in_lay hj))
        unfold u_lay at hlay
        have hap : ∀ x y, x < N → y < N → x ≠ y → xF X c' x ≠ xF X c' y := by
          intro x y hx hy hxy
          obtain ⟨cf1, fi1, kf1, kC1, fd1, t1, t2, t3, t4, t5, t6⟩ := tp_fld hG hW hc hx hin
          obtain ⟨cf2, fi2, kf2, kC2, fd2, u1, u2, u3, u4, u5, u6⟩ := tp_fld hG hW hc hy hin
          rw [← t2, ← u2]
          refine u_apart (u_lays hts hin hx) (u_lays hts hin hy) t1 u1 ?_
          rw [(State.fieldFound?_type t1 (hty x hx)).1, (State.fieldFound?_type u1 (hty y hy)).1]
          exact hnm x hx y hy hxy
        have fin : ∀ H' : Heap, H'[a]? = some (cell.setSlot fd.slot cv) → H'.size = H.size → (∀ q, q ≠ a → H'[q]? = H[q]?) → W p l e R s m args below meth c H' (locs ++ [⟨a, fd.slot⟩]) cells slots Q (F0 m (pc + 3) ls st) := by
          intro H' g1 g2 g3
          refine ok H' _ cells slots ls st (tp_RH_put hK ⟨cell.setSlot fd.slot cv, g1, q2, q3, q4, ?_, q6, q7, fun _ => ⟨hB, hvm, hmon⟩⟩ g2 g3 hB (tp_HI_put hK.1 (fun c2 fs2 h2 => ?_) (fun t n f h2 => by cases h2))) hL hS (fun z hz => ?_) hc1 hs
          · intro i hi
            have hi : i < N := by omega
            obtain ⟨cvi, z1, z2⟩ := q5 i (by omega)
            by_cases hij : i = j
            · subst hij
              refine ⟨cv, ?_, by rw [tp_up, if_pos rfl]; exact e1⟩
              rw [r2]
              have hlt := (Array.getElem?_eq_some_iff.mp z1).1
              simp [Cell.setSlot, Array.getElem?_setIfInBounds, hlt]
            · refine ⟨cvi, ?_, by rw [tp_up, if_neg hij]; exact z2⟩
              rw [r2]
              have hne := hap j i hj hi (Ne.symm hij)
              simp [Cell.setSlot, Array.getElem?_setIfInBounds, hne, z1]
          · rw [h0] at h2; cases h2; exact ⟨_, rfl⟩
          · rcases List.mem_append.mp hz with h9 | h9
            · exact hl z h9
            · rw [List.mem_singleton.mp h9]; exact hB
        have hlt : fd.slot < cell.slots.size := by rw [r2]; exact (Array.getElem?_eq_some_iff.mp q9).1
        rw [if_pos hfin] at hlay
        have hcf : m.cls = cf := by
          obtain ⟨_, _, c9, _, _, _, -, -, hf', -, -, -, hown2, -⟩ := Cond.laysFinal_spec hlay
          have e9 : c9 = cf := by have := r1.symm.trans hf'; simp at this; exact this.1.symm
          rw [hdecl] at hown2
          rw [← e9]; exact Option.some.inj (F.2.2.2.2.2.1.symm.trans hown2)
        have h6 := u_fits r4 r5 r6 (Or.inr hlay) r1 (hty j hj) hnn hfn
        exact W.putFinK F.1 F.2.1 F.2.2.2.2.2.1 (hts _ hlink) (hsame s hW _ r1) r3 hcf (F.2.2.2.2.2.2.2.2.2.1.trans hinit) (by rw [q2]; exact h6) q1 hvm hlt rfl rfl hd fin
    · simp only [if_neg hb] at hnx; cases hnx
theorem sim_iald (hd : decode cc pc = .ok (.iaload, 1)) : tp_Sim X own cc ret nL pc 1 (o_lda .iaload [0, 20]) := by
  intro p l e R s m args below meth c Q a0 b0 F L S h nx hnx
  rcases S with _ | ⟨x | x, _ | ⟨y | y | _ | a, S⟩⟩ <;> try (simp [o_lda] at hnx; done)
  simp only [o_lda] at hnx
  rcases h0 : hat h a with _ | ⟨t, n, f⟩ | ⟨c', fs⟩ <;> rw [h0] at hnx
  · cases hnx
  · by_cases hb : tp_in t [0, 20] = true ∧ (0 ≤ x ∧ x < n)
    · simp only [if_pos hb, tp_go] at hnx
      obtain ⟨hb, hx⟩ := hb
      cases hnx
      refine ⟨⟨Nat.le_refl _, Nat.le_refl _⟩, fun _ _ ok => ?_⟩
      intro H locs cells slots ls st hK hL hS hl hc1 hs
      rcases st with _ | ⟨cv, _ | ⟨v2, st⟩⟩
      · exact hS.elim
      · exact hS.2.elim
      · obtain ⟨⟨xv, rfl, ex⟩, e2, hS⟩ := hS
        obtain rfl := e2
        obtain ⟨cell, q1, q2, q3, q4, q5, q6, q7⟩ := hK.2.2.2.1 a _ h0
        obtain ⟨cv, q8, q9⟩ := q6 x.toNat (by omega)
        have hA := State.isArrayOf_alike F.2.2.2.2.2.2.1.alike q2
        have k := ok H locs cells slots ls (cv :: st) hK hL ⟨q9, hS⟩ hl hc1 hs
        have ht : t ∈ [0, 20] := of_decide_eq_true hb
        simp only [List.mem_cons, List.not_mem_nil, or_false] at ht
        rcases ht with rfl | rfl <;> exact W.iald F.1 F.2.1 q1 hA q3 (tp_inb ex (by omega)) (by rw [tp_nat ex]; exact q8) rfl rfl hd k
    · simp only [if_neg hb] at hnx; cases hnx
  · cases hnx
theorem sim_lald (hd : decode cc pc = .ok (.laload, 1)) : tp_Sim X own cc ret nL pc 1 (o_lda .laload [3]) := by
  intro p l e R s m args below meth c Q a0 b0 F L S h nx hnx
  rcases S with _ | ⟨x | x, _ | ⟨y | y | _ | a, S⟩⟩ <;> try (simp [o_lda] at hnx; done)
  simp only [o_lda] at hnx
  rcases h0 : hat h a with _ | ⟨t, n, f⟩ | ⟨c', fs⟩ <;> rw [h0] at hnx
  · cases hnx
  · by_cases hb : tp_in t [3] = true ∧ (0 ≤ x ∧ x < n)
    · simp only [if_pos hb, tp_go] at hnx
      obtain ⟨hb, hx⟩ := hb
      cases hnx
      refine ⟨⟨Nat.le_refl _, Nat.le_refl _⟩, fun _ _ ok => ?_⟩
      intro H locs cells slots ls st hK hL hS hl hc1 hs
      rcases st with _ | ⟨cv, _ | ⟨v2, st⟩⟩
      · exact hS.elim
      · exact hS.2.elim
      · obtain ⟨⟨xv, rfl, ex⟩, e2, hS⟩ := hS
        obtain rfl := e2
        obtain ⟨cell, q1, q2, q3, q4, q5, q6, q7⟩ := hK.2.2.2.1 a _ h0
        obtain ⟨cv, q8, q9⟩ := q6 x.toNat (by omega)
        have hA := State.isArrayOf_alike F.2.2.2.2.2.2.1.alike q2
        have k := ok H locs cells slots ls (cv :: st) hK hL ⟨q9, hS⟩ hl hc1 hs
        have ht : t ∈ [3] := of_decide_eq_true hb
        simp only [List.mem_cons, List.not_mem_nil, or_false] at ht
        obtain rfl := ht
        exact W.lald F.1 F.2.1 q1 hA q3 (tp_inb ex (by omega)) (by rw [tp_nat ex]; exact q8) rfl rfl hd k
    · simp only [if_neg hb] at hnx; cases hnx
  · cases hnx
theorem sim_bald (hd : decode cc pc = .ok (.baload, 1)) : tp_Sim X own cc ret nL pc 1 (o_lda .baload [1, 2, 22]) := by
  intro p l e R s m args below meth c Q a0 b0 F L S h nx hnx
  rcases S with _ | ⟨x | x, _ | ⟨y | y | _ | a, S⟩⟩ <;> try (simp [o_lda] at hnx; done)
  simp only [o_lda] at hnx
  rcases h0 : hat h a with _ | ⟨t, n, f⟩ | ⟨c', fs⟩ <;> rw [h0] at hnx
  · cases hnx
  · by_cases hb : tp_in t [1, 2, 22] = true ∧ (0 ≤ x ∧ x < n)
    · simp only [if_pos hb, tp_go] at hnx
      obtain ⟨hb, hx⟩ := hb
      cases hnx
      refine ⟨⟨Nat.le_refl _, Nat.le_refl _⟩, fun _ _ ok => ?_⟩
      intro H locs cells slots ls st hK hL hS hl hc1 hs
      rcases st with _ | ⟨cv, _ | ⟨v2, st⟩⟩
      · exact hS.elim
      · exact hS.2.elim
      · obtain ⟨⟨xv, rfl, ex⟩, e2, hS⟩ := hS
        obtain rfl := e2
        obtain ⟨cell, q1, q2, q3, q4, q5, q6, q7⟩ := hK.2.2.2.1 a _ h0
        obtain ⟨cv, q8, q9⟩ := q6 x.toNat (by omega)
        have hA := State.isArrayOf_alike F.2.2.2.2.2.2.1.alike q2
        have k := ok H locs cells slots ls (cv :: st) hK hL ⟨q9, hS⟩ hl hc1 hs
        have ht : t ∈ [1, 2, 22] := of_decide_eq_true hb
        simp only [List.mem_cons, List.not_mem_nil, or_false] at ht
        rcases ht with rfl | rfl | rfl
        · exact W.zald F.1 F.2.1 q1 hA q3 (tp_inb ex (by omega)) (by rw [tp_nat ex]; exact q8) rfl rfl hd k
        · exact W.bald F.1 F.2.1 q1 hA q3 (tp_inb ex (by omega)) (by rw [tp_nat ex]; exact q8) rfl rfl hd k
        · exact W.bald F.1 F.2.1 q1 hA q3 (tp_inb ex (by omega)) (by rw [tp_nat ex]; exact q8) rfl rfl hd k
    · simp only [if_neg hb] at hnx; cases hnx
  · cases hnx
theorem sim_aald (hd : decode cc pc = .ok (.aaload, 1)) : tp_Sim X own cc ret nL pc 1 (o_lda .aaload [4, 5, 6, 7, 28, 29]) := by
  intro p l e R s m args below meth c Q a0 b0 F L S h nx hnx
  rcases S with _ | ⟨x | x, _ | ⟨y | y | _ | a, S⟩⟩ <;> try (simp [o_lda] at hnx; done)
  simp only [o_lda] at hnx
  rcases h0 : hat h a with _ | ⟨t, n, f⟩ | ⟨c', fs⟩ <;> rw [h0] at hnx
  · cases hnx
  · by_cases hb : tp_in t [4, 5, 6, 7, 28, 29] = true ∧ (0 ≤ x ∧ x < n)
    · simp only [if_pos hb, tp_go] at hnx
      obtain ⟨hb, hx⟩ := hb
      cases hnx
      refine ⟨⟨Nat.le_refl _, Nat.le_refl _⟩, fun _ _ ok => ?_⟩
      intro H locs cells slots ls st hK hL hS hl hc1 hs
      rcases st with _ | ⟨cv, _ | ⟨v2, st⟩⟩
      · exact hS.elim
      · exact hS.2.elim
      · obtain ⟨⟨xv, rfl, ex⟩, e2, hS⟩ := hS
        obtain rfl := e2
        obtain ⟨cell, q1, q2, q3, q4, q5, q6, q7⟩ := hK.2.2.2.1 a _ h0
        obtain ⟨cv, q8, q9⟩ := q6 x.toNat (by omega)
        have hA := State.isArrayOf_alike F.2.2.2.2.2.2.1.alike q2
        have k := ok H locs cells slots ls (cv :: st) hK hL ⟨q9, hS⟩ hl hc1 hs
        have ht : t ∈ [4, 5, 6, 7, 28, 29] := of_decide_eq_true hb
        simp only [List.mem_cons, List.not_mem_nil, or_false] at ht
        rcases ht with rfl | rfl | rfl | rfl | rfl | rfl <;> exact W.aald F.1 F.2.1 q1 hA rfl q3 (tp_inb ex (by omega)) (by rw [tp_nat ex]; exact q8) rfl rfl hd k
    · simp only [if_neg hb] at hnx; cases hnx
  · cases hnx
theorem tp_arr_set {s : State} {cell : Cell} {ty : FieldType} {j : Nat} {v : Value} (h : s.isArrayOf cell ty) : s.isArrayOf (cell.setSlot j v) ty := h
theorem sim_iast (hd : decode cc pc = .ok (.iastore, 1)) : tp_Sim X own cc ret nL pc 1 (o_sta .iastore [0]) := by
  intro p l e R s m args below meth c Q a0 b0 F L S h nx hnx
  rcases S with _ | ⟨v, _ | ⟨x | x, _ | ⟨y | y | _ | a, S⟩⟩⟩ <;> try (simp [o_sta] at hnx; done)
  simp only [o_sta] at hnx
  rcases h0 : hat h a with _ | ⟨t, n, f⟩ | ⟨c', fs⟩ <;> rw [h0] at hnx
  · cases hnx
  · by_cases hb : tp_in t [0] = true ∧ (0 ≤ x ∧ x < n) ∧ tp_fit t v = true
    · simp only [if_pos hb, tp_go] at hnx
      obtain ⟨hb, hx, hfit⟩ := hb
      cases hnx
      refine ⟨⟨Nat.le_refl _, Nat.le_refl _⟩, fun _ _ ok => ?_⟩
      intro H locs cells slots ls st hK hL hS hl hc1 hs
      rcases st with _ | ⟨cw, _ | ⟨v2, _ | ⟨v3, st⟩⟩⟩
      · exact hS.elim
      · exact hS.2.elim
      · exact hS.2.2.elim
      · obtain ⟨e1, ⟨xv, rfl, ex⟩, e2, hS⟩ := hS
        obtain rfl := e2
        obtain ⟨cell, q1, q2, q3, q4, q5, q6, q7⟩ := hK.2.2.2.1 a _ h0
        have hA := State.isArrayOf_alike F.2.2.2.2.2.2.1.alike q2
        have ht : t ∈ [0] := of_decide_eq_true hb
        simp only [List.mem_cons, List.not_mem_nil, or_false] at ht
        have ht20 : t < 20 := by omega
        have ht4 : t < 4 := by omega
        obtain ⟨p1, p2, p3, p4, p5⟩ := q7 ht20
        have fin : ∀ (cv : Value), tp_RV v cv → ∀ H' : Heap, H'[a]? = some (cell.setSlot xv.toNatClampNeg cv) → H'.size = H.size → (∀ q, q ≠ a → H'[q]? = H[q]?) → W p l e R s m args below meth c H' (locs ++ [⟨a, xv.toNatClampNeg⟩]) cells slots Q (F0 m (pc + 1) ls st) := by
          intro cv ecv H' g1 g2 g3
          rw [tp_nat ex] at g1 ⊢
          refine ok H' _ cells slots ls st (tp_RH_put hK ⟨cell.setSlot x.toNat cv, g1, tp_arr_set q2, q3, q4, by rw [← q5]; simp [Cell.setSlot], ?_, fun _ => ⟨p1, p2, p3, p4, ?_⟩⟩ g2 g3 p1 (tp_HI_put hK.1 (fun c2 fs2 h2 => by rw [h0] at h2; cases h2) (fun t9 n9 f9 h2 h3 => by cases h2; omega))) hL hS (fun z hz => ?_) hc1 hs
          · intro i hi
            obtain ⟨cvi, z1, z2⟩ := q6 i hi
            by_cases hij : i = x.toNat
            · subst hij
              refine ⟨cv, ?_, by rw [tp_up, if_pos rfl]; exact ecv⟩
              have hlt := (Array.getElem?_eq_some_iff.mp z1).1
              simp [Cell.setSlot, Array.getElem?_setIfInBounds, hlt]
            · refine ⟨cvi, ?_, by rw [tp_up, if_neg hij]; exact z2⟩
              simp [Cell.setSlot, Array.getElem?_setIfInBounds, Ne.symm hij, z1]
          · intro i hi
            by_cases hij : i = x.toNat
            · rw [tp_up, if_pos hij]; exact hfit
            · rw [tp_up, if_neg hij]; exact p5 i hi
          · rcases List.mem_append.mp hz with h9 | h9
            · exact hl z h9
            · rw [List.mem_singleton.mp h9]; exact p1
        obtain rfl := ht
        rcases v with z | z | r
        · obtain ⟨zv, rfl, ez⟩ := e1
          exact W.iast F.1 F.2.1 q1 hA q3 (by rw [q5]; exact tp_inb ex hx) rfl rfl hd (fin _ ⟨zv, rfl, ez⟩)
        · simp [tp_fit] at hfit
        · simp [tp_fit] at hfit
    · simp only [if_neg hb] at hnx; cases hnx
  · cases hnx
theorem sim_last (hd : decode cc pc = .ok (.lastore, 1)) : tp_Sim X own cc ret nL pc 1 (o_sta .lastore [3]) := by
  intro p l e R s m args below meth c Q a0 b0 F L S h nx hnx
  rcases S with _ | ⟨v, _ | ⟨x | x, _ | ⟨y | y | _ | a, S⟩⟩⟩ <;> try (simp [o_sta] at hnx; done)
  simp only [o_sta] at hnx
  rcases h0 : hat h a with _ | ⟨t, n, f⟩ | ⟨c', fs⟩ <;> rw [h0] at hnx
  · cases hnx
  · by_cases hb : tp_in t [3] = true ∧ (0 ≤ x ∧ x < n) ∧ tp_fit t v = true
    · simp only [if_pos hb, tp_go] at hnx
      obtain ⟨hb, hx, hfit⟩ := hb
      cases hnx
      refine ⟨⟨Nat.le_refl _, Nat.le_refl _⟩, fun _ _ ok => ?_⟩
      intro H locs cells slots ls st hK hL hS hl hc1 hs
      rcases st with _ | ⟨cw, _ | ⟨v2, _ | ⟨v3, st⟩⟩⟩
      · exact hS.elim
      · exact hS.2.elim
      · exact hS.2.2.elim
      · obtain ⟨e1, ⟨xv, rfl, ex⟩, e2, hS⟩ := hS
        obtain rfl := e2
        obtain ⟨cell, q1, q2, q3, q4, q5, q6, q7⟩ := hK.2.2.2.1 a _ h0
        have hA := State.isArrayOf_alike F.2.2.2.2.2.2.1.alike q2
        have ht : t ∈ [3] := of_decide_eq_true hb
        simp only [List.mem_cons, List.not_mem_nil, or_false] at ht
        have ht20 : t < 20 := by omega
        have ht4 : t < 4 := by omega
        obtain ⟨p1, p2, p3, p4, p5⟩ := q7 ht20
        have fin : ∀ (cv : Value), tp_RV v cv → ∀ H' : Heap, H'[a]? = some (cell.setSlot xv.toNatClampNeg cv) → H'.size = H.size → (∀ q, q ≠ a → H'[q]? = H[q]?) → W p l e R s m args below meth c H' (locs ++ [⟨a, xv.toNatClampNeg⟩]) cells slots Q (F0 m (pc + 1) ls st) := by
          intro cv ecv H' g1 g2 g3
          rw [tp_nat ex] at g1 ⊢
          refine ok H' _ cells slots ls st (tp_RH_put hK ⟨cell.setSlot x.toNat cv, g1, tp_arr_set q2, q3, q4, by rw [← q5]; simp [Cell.setSlot], ?_, fun _ => ⟨p1, p2, p3, p4, ?_⟩⟩ g2 g3 p1 (tp_HI_put hK.1 (fun c2 fs2 h2 => by rw [h0] at h2; cases h2) (fun t9 n9 f9 h2 h3 => by cases h2; omega))) hL hS (fun z hz => ?_) hc1 hs
          · intro i hi
            obtain ⟨cvi, z1, z2⟩ := q6 i hi
            by_cases hij : i = x.toNat
            · subst hij
              refine ⟨cv, ?_, by rw [tp_up, if_pos rfl]; exact ecv⟩
              have hlt := (Array.getElem?_eq_some_iff.mp z1).1
              simp [Cell.setSlot, Array.getElem?_setIfInBounds, hlt]
            · refine ⟨cvi, ?_, by rw [tp_up, if_neg hij]; exact z2⟩
              simp [Cell.setSlot, Array.getElem?_setIfInBounds, Ne.symm hij, z1]
          · intro i hi
            by_cases hij : i = x.toNat
            · rw [tp_up, if_pos hij]; exact hfit
            · rw [tp_up, if_neg hij]; exact p5 i hi
          · rcases List.mem_append.mp hz with h9 | h9
            · exact hl z h9
            · rw [List.mem_singleton.mp h9]; exact p1
        obtain rfl := ht
        rcases v with z | z | r
        · simp [tp_fit] at hfit
        · obtain ⟨zv, rfl, ez⟩ := e1
          exact W.last F.1 F.2.1 q1 hA q3 (by rw [q5]; exact tp_inb ex hx) rfl rfl hd (fin _ ⟨zv, rfl, ez⟩)
        · simp [tp_fit] at hfit
    · simp only [if_neg hb] at hnx; cases hnx
  · cases hnx
theorem sim_bast (hd : decode cc pc = .ok (.bastore, 1)) : tp_Sim X own cc ret nL pc 1 (o_sta .bastore [1, 2]) := by
  intro p l e R s m args below meth c Q a0 b0 F L S h nx hnx
  rcases S with _ | ⟨v, _ | ⟨x | x, _ | ⟨y | y | _ | a, S⟩⟩⟩ <;> try (simp [o_sta] at hnx; done)
  simp only [o_sta] at hnx
  rcases h0 : hat h a with _ | ⟨t, n, f⟩ | ⟨c', fs⟩ <;> rw [h0] at hnx
  · cases hnx
  · by_cases hb : tp_in t [1, 2] = true ∧ (0 ≤ x ∧ x < n) ∧ tp_fit t v = true
    · simp only [if_pos hb, tp_go] at hnx
      obtain ⟨hb, hx, hfit⟩ := hb
      cases hnx
      refine ⟨⟨Nat.le_refl _, Nat.le_refl _⟩, fun _ _ ok => ?_⟩
      intro H locs cells slots ls st hK hL hS hl hc1 hs
      rcases st with _ | ⟨cw, _ | ⟨v2, _ | ⟨v3, st⟩⟩⟩
      · exact hS.elim
      · exact hS.2.elim
      · exact hS.2.2.elim
      · obtain ⟨e1, ⟨xv, rfl, ex⟩, e2, hS⟩ := hS
        obtain rfl := e2
        obtain ⟨cell, q1, q2, q3, q4, q5, q6, q7⟩ := hK.2.2.2.1 a _ h0
        have hA := State.isArrayOf_alike F.2.2.2.2.2.2.1.alike q2
        have ht : t ∈ [1, 2] := of_decide_eq_true hb
        simp only [List.mem_cons, List.not_mem_nil, or_false] at ht
        have ht20 : t < 20 := by omega
        have ht4 : t < 4 := by omega
        obtain ⟨p1, p2, p3, p4, p5⟩ := q7 ht20
        have fin : ∀ (cv : Value), tp_RV v cv → ∀ H' : Heap, H'[a]? = some (cell.setSlot xv.toNatClampNeg cv) → H'.size = H.size → (∀ q, q ≠ a → H'[q]? = H[q]?) → W p l e R s m args below meth c H' (locs ++ [⟨a, xv.toNatClampNeg⟩]) cells slots Q (F0 m (pc + 1) ls st) := by
          intro cv ecv H' g1 g2 g3
          rw [tp_nat ex] at g1 ⊢
          refine ok H' _ cells slots ls st (tp_RH_put hK ⟨cell.setSlot x.toNat cv, g1, tp_arr_set q2, q3, q4, by rw [← q5]; simp [Cell.setSlot], ?_, fun _ => ⟨p1, p2, p3, p4, ?_⟩⟩ g2 g3 p1 (tp_HI_put hK.1 (fun c2 fs2 h2 => by rw [h0] at h2; cases h2) (fun t9 n9 f9 h2 h3 => by cases h2; omega))) hL hS (fun z hz => ?_) hc1 hs
          · intro i hi
            obtain ⟨cvi, z1, z2⟩ := q6 i hi
            by_cases hij : i = x.toNat
            · subst hij
              refine ⟨cv, ?_, by rw [tp_up, if_pos rfl]; exact ecv⟩
              have hlt := (Array.getElem?_eq_some_iff.mp z1).1
              simp [Cell.setSlot, Array.getElem?_setIfInBounds, hlt]
            · refine ⟨cvi, ?_, by rw [tp_up, if_neg hij]; exact z2⟩
              simp [Cell.setSlot, Array.getElem?_setIfInBounds, Ne.symm hij, z1]
          · intro i hi
            by_cases hij : i = x.toNat
            · rw [tp_up, if_pos hij]; exact hfit
            · rw [tp_up, if_neg hij]; exact p5 i hi
          · rcases List.mem_append.mp hz with h9 | h9
            · exact hl z h9
            · rw [List.mem_singleton.mp h9]; exact p1
        rcases v with z | z | r
        · have e1' := e1
          obtain ⟨zv, rfl, ez⟩ := e1
          rcases ht with rfl | rfl
          · obtain ⟨-, hn⟩ := tp_fits e1' hfit (Or.inr (Or.inl ⟨rfl, rfl⟩))
            exact W.zast F.1 F.2.1 q1 hA q3 (by rw [q5]; exact tp_inb ex hx) rfl rfl hd (by rw [hn]; exact fin _ ⟨zv, rfl, ez⟩)
          · obtain ⟨-, hn⟩ := tp_fits e1' hfit (Or.inr (Or.inr (Or.inl ⟨rfl, rfl⟩)))
            exact W.bast F.1 F.2.1 q1 hA q3 (by rw [q5]; exact tp_inb ex hx) rfl rfl hd (by rw [hn]; exact fin _ ⟨zv, rfl, ez⟩)
        · rcases ht with rfl | rfl <;> simp [tp_fit] at hfit
        · rcases ht with rfl | rfl <;> simp [tp_fit] at hfit
    · simp only [if_neg hb] at hnx; cases hnx
  · cases hnx
end Sims3
