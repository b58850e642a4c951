/-! SOUNDNESS 4b: String's fields, copies, grids -/
theorem tp_many_nx9 (H : tp_H) (e : Nat → tp_E) (n : Nat) : ∀ k, hnx (hmany H k e n) = hnx H + k ∧ hsl (hmany H k e n) = hsl H + k * n
  | 0 => ⟨rfl, by rw [Nat.zero_mul]; rfl⟩
  | k + 1 => by
    obtain ⟨h1, h2⟩ := tp_many_nx9 H e n k
    refine ⟨by show hnx (hnew _ _ _) = _; rw [hnx_new, h1]; omega, ?_⟩
    show hsl (hnew _ _ _) = _
    rw [hsl_new, h2, Nat.succ_mul]; omega
theorem tp_grid_le9 (H : tp_H) (n k : Nat) : hnx (tp_grid H n k) = hnx H + 1 + n := by
  show hnx (hmany _ _ _ _) = _
  rw [(tp_many_nx9 _ _ _ _).1, hnx_new]
theorem tp_grid_le8 (H : tp_H) (n k : Nat) : hsl (tp_grid H n k) = hsl H + n + n * k := by
  show hsl (hmany _ _ _ _) = _
  rw [(tp_many_nx9 _ _ _ _).2, hsl_new]
theorem tp_idx_bare (vm : Vm) (comp : ClassId) : (vm.bare.classes.findIdx? fun (x : Class) => match x.kind with | .array component _ => component == comp | _ => false) = (vm.classes.findIdx? fun (x : Class) => match x.kind with | .array component _ => component == comp | _ => false) := by
  simp only [Vm.bare, Array.findIdx?_map]
  rfl
theorem va_ao {s0 s : State} {t : FieldType} {az args : Array Value} (hW : s0.WarmedH s.vm) (h : (Cond.arrayOver (.array t)).before az s0 = true) : (Cond.arrayOver (.array t)).before args s = true := by
  have hvm := hW.alike
  unfold Cond.before Cond.holds at h
  simp only [Cond.value, beq_iff_eq] at h
  cases hc : s0.vm.findClass (FieldType.array t).toString with
  | none => simp [hc] at h
  | some comp =>
    simp only [hc, Option.bind_some, Option.bind_eq_some_iff, Option.map_eq_some_iff] at h
    obtain ⟨c, h2, k, h3, hb⟩ := h
    obtain ⟨hlt, hp, -⟩ := Array.findIdx?_eq_some_iff_getElem.mp h2
    have hkk : s0.vm.classes[c] = k := (Array.getElem?_eq_some_iff.mp h3).2
    rw [hkk] at hp
    have h45 : k.kind = .array comp (.array t) ∧ s0.vm.findClass ("[" ++ (FieldType.array t).toString) = some c := by
      cases hkind : k.kind with
      | array component ty =>
        rw [hkind] at hb hp
        simp at hb hp
        exact ⟨by rw [hp, hb.1], hb.2⟩
      | _ => rw [hkind] at hb; simp at hb
    obtain ⟨h4, h5⟩ := h45
    obtain ⟨k', hk', he⟩ := hvm.2.2 _ _ h3
    have hi : (s.vm.classes.findIdx? fun (x : Class) => match x.kind with | .array component _ => component == comp | _ => false) = some c := by
      rw [← tp_idx_bare]
      first | rw [hvm.bare_eq] | rw [← hvm.bare_eq]
      rw [tp_idx_bare]
      exact h2
    have hkind : k'.kind = .array comp (.array t) := by rw [he]; exact h4
    have f1 : s.vm.findClass (FieldType.array t).toString = some comp := by rw [hvm.findClass]; exact hc
    have f2 : s.vm.findClass ("[" ++ (FieldType.array t).toString) = some c := by rw [hvm.findClass]; exact h5
    unfold Cond.before Cond.holds
    simp only [Cond.value]
    rw [f1, Option.bind_some]
    refine (congrArg (fun o : Option Nat => (o.bind (fun c => (s.vm.classes[c]?).map fun (k : Class) => match k.kind with | .array _ ty => decide (ty = FieldType.array t) && decide (s.vm.findClass ("[" ++ (FieldType.array t).toString) = some c) | _ => false) == some true)) hi).trans ?_
    simp [hk', hkind, f2]
section Sims4b
variable {X : tp_X} {az : Array Value} {own : MethodName} {cc : ByteArray} {ret : Option FieldType} {nL pc : Nat}
theorem sim_getfS (hG : tp_Good X az) {index j : Nat} {ref : String} (hd : decode cc pc = .ok (.getfield index, 3)) (hj : j < 2) (href : ref = (tp_Tstr j).1) (hlink : Cond.fieldLink own.cls index ref (tp_Tstr j).2.1 (tp_Tstr j).2.2.1 ∈ lw_all) : tp_Sim X own cc ret nL pc 3 (o_getf (.getfield index) 17 j) := by
  intro p l e R s m args below meth c Q a0 b0 F L S h nx hnx
  rcases S with _ | ⟨x | x | _ | a, S⟩ <;> try (simp [o_getf] at hnx; done)
  simp only [o_getf] at hnx
  rcases h0 : hat h a with _ | ⟨⟩ | ⟨c', fs⟩ <;> rw [h0] at hnx
  · cases hnx
  · cases hnx
  · by_cases hb : c' = 17
    · subst hb
      simp only [if_true, tp_go] at hnx
      cases hnx
      refine ⟨⟨Nat.le_refl _, Nat.le_refl _⟩, fun _ _ ok => ?_⟩
      intro H locs cells slots ls st hK hL hS hl hc1 hs
      rcases st with _ | ⟨v, st⟩
      · exact hS.elim
      · obtain ⟨e2, hS⟩ := hS
        obtain rfl := e2
        obtain ⟨cell, q1, q2, q3, q4, q5, q6⟩ := hK.2.2.2.1 a _ h0
        obtain ⟨cv, q7, q8⟩ := q5 j hj
        obtain ⟨cf, fi, kf, fd, r1, r2, r3⟩ := hG.2.2.2.2.2 j hj
        obtain ⟨kf', r1', -⟩ := State.fieldFound?_setVm (s := xs0 X) F.2.2.2.2.2.2.1.alike r1
        have r1' : s.fieldFound? (tp_Tstr j).1 (tp_Tstr j).2.1 (tp_Tstr j).2.2.1 = some (cf, kf', fi, fd) := by simpa only [State.fieldFound?, State.vm_setVm] using r1'
        have k := ok H locs cells slots ls (cv :: st) hK hL ⟨q8, hS⟩ hl hc1 hs
        subst href
        exact W.getf F.1 F.2.1 F.2.2.2.2.2.1 (tp_word hG F.2.2.2.2.2.2.1 hlink args) r1' r3 q1 q3 (by rw [r2]; exact q7) rfl rfl hd k
    · simp only [if_neg hb] at hnx; cases hnx
theorem tp_cpy_facts (cs cd : Cell) (sp dp n : Nat) : (cd.storeRun dp (cs.stretch sp n)).cls = cd.cls ∧ (cd.storeRun dp (cs.stretch sp n)).vm = cd.vm ∧ (cd.storeRun dp (cs.stretch sp n)).slots.size = cd.slots.size := by
  obtain ⟨h1, h2, h3, -⟩ := Cell.storePairs_facts cd dp (cs.stretch sp n).zipIdx
  exact ⟨h1, h2, h3⟩
theorem sim_mmax (hG : tp_Good X az) {index : Nat} (hd : decode cc pc = .ok (.invokestatic index, 3)) (hlink : Cond.methodLink own.cls index Lib.Math.max.name ∈ lw_all) (hstat : Cond.static Lib.Math.max.name ∈ lw_all) (hini : Cond.initialized "java/lang/Math" ∈ lw_all) (hcode : Cond.code Lib.Math.max.name Lib.Math.max.code 2 (some .int) ∈ lw_all) : tp_Sim X own cc ret nL pc 3 (o_mmax (.invokestatic index)) := by
  intro p l e R s m args below meth c Q a0 b0 F L S h nx hnx
  rcases S with _ | ⟨y | y, _ | ⟨x | x, S⟩⟩ <;> try (simp [o_mmax] at hnx; done)
  by_cases hb : S.length ≤ 12
  · simp only [o_mmax, if_pos hb, tp_go] at hnx
    cases hnx
    refine ⟨⟨Nat.le_refl _, Nat.le_refl _⟩, fun hz1 hz2 ok => ?_⟩
    intro H locs cells slots ls st hK hL hS hl hc1 hs
    rcases st with _ | ⟨_, _ | ⟨_, st⟩⟩
    · exact hS.elim
    · exact hS.2.elim
    · obtain ⟨⟨yv, rfl, ey⟩, ⟨xv, rfl, ex⟩, hS⟩ := hS
      have hW := F.2.2.2.2.2.2.1
      have h12 := tp_RS_len S st hS
      have hR := F.2.2.2.2.2.2.2.2.2.2
      refine va_mmax F.1 F.2.1 (by rw [F.2.2.2.2.1]; exact hL.2.1.symm) F.2.2.2.2.2.1 (tp_word hG hW hlink args) (tp_word hG hW hstat args) (tp_word hG hW hini args) (tp_word hG hW hcode args) (by omega) (by omega) (by omega) (by omega) hd ?_
      exact ok H locs cells slots ls (_ :: st) hK hL ⟨⟨if xv < yv then yv else xv, rfl, by
        by_cases q : xv < yv
        · have h9 : x < y := (tp_lt2 ex ey).mp q
          rw [if_pos q, ey]; omega
        · have h9 : ¬ x < y := fun z => q ((tp_lt2 ex ey).mpr z)
          rw [if_neg q, ex]; omega⟩, hS⟩ hl hc1 hs
  · simp [o_mmax, hb] at hnx
theorem sim_mmin (hG : tp_Good X az) {index : Nat} (hd : decode cc pc = .ok (.invokestatic index, 3)) (hlink : Cond.methodLink own.cls index Lib.Math.min.name ∈ lw_all) (hstat : Cond.static Lib.Math.min.name ∈ lw_all) (hini : Cond.initialized "java/lang/Math" ∈ lw_all) (hcode : Cond.code Lib.Math.min.name Lib.Math.min.code 2 (some .int) ∈ lw_all) : tp_Sim X own cc ret nL pc 3 (o_mmin (.invokestatic index)) := by
  intro p l e R s m args below meth c Q a0 b0 F L S h nx hnx
  rcases S with _ | ⟨y | y, _ | ⟨x | x, S⟩⟩ <;> try (simp [o_mmin] at hnx; done)
  by_cases hb : S.length ≤ 12
  · simp only [o_mmin, if_pos hb, tp_go] at hnx
    cases hnx
    refine ⟨⟨Nat.le_refl _, Nat.le_refl _⟩, fun hz1 hz2 ok => ?_⟩
    intro H locs cells slots ls st hK hL hS hl hc1 hs
    rcases st with _ | ⟨_, _ | ⟨_, st⟩⟩
    · exact hS.elim
    · exact hS.2.elim
    · obtain ⟨⟨yv, rfl, ey⟩, ⟨xv, rfl, ex⟩, hS⟩ := hS
      have hW := F.2.2.2.2.2.2.1
      have h12 := tp_RS_len S st hS
      have hR := F.2.2.2.2.2.2.2.2.2.2
      refine va_mmin F.1 F.2.1 (by rw [F.2.2.2.2.1]; exact hL.2.1.symm) F.2.2.2.2.2.1 (tp_word hG hW hlink args) (tp_word hG hW hstat args) (tp_word hG hW hini args) (tp_word hG hW hcode args) (by omega) (by omega) (by omega) (by omega) hd ?_
      exact ok H locs cells slots ls (_ :: st) hK hL ⟨⟨if yv < xv then yv else xv, rfl, by
        by_cases q : yv < xv
        · have h9 : y < x := (tp_gt2 ex ey).mp q
          rw [if_pos q, ey]; omega
        · have h9 : ¬ y < x := fun z => q ((tp_gt2 ex ey).mpr z)
          rw [if_neg q, ex]; omega⟩, hS⟩ hl hc1 hs
  · simp [o_mmin, hb] at hnx
theorem sim_mabs (hG : tp_Good X az) {index : Nat} (hd : decode cc pc = .ok (.invokestatic index, 3)) (hlink : Cond.methodLink own.cls index Lib.Math.abs.name ∈ lw_all) (hstat : Cond.static Lib.Math.abs.name ∈ lw_all) (hini : Cond.initialized "java/lang/Math" ∈ lw_all) (hcode : Cond.code Lib.Math.abs.name Lib.Math.abs.code 1 (some .int) ∈ lw_all) : tp_Sim X own cc ret nL pc 3 (o_mabs (.invokestatic index)) := by
  intro p l e R s m args below meth c Q a0 b0 F L S h nx hnx
  rcases S with _ | ⟨x | x, S⟩ <;> try (simp [o_mabs] at hnx; done)
  by_cases hb : S.length ≤ 12
  · simp only [o_mabs, if_pos hb, tp_go] at hnx
    cases hnx
    refine ⟨⟨Nat.le_refl _, Nat.le_refl _⟩, fun hz1 hz2 ok => ?_⟩
    intro H locs cells slots ls st hK hL hS hl hc1 hs
    rcases st with _ | ⟨_, st⟩
    · exact hS.elim
    · obtain ⟨⟨xv, rfl, ex⟩, hS⟩ := hS
      have hW := F.2.2.2.2.2.2.1
      have h12 := tp_RS_len S st hS
      have hR := F.2.2.2.2.2.2.2.2.2.2
      refine va_mabs F.1 F.2.1 (by rw [F.2.2.2.2.1]; exact hL.2.1.symm) F.2.2.2.2.2.1 (tp_word hG hW hlink args) (tp_word hG hW hstat args) (tp_word hG hW hini args) (tp_word hG hW hcode args) (by omega) (by omega) (by omega) (by omega) hd ?_
      exact ok H locs cells slots ls (_ :: st) hK hL ⟨⟨if 0 ≤ xv then xv else 0 - xv, rfl, by
        by_cases q : 0 ≤ xv
        · have h9 : ¬ x < 0 := (tp_ge0 ex).mp q
          rw [if_pos q, if_pos (by omega), ex]
        · have h9 : ¬ ¬ x < 0 := fun z => q ((tp_ge0 ex).mpr z)
          rw [if_neg q, if_neg (by omega), Int32.toInt_sub, ex]
          show Int.bmod (0 - x) _ = _
          rw [Int.zero_sub]; rfl⟩, hS⟩ hl hc1 hs
  · simp [o_mabs, hb] at hnx
theorem sim_lmax (hG : tp_Good X az) {index : Nat} (hd : decode cc pc = .ok (.invokestatic index, 3)) (hlink : Cond.methodLink own.cls index Lib.MathLoose.max_long.x ∈ lw_all) (hstat : Cond.static Lib.MathLoose.max_long.x ∈ lw_all) (hini : Cond.initialized "java/lang/Math" ∈ lw_all) (hcode : Cond.code Lib.MathLoose.max_long.x Lib.MathLoose.max_long.code 4 (some .long) ∈ lw_all) : tp_Sim X own cc ret nL pc 3 (o_lmax (.invokestatic index)) := by
  intro p l e R s m args below meth c Q a0 b0 F L S h nx hnx
  rcases S with _ | ⟨y | y | y, _ | ⟨x | x | x, S⟩⟩ <;> try (simp [o_lmax] at hnx; done)
  by_cases hb : S.length ≤ 12
  · simp only [o_lmax, if_pos hb, tp_go] at hnx
    cases hnx
    refine ⟨⟨Nat.le_refl _, Nat.le_refl _⟩, fun hz1 hz2 ok => ?_⟩
    intro H locs cells slots ls st hK hL hS hl hc1 hs
    rcases st with _ | ⟨_, _ | ⟨_, st⟩⟩
    · exact hS.elim
    · exact hS.2.elim
    · obtain ⟨⟨yv, rfl, ey⟩, ⟨xv, rfl, ex⟩, hS⟩ := hS
      have hW := F.2.2.2.2.2.2.1
      have h12 := tp_RS_len S st hS
      have hR := F.2.2.2.2.2.2.2.2.2.2
      refine va_mmax_long F.1 F.2.1 (by rw [F.2.2.2.2.1]; exact hL.2.1.symm) F.2.2.2.2.2.1 (tp_word hG hW hlink args) (tp_word hG hW hstat args) (tp_word hG hW hini args) (tp_word hG hW hcode args) (by omega) (by omega) (by omega) (by omega) hd ?_
      exact ok H locs cells slots ls (_ :: st) hK hL ⟨⟨if yv < xv then xv else yv, rfl, by
        by_cases q : yv < xv
        · have h9 : y < x := (show yv < xv ↔ y < x by rw [Int64.lt_iff_toInt_lt, ex, ey]).mp q
          rw [if_pos q, ex]; omega
        · have h9 : ¬ y < x := fun z => q ((show yv < xv ↔ y < x by rw [Int64.lt_iff_toInt_lt, ex, ey]).mpr z)
          rw [if_neg q, ey]; omega⟩, hS⟩ hl hc1 hs
  · simp [o_lmax, hb] at hnx
theorem sim_lmin (hG : tp_Good X az) {index : Nat} (hd : decode cc pc = .ok (.invokestatic index, 3)) (hlink : Cond.methodLink own.cls index Lib.MathLoose.min_long.x ∈ lw_all) (hstat : Cond.static Lib.MathLoose.min_long.x ∈ lw_all) (hini : Cond.initialized "java/lang/Math" ∈ lw_all) (hcode : Cond.code Lib.MathLoose.min_long.x Lib.MathLoose.min_long.code 4 (some .long) ∈ lw_all) : tp_Sim X own cc ret nL pc 3 (o_lmin (.invokestatic index)) := by
  intro p l e R s m args below meth c Q a0 b0 F L S h nx hnx
  rcases S with _ | ⟨y | y | y, _ | ⟨x | x | x, S⟩⟩ <;> try (simp [o_lmin] at hnx; done)
  by_cases hb : S.length ≤ 12
  · simp only [o_lmin, if_pos hb, tp_go] at hnx
    cases hnx
    refine ⟨⟨Nat.le_refl _, Nat.le_refl _⟩, fun hz1 hz2 ok => ?_⟩
    intro H locs cells slots ls st hK hL hS hl hc1 hs
    rcases st with _ | ⟨_, _ | ⟨_, st⟩⟩
    · exact hS.elim
    · exact hS.2.elim
    · obtain ⟨⟨yv, rfl, ey⟩, ⟨xv, rfl, ex⟩, hS⟩ := hS
      have hW := F.2.2.2.2.2.2.1
      have h12 := tp_RS_len S st hS
      have hR := F.2.2.2.2.2.2.2.2.2.2
      refine va_mmin_long F.1 F.2.1 (by rw [F.2.2.2.2.1]; exact hL.2.1.symm) F.2.2.2.2.2.1 (tp_word hG hW hlink args) (tp_word hG hW hstat args) (tp_word hG hW hini args) (tp_word hG hW hcode args) (by omega) (by omega) (by omega) (by omega) hd ?_
      exact ok H locs cells slots ls (_ :: st) hK hL ⟨⟨if yv < xv then yv else xv, rfl, by
        by_cases q : yv < xv
        · have h9 : y < x := (show yv < xv ↔ y < x by rw [Int64.lt_iff_toInt_lt, ex, ey]).mp q
          rw [if_pos q, ey]; omega
        · have h9 : ¬ y < x := fun z => q ((show yv < xv ↔ y < x by rw [Int64.lt_iff_toInt_lt, ex, ey]).mpr z)
          rw [if_neg q, ex]; omega⟩, hS⟩ hl hc1 hs
  · simp [o_lmin, hb] at hnx
theorem tp_isArr {X : tp_X} {az : Array Value} (hG : tp_Good X az) {t : Nat} (ht : t < 8) {cell : Cell} (hc : cell.cls = xA X t) (hv : cell.vm = .none) : (xs0 X).isArrayOf cell (tp_ty t) := by
  have h := (hG.2.2.1 t ht).1 0 (fun _ => .null)
  exact ⟨(fun k q => by rw [hv] at q; cases q), by rw [hc]; exact h.2⟩
theorem tp_tyref {t : Nat} (h : t = 6 ∨ t = 7) : (∃ n, tp_ty t = .object n) ∨ ∃ u, tp_ty t = .array u := by
  rcases h with rfl | rfl <;> exact Or.inl ⟨_, rfl⟩
theorem sim_acopy (hG : tp_Good X az) {index : Nat} (hd : decode cc pc = .ok (.invokestatic index, 3)) (hlink : Cond.methodLink own.cls index arraycopyName ∈ lw_all) (hnat : Cond.native arraycopyName ∈ lw_all) (hstat : Cond.static arraycopyName ∈ lw_all) (hini : Cond.initialized "java/lang/System" ∈ lw_all) : tp_Sim X own cc ret nL pc 3 (o_acopy (.invokestatic index)) := by
  intro p l e R s m args below meth c Q a0 b0 F L S h nx hnx
  rcases S with _ | ⟨n | n, _ | ⟨dp | dp, _ | ⟨y | y | _ | b, _ | ⟨sp | sp, _ | ⟨x | x | _ | a, S⟩⟩⟩⟩⟩ <;> try (simp [o_acopy] at hnx; done)
  simp only [o_acopy] at hnx
  rcases h0 : hat h a with _ | ⟨t, n0, f⟩ | ⟨c', fs⟩ <;> rw [h0] at hnx
  · cases hnx
  · rcases h1 : hat h b with _ | ⟨t', n1, g⟩ | ⟨c', fs⟩ <;> rw [h1] at hnx
    · cases hnx
    · by_cases hb : ¬ (t = t' ∧ tp_in t [0, 1, 6, 7] = true ∧ (0 ≤ n ∧ 0 ≤ sp ∧ 0 ≤ dp ∧ sp + n ≤ n0 ∧ dp + n ≤ n1) ∧ S.length ≤ 12)
      · simp only [if_neg hb] at hnx; cases hnx
      have hb := Classical.not_not.mp hb
      simp only [if_pos hb, tp_go] at hnx
      obtain ⟨rfl, hin, hr, h12⟩ := hb
      cases hnx
      refine ⟨⟨Nat.le_refl _, Nat.le_refl _⟩, fun _ _ ok => ?_⟩
      intro H locs cells slots ls st hK hL hS hl hc1 hs
      rcases st with _ | ⟨v1, _ | ⟨v2, _ | ⟨v3, _ | ⟨v4, _ | ⟨v5, st⟩⟩⟩⟩⟩
      · exact hS.elim
      · exact hS.2.elim
      · exact hS.2.2.elim
      · exact hS.2.2.2.elim
      · exact hS.2.2.2.2.elim
      obtain ⟨⟨nv, rfl, en⟩, ⟨dv, rfl, ed⟩, e3, ⟨sv, rfl, es⟩, e5, hS⟩ := hS
      obtain rfl := e3
      obtain rfl := e5
      have hW := F.2.2.2.2.2.2.1
      have hlen := tp_RS_len _ _ hS
      have hR := F.2.2.2.2.2.2.2.2.2.2
      have ht : t = 0 ∨ t = 1 ∨ t = 6 ∨ t = 7 := by
        have := of_decide_eq_true hin
        simpa using this
      have ht20 : t < 20 := by omega
      obtain ⟨ca, q1, q2, q3, q4, q5, q6, q7⟩ := hK.2.2.2.1 a _ h0
      obtain ⟨cb, u1, u2, u3, u4, u5, u6, u7⟩ := hK.2.2.2.1 b _ h1
      obtain ⟨p1, p2, p3, p4, p5⟩ := q7 ht20
      obtain ⟨w1, w2, w3, w4, w5⟩ := u7 ht20
      have hA := State.isArrayOf_alike hW.alike q2
      have hB := State.isArrayOf_alike hW.alike u2
      obtain ⟨-, k0, hk0, cm0, hkk0⟩ := id hA
      obtain ⟨-, k1, hk1, cm1, hkk1⟩ := id hB
      have hfitv : ∀ i, i < n.toNat → ∃ cv, ca.slots.getD (sv.toNatClampNeg + i) .null = cv ∧ tp_RV (f (sp.toNat + i)) cv ∧ fits (tp_ty t) cv = true := by
        intro i hi
        obtain ⟨cv, z1, z2⟩ := q6 (sp.toNat + i) (by omega)
        refine ⟨cv, ?_, z2, ?_⟩
        · rw [tp_nat es, Array.getD_eq_getD_getElem?, z1]; rfl
        · refine (tp_fits z2 (p5 _ (by omega)) ?_).1
          rcases ht with rfl | rfl | h67
          · exact Or.inl ⟨rfl, rfl⟩
          · exact Or.inr (Or.inl ⟨rfl, rfl⟩)
          · exact Or.inr (Or.inr (Or.inr (Or.inr ⟨tp_tyref h67, by omega⟩)))
      intro T hT Xs
      obtain ⟨vm', X', step⟩ := Xs.arraycopy F.1 F.2.2.2.2.2.1 (tp_word hG hW hlink args) (tp_word hG hW hnat args) (tp_word hG hW hstat args) (tp_word hG hW hini args) (src := a) (dst := b) (cs := ca) (cd := cb) (srcPos := sv) (destPos := dv) (n := nv) (by rw [hT]; exact q1) (by rw [hT]; exact u1)
        (fun k q => by rw [q] at q4; cases q4) (fun k q => by rw [q] at u4; cases u4) q3 u3 hk0 hk1 hkk0 hkk1 (by simp) (by rw [tp_lt0 es]; omega) (by rw [tp_lt0 ed]; omega) (by rw [tp_lt0 en]; omega)
        (by rw [es, en, q5]; omega) (by rw [ed, en, u5]; omega)
        (fun vm₁ hvm i hi => by
          rw [tp_nat en] at hi
          obtain ⟨cv, z1, z2, z3⟩ := hfitv i hi
          rw [z1]
          refine ⟨z3, ?_⟩
          rcases hfv : f (sp.toNat + i) with z | z | _ | z
          · rw [hfv] at z2; obtain ⟨_, rfl, -⟩ := z2; trivial
          · rw [hfv] at z2; obtain ⟨_, rfl, -⟩ := z2; trivial
          · rw [hfv] at z2; obtain rfl := z2; trivial
          · have z2' := z2
            rw [hfv] at z2'
            obtain rfl := z2'
            have h67 : t = 6 ∨ t = 7 := by
              rcases ht with rfl | rfl | h67
              · have := p5 (sp.toNat + i) (by omega); rw [hfv] at this; simp [tp_fit] at this
              · have := p5 (sp.toNat + i) (by omega); rw [hfv] at this; simp [tp_fit] at this
              · exact h67
            obtain ⟨c9, fs9, g1, g2⟩ := hK.1 a t n0 f h0 h67 (sp.toNat + i) (by omega) z hfv
            obtain ⟨cz, o1, o2, o3, o4, o5, o6⟩ := hK.2.2.2.1 z _ g1
            obtain ⟨kA, comp, ty, kcomp, kc, y1, y2, y3, y4, y5, y6⟩ := hG.2.2.2.1 t c9 h67 g2
            obtain ⟨kA', y1', yA⟩ := hW.alike.2.2 _ _ y1
            rw [w3] at hk1
            cases hk1.symm.trans y1'
            rw [yA, y2] at hkk1
            cases hkk1
            obtain ⟨kcomp', y4', -⟩ := hW.alike.2.2 _ _ y4
            obtain ⟨kc', y5', -⟩ := hW.alike.2.2 _ _ y5
            obtain ⟨kcomp2, y42, -⟩ := hvm.2.2 _ _ y4'
            obtain ⟨kc2, y52, -⟩ := hvm.2.2 _ _ y5'
            exact ⟨cz, by show T.heap[z]? = _; rw [hT]; exact o1, (fun k q => by rw [q] at o4; cases o4), ⟨kc2, by rw [o2]; exact y52⟩, ⟨kcomp2, y42⟩, by rw [o2]; exact tp_asg hvm (tp_asg hW.alike y6)⟩)
        (g := F0 m pc ls (.int nv :: .int dv :: .ref b :: .int sv :: .ref a :: st)) rfl (by rw [F.2.2.2.2.1]; exact hL.2.1) (rest := st) rfl (by rw [F.2.1]; exact hd) (by omega) (by show 2 * 0 + _ + (5 + 2 + 11) ≤ _; omega)
      have hce : copied ca cb sv dv nv = cb.storeRun dp.toNat (ca.stretch sp.toNat n.toNat) := by
        show cb.storeRun dv.toNatClampNeg (ca.stretch sv.toNatClampNeg nv.toNatClampNeg) = _
        rw [tp_nat es, tp_nat ed, tp_nat en]
      rw [hce] at X' step
      have hsl : (ca.stretch sp.toNat n.toNat).length = n.toNat := by simp [Cell.stretch]
      obtain ⟨r1, r2, r3, -⟩ := Cell.storeRun_facts cb dp.toNat (ca.stretch sp.toNat n.toNat)
      have hbl : b < H.size := (Array.getElem?_eq_some_iff.mp u1).1
      generalize hcv : cb.storeRun dp.toNat (ca.stretch sp.toNat n.toNat) = cn at X' step r1 r2 r3
      have hget : ∀ j, j < n1 → ∃ cv, cn.slots[j]? = some cv ∧ tp_RV (tp_cpy f g sp.toNat dp.toNat n.toNat j) cv ∧ tp_fit t (tp_cpy f g sp.toNat dp.toNat n.toNat j) = true := by
        intro j hj
        rw [← hcv, Cell.storeRun_get _ _ _ _ (by rw [hsl, u5]; omega), hsl]
        by_cases hjr : dp.toNat ≤ j ∧ j < dp.toNat + n.toNat
        · rw [if_pos hjr]
          obtain ⟨cv, z1, z2, z3⟩ := hfitv (j - dp.toNat) (by omega)
          refine ⟨cv, ?_, by rw [tp_cpy, if_pos hjr]; exact z2, by rw [tp_cpy, if_pos hjr]; exact p5 _ (by omega)⟩
          rw [tp_nat es] at z1
          simp only [Cell.stretch, List.getElem?_map]
          rw [List.getElem?_range (by omega)]
          simp only [Option.map_some]
          rw [z1]
        · rw [if_neg hjr]
          obtain ⟨cv, z1, z2⟩ := u6 j hj
          exact ⟨cv, z1, by rw [tp_cpy, if_neg hjr]; exact z2, by rw [tp_cpy, if_neg hjr]; exact w5 j hj⟩
      have hheap : ((T.setVm vm').setCell b cn).heap = H.setIfInBounds b cn := by rw [← hT]; rfl
      have g1 : (H.setIfInBounds b cn)[b]? = some cn := by simp [Array.getElem?_setIfInBounds, hbl]
      have g3 : ∀ q : Nat, q ≠ b → (H.setIfInBounds b cn)[q]? = H[q]? := fun q hq => by simp [Array.getElem?_setIfInBounds, Ne.symm hq]
      obtain ⟨t9, a1, b1⟩ := ok _ _ cells slots ls st (tp_RH_put hK (H' := H.setIfInBounds b cn) (e' := eA t n1 (tp_cpy f g sp.toNat dp.toNat n.toNat)) ⟨cn, g1, tp_isArr hG p2 (r1.trans w3) (r2.trans w4), by rw [r2]; exact u3, by rw [r2]; exact u4, r3.trans u5, fun j hj => by
          obtain ⟨cv, z1, z2, -⟩ := hget j hj
          exact ⟨cv, z1, z2⟩, fun _ => ⟨w1, w2, r1.trans w3, r2.trans w4, fun j hj => by
          obtain ⟨cv, -, -, z3⟩ := hget j hj
          exact z3⟩⟩ (by simp) g3 w1 (tp_HI_put hK.1 (fun c2 fs2 h2 => by rw [h1] at h2; cases h2) (fun t9 n9 f9 h2 h3 j hj z hz => by
          cases h2
          by_cases hjr : dp.toNat ≤ j ∧ j < dp.toNat + n.toNat
          · rw [tp_cpy, if_pos hjr] at hz
            exact hK.1 a t n0 f h0 h3 _ (by omega) z hz
          · rw [tp_cpy, if_neg hjr] at hz
            exact hK.1 b t n1 g h1 h3 j hj z hz))) hL hS (fun z hz => by
          rcases List.mem_append.mp hz with h9 | h9
          · exact hl z h9
          · obtain ⟨q9, -, hq9⟩ := List.mem_map.mp h9
            rw [← hq9]; exact w1) hc1 hs _ hheap X'
      exact ⟨t9, step t9 a1, b1⟩
    · cases hnx
  · cases hnx
theorem tp_many_at (H : tp_H) (e : Nat → tp_E) (n q : Nat) : ∀ k, hat (hmany H k e n) q = if hnx H ≤ q ∧ q < hnx H + k then some (e (q - hnx H)) else hat H q
  | 0 => by rw [if_neg (by omega)]; rfl
  | k + 1 => by
    show hat (hnew (hmany H k e n) (e k) n) q = _
    rw [hat_new, tp_many_at H e n q k]
    have h1 : hnx (hmany H k e n) = hnx H + k := by
      clear q
      induction k with
      | zero => rfl
      | succ k ih => show hnx (hnew _ _ _) = _; rw [hnx_new, ih]; omega
    rw [h1]
    by_cases a : q = hnx H + k
    · rw [if_pos a, if_pos (by omega), a, Nat.add_sub_cancel_left]
    · rw [if_neg a]
      by_cases b : hnx H ≤ q ∧ q < hnx H + k
      · rw [if_pos b, if_pos (by omega)]
      · rw [if_neg b, if_neg (by omega)]
theorem tp_many_gs (H : tp_H) (e : Nat → tp_E) (n j : Nat) : ∀ k, hgs (hmany H k e n) j = hgs H j
  | 0 => rfl
  | k + 1 => tp_many_gs H e n j k
/-- a grid as the machine makes it -/
theorem tp_RH_grid {X : tp_X} {az : Array Value} (hG : tp_Good X az) {h : tp_H} {H H1 : Heap} {n k : Nat} (hK : tp_RH X h H) (hz : H1.size = H.size + 1 + n) (ho : ∀ q : Nat, q < H.size → H1[q]? = H[q]?)
    (h0 : ∃ co : Cell, H1[H.size]? = some co ∧ co.cls = xA X 4 ∧ co.vm = .none ∧ co.slots.size = n ∧ ∀ j, j < n → co.slots[j]? = some (.ref (H.size + 1 + j))) (h1 : ∀ j, j < n → ∃ ci : Cell, H1[H.size + 1 + j]? = some ci ∧ ci.cls = xA X 0 ∧ ci.vm = .none ∧ ci.slots = Array.replicate k (.int 0)) : tp_RH X (tp_grid h n k) H1 := by
  obtain ⟨k0, k1, k2, k3, k4, k5⟩ := hK
  have hat_g : ∀ q, hat (tp_grid h n k) q = if hnx h + 1 ≤ q ∧ q < hnx h + 1 + n then some (eA 0 k (fun _ => xI 0)) else if q = hnx h then some (eA 4 n (fun j => xR (hnx h + 1 + j))) else hat h q := by
    intro q
    show hat (hmany _ _ _ _) q = _
    rw [tp_many_at, hnx_new, hat_new]
  refine ⟨?_, ?_, fun j => ?_, fun q e hq => ?_, by omega, fun q hq => (ho q (by omega)).trans (k5 q hq)⟩
  · intro q t n9 f hq ht j hj z hz9
    rw [hat_g] at hq
    by_cases a : hnx h + 1 ≤ q ∧ q < hnx h + 1 + n
    · rw [if_pos a] at hq; cases hq; omega
    · rw [if_neg a] at hq
      by_cases b : q = hnx h
      · rw [if_pos b] at hq; cases hq; omega
      · rw [if_neg b] at hq
        obtain ⟨c, fs, g1, g2⟩ := k0 q t n9 f hq ht j hj z hz9
        have g3 := tp_RE_lt (k3 z _ g1)
        exact ⟨c, fs, by rw [hat_g, if_neg (by omega), if_neg (by omega)]; exact g1, g2⟩
  · rw [(tp_grid_le9 h n k), hz, k1]
  · show hgs (hmany _ _ _ _) j = _
    rw [tp_many_gs, hgs_new]; exact k2 j
  · rw [hat_g] at hq
    by_cases a : hnx h + 1 ≤ q ∧ q < hnx h + 1 + n
    · rw [if_pos a] at hq
      cases hq
      obtain ⟨j, rfl⟩ : ∃ j, q = H.size + 1 + j := ⟨q - (H.size + 1), by omega⟩
      obtain ⟨ci, z1, z2, z3, z4⟩ := h1 j (by omega)
      exact ⟨ci, z1, tp_isArr hG (by omega) z2 z3, (fun q => by rw [z3] at q; cases q), by rw [z3]; rfl, by rw [z4]; simp, fun i hi => ⟨.int 0, by rw [z4]; simp [hi], 0, rfl, rfl⟩, fun _ => ⟨by omega, by omega, z2, z3, fun _ _ => rfl⟩⟩
    · rw [if_neg a] at hq
      by_cases b : q = hnx h
      · rw [if_pos b] at hq
        cases hq
        obtain ⟨co, z1, z2, z3, z4, z5⟩ := h0
        rw [b, k1]
        exact ⟨co, z1, tp_isArr hG (by omega) z2 z3, (fun q => by rw [z3] at q; cases q), by rw [z3]; rfl, z4, fun i hi => ⟨_, z5 i hi, rfl⟩, fun _ => ⟨by omega, by omega, z2, z3, fun _ _ => rfl⟩⟩
      · rw [if_neg b] at hq
        have g := k3 q e hq
        exact tp_RE_kept g (ho q (tp_RE_lt g))
end Sims4b
/-! grids of grids: the machine's 'multianewarray' of three dimensions -/
def tp_out3 (c : ClassId) (N h0 K : Nat) : Nat → Cell
  | 0 => { cls := c, slots := Array.replicate N .null, vm := .none }
  | i + 1 => (tp_out3 c N h0 K i).setSlot i (.ref (h0 + 1 + i * (K + 1)))
def tp_fill3 (s : State) (c c2 comp : ClassId) (N K M : Nat) (dv : Value) : Nat → State
  | 0 => s.pushCell (tp_out3 c N s.heap.size K 0)
  | i + 1 => (Jvm.Free.Multi.fill (tp_fill3 s c c2 comp N K M dv i) c2 comp K M dv K).setCell s.heap.size (tp_out3 c N s.heap.size K (i + 1))
theorem tp_out3_facts (c : ClassId) (N h0 K : Nat) : ∀ i, (tp_out3 c N h0 K i).cls = c ∧ (tp_out3 c N h0 K i).vm = .none ∧ (tp_out3 c N h0 K i).slots.size = N
  | 0 => ⟨rfl, rfl, by simp [tp_out3]⟩
  | i + 1 => by
    obtain ⟨a, b, d⟩ := tp_out3_facts c N h0 K i
    exact ⟨by simp [tp_out3, Cell.setSlot, a], by simp [tp_out3, Cell.setSlot, b], by simp [tp_out3, Cell.setSlot, d]⟩
theorem tp_out3_slot (c : ClassId) (N h0 K : Nat) : ∀ i j, j < N → (tp_out3 c N h0 K i).slots[j]? = some (if j < i then .ref (h0 + 1 + j * (K + 1)) else .null)
  | 0, j, h => by simp [tp_out3, h]
  | i + 1, j, h => by
    have ih := tp_out3_slot c N h0 K i j h
    have hs := (tp_out3_facts c N h0 K i).2.2
    show ((tp_out3 c N h0 K i).setSlot i (.ref (h0 + 1 + i * (K + 1)))).slots[j]? = _
    simp only [Cell.setSlot, Array.getElem?_setIfInBounds]
    by_cases e : i = j
    · subst e; simp [hs, h]
    · rw [if_neg e, ih]
      by_cases hj : j < i
      · rw [if_pos hj, if_pos (by omega)]
      · rw [if_neg hj, if_neg (by omega)]
theorem tp_fill3_facts (s : State) (c c2 comp : ClassId) (N K M : Nat) (dv : Value) : ∀ i, (tp_fill3 s c c2 comp N K M dv i).heap.size = s.heap.size + 1 + i * (K + 1) ∧ (tp_fill3 s c c2 comp N K M dv i).heap[s.heap.size]? = some (tp_out3 c N s.heap.size K i) ∧
    (tp_fill3 s c c2 comp N K M dv i).vm = s.vm ∧ (tp_fill3 s c c2 comp N K M dv i).slotsUsed = s.slotsUsed + N + i * (K + K * M)
  | 0 => ⟨by simp [tp_fill3], by simp [tp_fill3], rfl, by simp [tp_fill3, tp_out3]⟩
  | i + 1 => by
    obtain ⟨a, b, d, u⟩ := tp_fill3_facts s c c2 comp N K M dv i
    obtain ⟨fa, -, fd, fu⟩ := Jvm.Free.Multi.fill_facts (tp_fill3 s c c2 comp N K M dv i) c2 comp K M dv K
    have hlt : s.heap.size < (tp_fill3 s c c2 comp N K M dv i).heap.size := by omega
    have hb' := (Jvm.Free.Multi.fill_old (tp_fill3 s c c2 comp N K M dv i) c2 comp K M dv hlt K).trans b
    have e1 : (i + 1) * (K + 1) = i * (K + 1) + (K + 1) := Nat.succ_mul _ _
    have e2 : (i + 1) * (K + K * M) = i * (K + K * M) + (K + K * M) := Nat.succ_mul _ _
    refine ⟨?_, State.heap_setCell_self hb', ?_, ?_⟩
    · show ((Jvm.Free.Multi.fill _ c2 comp K M dv K).setCell _ _).heap.size = _
      simp only [State.setCell, Array.size_setIfInBounds]
      rw [fa, a]; omega
    · show ((Jvm.Free.Multi.fill _ c2 comp K M dv K).setCell _ _).vm = _
      simp only [State.setCell]
      rw [fd, d]
    · show ((Jvm.Free.Multi.fill _ c2 comp K M dv K).setCell _ _).slotsUsed = _
      simp only [State.setCell]
      rw [fu, u]; omega
theorem tp_fill3_setTop (s : State) (f : JFrame) (c c2 comp : ClassId) (N K M : Nat) (dv : Value) : ∀ i, tp_fill3 (s.setTop f) c c2 comp N K M dv i = (tp_fill3 s c c2 comp N K M dv i).setTop f
  | 0 => rfl
  | i + 1 => by simp only [tp_fill3, tp_fill3_setTop s f c c2 comp N K M dv i, Jvm.Free.Multi.fill_setTop, State.heap_setTop, State.setCell_setTop]
theorem tp_make3 {E : CtlPost} {e : Env} {d : Bool} {acts : List Action} {s : State} {c c2 comp cc : ClassId} {k k2 kc : Class} {t0 t2 type : FieldType} {n u m : Int32} (hk : s.vm.classes[c]? = some k) (hkind : k.kind = .array c2 t0) (href : t0.isReference = true)
    (hk2 : s.vm.classes[c2]? = some k2) (hkind2 : k2.kind = .array comp t2) (href2 : t2.isReference = true)
    (hkc : s.vm.classes[comp]? = some kc) (hkindc : kc.kind = .array cc type) (hn : ¬ n < 0) (hu : ¬ u < 0) (hm : ¬ m < 0)
    (hl0 : ¬ n.toNatClampNeg > e.platform.arrayLengthLimit) (hh0 : ¬ n.toNatClampNeg * componentBytes t0 > e.platform.maxHeapBytes)
    (hl1 : ¬ u.toNatClampNeg > e.platform.arrayLengthLimit) (hh1 : ¬ u.toNatClampNeg * componentBytes t2 > e.platform.maxHeapBytes)
    (hl2 : ¬ m.toNatClampNeg > e.platform.arrayLengthLimit) (hh2 : ¬ m.toNatClampNeg * componentBytes type > e.platform.maxHeapBytes)
    (hdf : fits type (defaultValue type) = true) (hdd : (defaultValue type).isDefault = true)
    (hc : s.heap.size + 1 + n.toNatClampNeg * (u.toNatClampNeg + 1) ≤ e.platform.maxCells) (hs : s.slotsUsed + n.toNatClampNeg + n.toNatClampNeg * (u.toNatClampNeg + u.toNatClampNeg * m.toNatClampNeg) ≤ e.platform.maxSlots)
    {Q : Addr → Pre} (hq : ∀ d' acts', Q s.heap.size d' acts' (tp_fill3 s c c2 comp n.toNatClampNeg u.toNatClampNeg m.toNatClampNeg (defaultValue type) n.toNatClampNeg)) :
    wp (multianewarray.make c [n, u, m]) Q E e d acts s := by
  have hfind : ([u, m].find? (· < 0)) = none := by simp [hm, hu]
  rw [multianewarray.make]
  simp only [wp_bind', W.ite, hn, if_false, wp_pure', W.theClass, hk, hkind, Option.some.injEq, exists_eq_left']
  refine Jvm.Free.Multi.wp_newArray hk hkind hl0 hh0 (Jvm.Free.Multi.refFits href _ (Or.inl rfl)) rfl (by omega) (by have := Nat.zero_le (n.toNatClampNeg * (u.toNatClampNeg + u.toNatClampNeg * m.toNatClampNeg)); omega) ?_
  simp only [hfind]
  rw [ite_self, wp_bind', Std.Legacy.Range.forIn_eq_forIn_range']
  have hsz : ([:n.toNatClampNeg] : Std.Legacy.Range).size = n.toNatClampNeg := by simp [Std.Legacy.Range.size]
  rw [hsz]
  show wp (forIn (List.range' 0 n.toNatClampNeg 1) PUnit.unit _) _ E e d acts _
  refine wp_forIn_inv (fun rest s' => ∃ i, i ≤ n.toNatClampNeg ∧ rest = List.range' i (n.toNatClampNeg - i) ∧ s' = tp_fill3 s c c2 comp n.toNatClampNeg u.toNatClampNeg m.toNatClampNeg (defaultValue type) i) _ _ ⟨0, Nat.zero_le _, rfl, rfl⟩ ?_ ?_
  · rintro x rest s' d' acts' Q' ⟨i, hi, hl, rfl⟩ hnext
    have hlt : i < n.toNatClampNeg := by
      rcases Nat.lt_or_ge i n.toNatClampNeg with h | h
      · exact h
      · rw [show n.toNatClampNeg - i = 0 from by omega] at hl; simp at hl
    obtain ⟨rfl, hrest⟩ : x = i ∧ rest = List.range' (i + 1) (n.toNatClampNeg - (i + 1)) := by
      rw [show n.toNatClampNeg - i = (n.toNatClampNeg - (i + 1)) + 1 from by omega, List.range'_succ] at hl
      exact ⟨(List.cons.inj hl).1, (List.cons.inj hl).2⟩
    obtain ⟨f1, f2, f3, f4⟩ := tp_fill3_facts s c c2 comp n.toNatClampNeg u.toNatClampNeg m.toNatClampNeg (defaultValue type) x
    obtain ⟨o1, o2, o3⟩ := tp_out3_facts c n.toNatClampNeg s.heap.size u.toNatClampNeg x
    have hmul : x * (u.toNatClampNeg + 1) + (u.toNatClampNeg + 1) ≤ n.toNatClampNeg * (u.toNatClampNeg + 1) := by
      have := Nat.mul_le_mul_right (u.toNatClampNeg + 1) (show x + 1 ≤ n.toNatClampNeg from hlt)
      rw [Nat.succ_mul] at this; exact this
    have hmul2 : x * (u.toNatClampNeg + u.toNatClampNeg * m.toNatClampNeg) + (u.toNatClampNeg + u.toNatClampNeg * m.toNatClampNeg) ≤ n.toNatClampNeg * (u.toNatClampNeg + u.toNatClampNeg * m.toNatClampNeg) := by
      have := Nat.mul_le_mul_right (u.toNatClampNeg + u.toNatClampNeg * m.toNatClampNeg) (show x + 1 ≤ n.toNatClampNeg from hlt)
      rw [Nat.succ_mul] at this; exact this
    simp only [wp_bind']
    refine Jvm.Free.Multi.wp_make2 (by rw [f3]; exact hk2) hkind2 href2 (by rw [f3]; exact hkc) hkindc hu hm hl1 hh1 hl2 hh2 hdf hdd (by rw [f1]; omega) (by rw [f4]; omega) (fun d2 acts2 => ?_)
    have hlt0 : s.heap.size < (tp_fill3 s c c2 comp n.toNatClampNeg u.toNatClampNeg m.toNatClampNeg (defaultValue type) x).heap.size := by rw [f1]; omega
    have hf := Jvm.Free.Multi.fill_facts (tp_fill3 s c c2 comp n.toNatClampNeg u.toNatClampNeg m.toNatClampNeg (defaultValue type) x) c2 comp u.toNatClampNeg m.toNatClampNeg (defaultValue type) u.toNatClampNeg
    simp only [wp_bind', W.writeLoc, wp_pure']
    refine ⟨tp_out3 c n.toNatClampNeg s.heap.size u.toNatClampNeg x, (Jvm.Free.Multi.fill_old _ c2 comp _ _ _ hlt0 _).trans f2, by rw [o2]; simp, by rw [o3]; exact hlt, ?_, hnext _ _ _ ⟨x + 1, hlt, hrest, ?_⟩⟩
    · rw [o1, o2]
      simp [State.fitsSlot, State.slotType?, hf.2.2.1, f3, hk, hkind, Jvm.Free.Multi.refFits href _ (Or.inr ⟨_, rfl⟩)]
    · rw [f1]; rfl
  · rintro s' d' acts' ⟨i, hi, hl, rfl⟩
    have hiN : i = n.toNatClampNeg := by
      rcases Nat.lt_or_ge i n.toNatClampNeg with h | h
      · rw [show n.toNatClampNeg - i = (n.toNatClampNeg - (i + 1)) + 1 from by omega, List.range'_succ] at hl; cases hl
      · omega
    subst hiN
    simp only [wp_pure']
    exact hq _ _
section New3
variable {p : Program} {l : Launch} {e : Env} {R : Room} {s : State} {m : MethodId} {args : Array Value} {below : List Frame} {meth : Method} {c : Code} {T : State} {locs : List Loc} {cells slots : Nat}
theorem tp_filled3 (X : Stand p l e R s m args below meth c T locs cells slots) (cA c2 comp : ClassId) (N K M : Nat) (dv : Value) :
    ∀ i, Stand p l e R s m args below meth c (tp_fill3 T cA c2 comp N K M dv i) locs (cells + 1 + i * (K + 1)) (slots + N + i * (K + K * M))
  | 0 => by
    have h := X.pushed (tp_out3 cA N T.heap.size K 0)
    rw [(tp_out3_facts cA N T.heap.size K 0).2.2] at h
    simpa [tp_fill3] using h
  | i + 1 => by
    have Xi := tp_filled3 X cA c2 comp N K M dv i
    obtain ⟨f1, f2, f3, f4⟩ := tp_fill3_facts T cA c2 comp N K M dv i
    have hlt0 : T.heap.size < (tp_fill3 T cA c2 comp N K M dv i).heap.size := by rw [f1]; omega
    have X2 := (Xi.filled c2 comp K M dv K).dropFresh (fun x hx => by
      obtain ⟨j, -, rfl⟩ := List.mem_map.mp hx
      exact Xi.heapGrown)
    have hcell := (Jvm.Free.Multi.fill_old (tp_fill3 T cA c2 comp N K M dv i) c2 comp K M dv hlt0 K).trans f2
    have X3 := (X2.stored hcell i (.ref (T.heap.size + 1 + i * (K + 1)))).dropFresh (fun x hx => by
      rw [List.mem_singleton.mp hx]
      exact X.heapGrown)
    have e1 : cells + 1 + (i + 1) * (K + 1) = cells + 1 + i * (K + 1) + 1 + K := by rw [Nat.succ_mul]; omega
    have e2 : slots + N + (i + 1) * (K + K * M) = slots + N + i * (K + K * M) + K + K * M := by rw [Nat.succ_mul]; omega
    rw [e1, e2]
    exact X3
theorem tp_new3F (X : Stand p l e R s m args below meth c T locs cells slots) (hexec : p.tables.exec = Jvm.exec) {own : String} {index : Nat}
    (hown : s.vm.findClass own = some m.cls) (hclink : (Cond.classLink own index ("[" ++ (FieldType.array (.array .int)).toString)).before args s = true)
    (hover : (Cond.arrayOver (.array .int)).before args s = true) (hover2 : (Cond.arrayOver (.array (.array .int))).before args s = true) (harr : (Cond.arrayClass .int).before args s = true)
    {g : JFrame} (hg : g.method = m) (hdg : decode c.code g.pc = .ok (.multianewarray index 3, 4)) {n u k : Int32} {rest : List Value} (hstack : g.stack = .int k :: .int u :: .int n :: rest)
    (hn : ¬ n < 0) (hu : ¬ u < 0) (hk : ¬ k < 0) (hb1 : n.toNatClampNeg ≤ 1000) (hb2 : u.toNatClampNeg ≤ 1000) (hb3 : k.toNatClampNeg ≤ 1000)
    (hcells : cells + (1 + n.toNatClampNeg * (u.toNatClampNeg + 1)) ≤ R.cells) (hslots : slots + (n.toNatClampNeg + n.toNatClampNeg * (u.toNatClampNeg + u.toNatClampNeg * k.toNatClampNeg)) ≤ R.slots) :
    ∃ (vm₁ : Vm) (cA c2 comp : ClassId), s.WarmedH vm₁ ∧ s.vm.findClass ("[" ++ (FieldType.array (.array .int)).toString) = some cA ∧ s.vm.findClass (FieldType.array (.array .int)).toString = some c2 ∧ s.vm.findClass (FieldType.array .int).toString = some comp ∧
      Stand p l e R s m args below meth c (tp_fill3 (T.setVm vm₁) cA c2 comp n.toNatClampNeg u.toNatClampNeg k.toNatClampNeg (.int 0) n.toNatClampNeg) locs (cells + 1 + n.toNatClampNeg * (u.toNatClampNeg + 1)) (slots + n.toNatClampNeg + n.toNatClampNeg * (u.toNatClampNeg + u.toNatClampNeg * k.toNatClampNeg)) ∧
      ∀ target, Steps p.tables e below ((tp_fill3 (T.setVm vm₁) cA c2 comp n.toNatClampNeg u.toNatClampNeg k.toNatClampNeg (.int 0) n.toNatClampNeg).setTop { g with pc := g.pc + 4, stack := .ref T.heap.size :: rest }) target →
        Steps p.tables e below (T.setTop g) target := by
  subst hg
  have hpl : e.platform.magicAccessors = ({} : Platform).magicAccessors := by rw [X.admits.platform]
  obtain ⟨c2, cA, kA, hc2, hkA, hkindA, hnameA⟩ := Cond.arrayOver_specA hover2
  obtain ⟨comp, c2', k2, hcomp, hk2, hkind2, hname2⟩ := Cond.arrayOver_specA hover
  obtain ⟨comp', kC, cc, hcomp', hkC, hkindC⟩ := Cond.arrayClass_spec harr
  have ecomp : comp' = comp := Option.some.inj (hcomp'.symm.trans hcomp)
  subst ecomp
  have ec2 : c2' = c2 := Option.some.inj (hname2.symm.trans hc2)
  subst ec2
  obtain ⟨c0, hfc0, hcl⟩ := Cond.classLink_spec hown hclink e.platform hpl
  cases hnameA.symm.trans hfc0
  obtain ⟨hg₁, hwarm₁, hready₁⟩ := State.classEntry (e := e) X.warmed hcl
  generalize T.vm.noted g.method.cls index (.cls cA) = vm₁ at hg₁ hwarm₁ hready₁
  have hal : s.vm.Alike vm₁ := hwarm₁.alike
  obtain ⟨kA₁, hkA₁, heA⟩ := hal.2.2 _ _ hkA
  obtain ⟨k2₁, hk2₁, he2⟩ := hal.2.2 _ _ hk2
  obtain ⟨kC₁, hkC₁, heC⟩ := hal.2.2 _ _ hkC
  have hkindA₁ : kA₁.kind = .array c2' (.array (.array .int)) := by rw [heA]; exact hkindA
  have hkind2₁ : k2₁.kind = .array comp' (.array .int) := by rw [he2]; exact hkind2
  have hkindC₁ : kC₁.kind = .array cc .int := by rw [heC]; exact hkindC
  have X₁ := X.noted hwarm₁
  obtain ⟨hr1, hr2⟩ := X.roomAbove hcells hslots
  refine ⟨vm₁, cA, c2', comp', hwarm₁, hnameA, hc2, hcomp, tp_filled3 X₁ cA c2' comp' _ _ _ _ _, fun target hrest => ?_⟩
  have hl (x : Int32) (hx : x.toNatClampNeg ≤ 1000) : ¬ x.toNatClampNeg > e.platform.arrayLengthLimit := by rw [Launch.admits_arrayLengthLimit X.admits]; omega
  have hh (x : Int32) (hx : x.toNatClampNeg ≤ 1000) : ¬ x.toNatClampNeg * 4 > e.platform.maxHeapBytes := by
    rw [Launch.admits_maxHeapBytes X.admits]; omega
  jvm_step X.here [hexec, hdg]
  simp only [multianewarray.sem, wp_bind', W.resolveClassAt_links (State.method?_setTop g X.here.top) hg₁]
  rw [W.popN, if_neg (by decide)]
  refine ⟨g, State.topJava?_setTop' (s := T.setVm vm₁) g X.here.top, [.int n, .int u, .int k], rest, rfl, hstack, ?_⟩
  simp only [List.mapM_cons, List.mapM_nil, wp_bind', wp_pure']
  refine tp_make3 (k := kA₁) (k2 := k2₁) (kc := kC₁) (c2 := c2') (comp := comp') (cc := cc) (t0 := .array (.array .int)) (t2 := .array .int) (type := .int) hkA₁ hkindA₁ rfl hk2₁ hkind2₁ rfl hkC₁ hkindC₁ hn hu hk (hl n hb1) (hh n hb1) (hl u hb2) (hh u hb2) (hl k hb3) (hh k hb3) rfl rfl (by show T.heap.size + 1 + _ ≤ _; omega) (by show T.slotsUsed + _ + _ ≤ _; omega) (fun d' acts' => ?_)
  have XF := tp_filled3 X₁ cA c2' comp' n.toNatClampNeg u.toNatClampNeg k.toNatClampNeg (defaultValue .int) n.toNatClampNeg
  have eS : ((T.setTop g).setVm vm₁).setTop { g with stack := rest } = (T.setVm vm₁).setTop { g with stack := rest } := by
    show ((T.setVm vm₁).setTop g).setTop _ = _
    rw [State.setTop_setTop]
  rw [eS, tp_fill3_setTop]
  simp only [wp_bind', W.mark, W.pushRef, State.topJava?_setTop' _ XF.here.top, Option.some.injEq, exists_eq_left', State.setTop_setTop, State.heap_setTop]
  intro acts
  simp [jvm, XF.here.top]
  exact hrest
end New3
def tp_cubeK (h : tp_H) (n k l i : Nat) : tp_H := (List.range i).foldl (fun H _ => tp_grid H k l) (hnew h (eA 5 n (fun j => xR (hnx h + 1 + j * (k + 1)))) n)
theorem tp_cubeK_s (h : tp_H) (n k l i : Nat) : tp_cubeK h n k l (i + 1) = tp_grid (tp_cubeK h n k l i) k l := by
  simp [tp_cubeK, List.range_succ]
theorem tp_cubeK_le (h : tp_H) (n k l : Nat) : ∀ i, hnx (tp_cubeK h n k l i) = hnx h + 1 + i * (k + 1) ∧ hsl (tp_cubeK h n k l i) = hsl h + n + i * (k + k * l)
  | 0 => by
    rw [Nat.zero_mul, Nat.zero_mul]
    exact ⟨rfl, rfl⟩
  | i + 1 => by
    obtain ⟨a, b⟩ := tp_cubeK_le h n k l i
    rw [tp_cubeK_s, tp_grid_le9, tp_grid_le8, a, b, Nat.succ_mul, Nat.succ_mul]
    omega
theorem tp_RH_cube {X : tp_X} {az : Array Value} (hG : tp_Good X az) {h : tp_H} {T : State} {n k l : Nat} (hK : tp_RH X h T.heap) : ∀ i, i ≤ n → tp_RH X (tp_cubeK h n k l i) ((tp_fill3 T (xA X 5) (xA X 4) (xA X 0) n k l (.int 0) i).heap.setIfInBounds T.heap.size (tp_out3 (xA X 5) n T.heap.size k n))
  | 0, _ => by
    obtain ⟨o1, o2, o3⟩ := tp_out3_facts (xA X 5) n T.heap.size k n
    obtain ⟨f1, f2, f3, f4⟩ := tp_fill3_facts T (xA X 5) (xA X 4) (xA X 0) n k l (.int 0) 0
    have hlt : T.heap.size < (tp_fill3 T (xA X 5) (xA X 4) (xA X 0) n k l (.int 0) 0).heap.size := by rw [f1]; omega
    have e1 : ((tp_fill3 T (xA X 5) (xA X 4) (xA X 0) n k l (.int 0) 0).heap.setIfInBounds T.heap.size (tp_out3 (xA X 5) n T.heap.size k n))[T.heap.size]? = some (tp_out3 (xA X 5) n T.heap.size k n) := by simp [Array.getElem?_setIfInBounds, hlt]
    refine tp_RH_new hK ⟨_, e1, tp_isArr hG (by omega) o1 o2, (fun q => by rw [o2] at q; cases q), by rw [o2]; rfl, o3, fun j hj => ⟨_, tp_out3_slot _ _ _ _ _ j hj, ?_⟩, fun _ => ⟨hK.2.2.2.2.1, by omega, o1, o2, fun _ _ => rfl⟩⟩ (by simp [f1]) (fun q hq => ?_) (tp_HI_new hK (fun t9 n9 f9 h9 h8 j hj z => by cases h9; omega))
    · rw [if_pos hj, hK.2.1]; rfl
    · rw [Array.getElem?_setIfInBounds, if_neg (by omega)]
      exact State.heap_pushCell_of_lt _ _ hq
  | i + 1, hi => by
    have ih := tp_RH_cube hG hK (k := k) (l := l) (n := n) i (by omega)
    obtain ⟨f1, f2, f3, f4⟩ := tp_fill3_facts T (xA X 5) (xA X 4) (xA X 0) n k l (.int 0) i
    obtain ⟨F1, F2, -, -⟩ := tp_fill3_facts T (xA X 5) (xA X 4) (xA X 0) n k l (.int 0) (i + 1)
    have hlt : T.heap.size < (tp_fill3 T (xA X 5) (xA X 4) (xA X 0) n k l (.int 0) i).heap.size := by rw [f1]; omega
    obtain ⟨g1, g2, g3, g4⟩ := Jvm.Free.Multi.fill_facts (tp_fill3 T (xA X 5) (xA X 4) (xA X 0) n k l (.int 0) i) (xA X 4) (xA X 0) k l (.int 0) k
    obtain ⟨o1, o2, o3⟩ := Jvm.Free.Multi.outerC_facts (xA X 4) k (tp_fill3 T (xA X 5) (xA X 4) (xA X 0) n k l (.int 0) i).heap.size k
    have hg (q : Nat) (hq : q ≠ T.heap.size) : ((tp_fill3 T (xA X 5) (xA X 4) (xA X 0) n k l (.int 0) (i + 1)).heap.setIfInBounds T.heap.size (tp_out3 (xA X 5) n T.heap.size k n))[q]? = (Jvm.Free.Multi.fill (tp_fill3 T (xA X 5) (xA X 4) (xA X 0) n k l (.int 0) i) (xA X 4) (xA X 0) k l (.int 0) k).heap[q]? := by
      rw [Array.getElem?_setIfInBounds, if_neg (fun z => hq z.symm)]
      exact State.heap_setCell_other (fun z => hq z.symm)
    rw [tp_cubeK_s]
    have hsz : ((tp_fill3 T (xA X 5) (xA X 4) (xA X 0) n k l (.int 0) i).heap.setIfInBounds T.heap.size (tp_out3 (xA X 5) n T.heap.size k n)).size = (tp_fill3 T (xA X 5) (xA X 4) (xA X 0) n k l (.int 0) i).heap.size := Array.size_setIfInBounds
    refine tp_RH_grid hG ih (by rw [hsz, Array.size_setIfInBounds, F1, f1, Nat.succ_mul]; omega) (fun q hq => ?_) ⟨_, by rw [hsz, hg _ (by omega)]; exact g2, o1, o2, o3, fun j hj => by
      rw [hsz, Jvm.Free.Multi.outerC_slot _ _ _ _ j hj, if_pos hj]⟩ (fun j hj => ⟨_, by rw [hsz, hg _ (by omega)]; exact Jvm.Free.Multi.fill_inner _ _ _ _ _ _ _ j hj, rfl, rfl, rfl⟩)
    rw [hsz] at hq
    by_cases z : q = T.heap.size
    · subst z
      rw [Array.getElem?_setIfInBounds, if_pos rfl, if_pos (by rw [F1, Nat.succ_mul]; omega), Array.getElem?_setIfInBounds, if_pos rfl, if_pos hlt]
    · rw [hg q z, Array.getElem?_setIfInBounds, if_neg (fun y => z y.symm)]
      exact Jvm.Free.Multi.fill_old _ _ _ _ _ _ hq _
section Sims4b
variable {X : tp_X} {az : Array Value} {own : MethodName} {cc : ByteArray} {ret : Option FieldType} {nL pc : Nat}
theorem sim_new2 (hG : tp_Good X az) {index : Nat} (hd : decode cc pc = .ok (.multianewarray index 2, 4)) (hlink : Cond.classLink own.cls index "[[I" ∈ lw_all) (hover : Cond.arrayOver (.array .int) ∈ lw_tbl) (harr : Cond.arrayClass .int ∈ lw_all) : tp_Sim X own cc ret nL pc 4 (o_new2 (.multianewarray index 2)) := by
  intro p l e R s m args below meth c Q a0 b0 F L S h nx hnx
  rcases S with _ | ⟨y | y, _ | ⟨x | x, S⟩⟩ <;> try (simp [o_new2] at hnx; done)
  by_cases hb : ¬ (0 ≤ x ∧ x ≤ 1000 ∧ 0 ≤ y ∧ y ≤ 1000)
  · simp only [o_new2, if_neg hb] at hnx; cases hnx
  have hb := Classical.not_not.mp hb
  simp only [o_new2, if_pos hb, tp_go] at hnx
  cases hnx
  have hg1 := tp_grid_le9 h x.toNat y.toNat
  have hg2 := tp_grid_le8 h x.toNat y.toNat
  refine ⟨⟨by omega, by omega⟩, fun hz1 hz2 ok => ?_⟩
  intro H locs cells slots ls st hK hL hS hl hc1 hs
  rcases st with _ | ⟨v1, _ | ⟨v2, st⟩⟩
  · exact hS.elim
  · exact hS.2.elim
  obtain ⟨⟨yv, rfl, ey⟩, ⟨xv, rfl, ex⟩, hS⟩ := hS
  have hW := F.2.2.2.2.2.2.1
  intro T hT Xs
  have hk1 := hK.2.1
  obtain ⟨vm₁, cA, comp, hW1, hfA, hfC, hO, hI, X1, step⟩ := Xs.multianewarray2F F.1 (own := own.cls) (index := index) (ty := .int) F.2.2.2.2.2.1 (tp_word hG hW hlink args) (va_ao hW (hG.1 _ hover)) (tp_word hG hW harr args)
    (g := F0 m pc ls (.int yv :: .int xv :: st)) rfl (by rw [F.2.1]; exact hd) (n := xv) (k := yv) (rest := st) rfl (by rw [tp_lt0 ex]; omega) (by rw [tp_lt0 ey]; omega) (by rw [tp_nat ex]; omega) (by rw [tp_nat ey]; show y.toNat * 4 ≤ _; omega) (by rw [tp_nat ey]; omega) rfl rfl (by rw [tp_nat ex]; omega) (by rw [tp_nat ex, tp_nat ey]; omega)
  have e4 : cA = xA X 4 := by
    have h9 : s.vm.findClass ("[" ++ (FieldType.array .int).toString) = some (xA X 4) := (hG.2.2.1 4 (by omega)).2.moved hW.alike
    exact Option.some.inj (hfA.symm.trans h9)
  have e0 : comp = xA X 0 := by
    have h9 : s.vm.findClass ("[" ++ FieldType.int.toString) = some (xA X 0) := (hG.2.2.1 0 (by omega)).2.moved hW.alike
    exact Option.some.inj (hfC.symm.trans h9)
  subst e4; subst e0
  rw [tp_nat ex, tp_nat ey] at X1 step
  obtain ⟨f1, f2, f3, f4⟩ := Jvm.Free.Multi.fill_facts (T.setVm vm₁) (xA X 4) (xA X 0) x.toNat y.toNat (defaultValue .int) x.toNat
  obtain ⟨o1, o2, o3⟩ := Jvm.Free.Multi.outerC_facts (xA X 4) x.toNat (T.setVm vm₁).heap.size x.toNat
  have hsz : (T.setVm vm₁).heap.size = H.size := by show T.heap.size = _; rw [hT]
  have hheap := tp_RH_grid hG (H1 := (Jvm.Free.Multi.fill (T.setVm vm₁) (xA X 4) (xA X 0) x.toNat y.toNat (defaultValue .int) x.toNat).heap) (n := x.toNat) (k := y.toNat) hK (by rw [f1, hsz]) (fun q hq => by
      rw [Jvm.Free.Multi.fill_old (T.setVm vm₁) _ _ _ _ _ (by rw [hsz]; exact hq)]
      show T.heap[q]? = _; rw [hT]) ⟨_, by rw [← hsz]; exact f2, o1, o2, o3, fun j hj => by
      rw [← hsz, Jvm.Free.Multi.outerC_slot _ _ _ _ j hj, if_pos hj]⟩ (fun j hj => ⟨_, by rw [← hsz]; exact Jvm.Free.Multi.fill_inner (T.setVm vm₁) _ _ _ _ _ _ j hj, rfl, rfl, rfl⟩)
  obtain ⟨t9, a1, b1⟩ := ok _ locs _ _ ls (.ref H.size :: st) hheap hL ⟨by rw [hk1]; rfl, hS⟩ hl (by rw [hg1]; omega) (by rw [hg2]; omega) _ rfl X1
  refine ⟨t9, step t9 ?_, b1⟩
  rw [hT]
  exact a1
theorem sim_new3 (hG : tp_Good X az) {index : Nat} (hd : decode cc pc = .ok (.multianewarray index 3, 4)) (hlink : Cond.classLink own.cls index "[[[I" ∈ lw_all) (hover : Cond.arrayOver (.array .int) ∈ lw_tbl) (hover2 : Cond.arrayOver (.array (.array .int)) ∈ lw_tbl) (harr : Cond.arrayClass .int ∈ lw_all) : tp_Sim X own cc ret nL pc 4 (o_new3 (.multianewarray index 3)) := by
  intro p l e R s m args below meth c Q a0 b0 F L S h nx hnx
  rcases S with _ | ⟨z | z, _ | ⟨y | y, _ | ⟨x | x, S⟩⟩⟩ <;> try (simp [o_new3] at hnx; done)
  by_cases hb : ¬ (0 ≤ x ∧ x ≤ 1000 ∧ 0 ≤ y ∧ y ≤ 1000 ∧ 0 ≤ z ∧ z ≤ 1000)
  · simp only [o_new3, if_neg hb] at hnx; cases hnx
  have hb := Classical.not_not.mp hb
  simp only [o_new3, if_pos hb, tp_go] at hnx
  cases hnx
  obtain ⟨hg1, hg2⟩ := tp_cubeK_le h x.toNat y.toNat z.toNat x.toNat
  have hcu : tp_cube h x.toNat y.toNat z.toNat = tp_cubeK h x.toNat y.toNat z.toNat x.toNat := rfl
  rw [hcu]
  refine ⟨⟨by omega, by omega⟩, fun hz1 hz2 ok => ?_⟩
  intro H locs cells slots ls st hK hL hS hl hc1 hs
  rcases st with _ | ⟨v1, _ | ⟨v2, _ | ⟨v3, st⟩⟩⟩
  · exact hS.elim
  · exact hS.2.elim
  · exact hS.2.2.elim
  obtain ⟨⟨zv, rfl, ez⟩, ⟨yv, rfl, ey⟩, ⟨xv, rfl, ex⟩, hS⟩ := hS
  have hW := F.2.2.2.2.2.2.1
  intro T hT Xs
  have hk1 := hK.2.1
  obtain ⟨vm₁, cA, c2, comp, hW1, hfA, hfB, hfC, X1, step⟩ := tp_new3F Xs F.1 (own := own.cls) (index := index) F.2.2.2.2.2.1 (tp_word hG hW hlink args) (va_ao hW (hG.1 _ hover)) (va_ao hW (hG.1 _ hover2)) (tp_word hG hW harr args)
    (g := F0 m pc ls (.int zv :: .int yv :: .int xv :: st)) rfl (by rw [F.2.1]; exact hd) (n := xv) (u := yv) (k := zv) (rest := st) rfl (by rw [tp_lt0 ex]; omega) (by rw [tp_lt0 ey]; omega) (by rw [tp_lt0 ez]; omega) (by rw [tp_nat ex]; omega) (by rw [tp_nat ey]; omega) (by rw [tp_nat ez]; omega) (by rw [tp_nat ex, tp_nat ey]; omega) (by rw [tp_nat ex, tp_nat ey, tp_nat ez]; omega)
  have e5 : cA = xA X 5 := by
    have h9 : s.vm.findClass ("[" ++ (FieldType.array (.array .int)).toString) = some (xA X 5) := (hG.2.2.1 5 (by omega)).2.moved hW.alike
    exact Option.some.inj (hfA.symm.trans h9)
  have e4 : c2 = xA X 4 := by
    have h9 : s.vm.findClass ("[" ++ (FieldType.array .int).toString) = some (xA X 4) := (hG.2.2.1 4 (by omega)).2.moved hW.alike
    exact Option.some.inj (hfB.symm.trans h9)
  have e0 : comp = xA X 0 := by
    have h9 : s.vm.findClass ("[" ++ FieldType.int.toString) = some (xA X 0) := (hG.2.2.1 0 (by omega)).2.moved hW.alike
    exact Option.some.inj (hfC.symm.trans h9)
  subst e5; subst e4; subst e0
  rw [tp_nat ex, tp_nat ey, tp_nat ez] at X1 step
  have hK' : tp_RH X h (T.setVm vm₁).heap := by show tp_RH X h T.heap; rw [hT]; exact hK
  have hheap := tp_RH_cube hG hK' (n := x.toNat) (k := y.toNat) (l := z.toNat) x.toNat (Nat.le_refl _)
  obtain ⟨f1, f2, f3, f4⟩ := tp_fill3_facts (T.setVm vm₁) (xA X 5) (xA X 4) (xA X 0) x.toNat y.toNat z.toNat (.int 0) x.toNat
  have hself : (tp_fill3 (T.setVm vm₁) (xA X 5) (xA X 4) (xA X 0) x.toNat y.toNat z.toNat (.int 0) x.toNat).heap.setIfInBounds (T.setVm vm₁).heap.size (tp_out3 (xA X 5) x.toNat (T.setVm vm₁).heap.size y.toNat x.toNat) = (tp_fill3 (T.setVm vm₁) (xA X 5) (xA X 4) (xA X 0) x.toNat y.toNat z.toNat (.int 0) x.toNat).heap := by
    apply Array.ext_getElem?
    intro q
    rw [Array.getElem?_setIfInBounds]
    by_cases hq : (T.setVm vm₁).heap.size = q
    · subst hq
      rw [if_pos rfl, if_pos (by rw [f1]; omega), f2]
    · rw [if_neg hq]
  rw [hself] at hheap
  obtain ⟨t9, a1, b1⟩ := ok _ locs _ _ ls (.ref H.size :: st) hheap hL ⟨by rw [hk1]; rfl, hS⟩ hl (by rw [hg1]; omega) (by rw [hg2]; omega) _ rfl X1
  refine ⟨t9, step t9 ?_, b1⟩
  rw [hT]
  exact a1
end Sims4b
