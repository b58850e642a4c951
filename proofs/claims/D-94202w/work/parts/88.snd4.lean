/-! SOUNDNESS 4: lengths, new cells, casts, statics, what is built in -/
theorem tp_RS_len : ∀ (S : tp_T) (st : List Value), tp_RS S st → (st.map fun v => v.category).sum ≤ 2 * S.length
  | [], [], _ => Nat.le_refl 0
  | v :: S, cv :: st, h => by
    have ih := tp_RS_len S st h.2
    have h1 : cv.category ≤ 2 := by cases cv <;> simp [Value.category]
    simp only [List.map_cons, List.sum_cons, List.length_cons]
    omega
  | [], _ :: _, h => h.elim
  | _ :: _, [], h => h.elim
/-- a static that the small interpreter keeps at j -/
def tp_Zs (X : tp_X) (C n d : String) (j : Nat) : Prop := ∃ v, va_Z C n d v (fun _ => False) (xs0 X) (xs0 X).heap ∧ tp_RV (xG X j) v
theorem tp_asg {v₁ v₂ : Vm} (h : v₁.Alike v₂) {a b : ClassId} (hab : v₁.assignable a b = true) : v₂.assignable a b = true := by
  rw [h.assignable]; exact hab
section Sims4
variable {X : tp_X} {az : Array Value} {own : MethodName} {cc : ByteArray} {ret : Option FieldType} {nL pc : Nat}
theorem sim_gs (hG : tp_Good X az) {index j : Nat} {C n d ref : String} (hd : decode cc pc = .ok (.getstatic index, 3)) (hZ : tp_Zs X C n d j) (hlink : Cond.fieldLink own.cls index ref n d ∈ lw_all) (hsame : C = ref) : tp_Sim X own cc ret nL pc 3 (o_gs (.getstatic index) j) := by
  intro p l e R s m args below meth c Q a0 b0 F L S h nx hnx
  cases hnx
  refine ⟨⟨Nat.le_refl _, Nat.le_refl _⟩, fun _ _ ok => ?_⟩
  intro H locs cells slots ls st hK hL hS hl hc hs
  have hW := F.2.2.2.2.2.2.1
  obtain ⟨v, hv, hr⟩ := hZ
  obtain ⟨cf, kf, fi, f, a, cell, z1, z2, z3, z4, z5, z6, z7, -⟩ := va_Z.moved (U := s) hW.alike hv
  have hlt := (Array.getElem?_eq_some_iff.mp z5).1
  subst hsame
  exact W.gets F.1 F.2.1 F.2.2.2.2.2.1 (tp_word hG hW hlink args) z1 z2 z3 z4 (by rw [hK.2.2.2.2.2 a hlt]; exact z5) (fun q => by rw [q] at z6; cases z6) z7 rfl hd (ok H locs cells slots ls (v :: st) hK hL ⟨by rw [hK.2.2.1 j]; exact hr, hS⟩ hl hc hs)
theorem sim_ldcS {index j q : Nat} {tx : String} (hd : decode cc pc = .ok (.ldc index, 2)) (hZ : vk_R own.cls index tx q (xs0 X)) (hj : xG X j = xR q) : tp_Sim X own cc ret nL pc 2 (o_gs (.ldc index) j) := by
  intro p l e R s m args below meth c Q a0 b0 F L S h nx hnx
  cases hnx
  refine ⟨⟨Nat.le_refl _, Nat.le_refl _⟩, fun _ _ ok => ?_⟩
  intro H locs cells slots ls st hK hL hS hl hc hs
  exact va_ldcS F.1 F.2.1 F.2.2.2.2.2.1 (vk_R.warm F.2.2.2.2.2.2.1 hZ) hd (ok H locs cells slots ls (.ref q :: st) hK hL ⟨by rw [hK.2.2.1 j, hj]; rfl, hS⟩ hl hc hs)
theorem sim_ldcM (hG : tp_Good X az) {index j q : Nat} {C : String} (hd : decode cc pc = .ok (.ldc index, 2)) (hlink : Cond.classLink own.cls index C ∈ lw_all) (hZ : va_Mi C q (xs0 X)) (hj : xG X j = xR q) : tp_Sim X own cc ret nL pc 2 (o_gs (.ldc index) j) := by
  intro p l e R s m args below meth c Q a0 b0 F L S h nx hnx
  cases hnx
  refine ⟨⟨Nat.le_refl _, Nat.le_refl _⟩, fun _ _ ok => ?_⟩
  intro H locs cells slots ls st hK hL hS hl hc hs
  exact va_ldcM F.1 F.2.1 F.2.2.2.2.2.1 (tp_word hG F.2.2.2.2.2.2.1 hlink args) (va_Mi.moved F.2.2.2.2.2.2.1.alike hZ) hd (ok H locs cells slots ls (.ref q :: st) hK hL ⟨by rw [hK.2.2.1 j, hj]; rfl, hS⟩ hl hc hs)
theorem sim_ldc (hG : tp_Good X az) {index : Nat} {v : Int32} {x : Int} (hd : decode cc pc = .ok (.ldc index, 2)) (hlink : Cond.constant own.cls index v ∈ lw_all) (hv : v.toInt = x) : tp_Sim X own cc ret nL pc 2 (o_int (.ldc index) x) := by
  intro p l e R s m args below meth c Q a0 b0 F L S h nx hnx
  cases hnx
  refine ⟨⟨Nat.le_refl _, Nat.le_refl _⟩, fun _ _ ok => ?_⟩
  intro H locs cells slots ls st hK hL hS hl hc hs
  exact lv_ldc F.1 F.2.1 F.2.2.2.2.2.1 (tp_word hG F.2.2.2.2.2.2.1 hlink args) hd (ok H locs cells slots ls (.int v :: st) hK hL ⟨⟨v, rfl, hv⟩, hS⟩ hl hc hs)
theorem sim_ldcw (hG : tp_Good X az) {index : Nat} {v : Int32} {x : Int} (hd : decode cc pc = .ok (.ldc_w index, 3)) (hlink : Cond.constant own.cls index v ∈ lw_all) (hv : v.toInt = x) : tp_Sim X own cc ret nL pc 3 (o_int (.ldc_w index) x) := by
  intro p l e R s m args below meth c Q a0 b0 F L S h nx hnx
  cases hnx
  refine ⟨⟨Nat.le_refl _, Nat.le_refl _⟩, fun _ _ ok => ?_⟩
  intro H locs cells slots ls st hK hL hS hl hc hs
  exact lv_ldcw F.1 F.2.1 F.2.2.2.2.2.1 (tp_word hG F.2.2.2.2.2.2.1 hlink args) hd (ok H locs cells slots ls (.int v :: st) hK hL ⟨⟨v, rfl, hv⟩, hS⟩ hl hc hs)
theorem sim_ldc2 (hG : tp_Good X az) {index : Nat} {v : Int64} {x : Int} (hd : decode cc pc = .ok (.ldc2_w index, 3)) (hlink : Cond.constantLong own.cls index v ∈ lw_all) (hv : v.toInt = x) : tp_Sim X own cc ret nL pc 3 (o_lng (.ldc2_w index) x) := by
  intro p l e R s m args below meth c Q a0 b0 F L S h nx hnx
  cases hnx
  refine ⟨⟨Nat.le_refl _, Nat.le_refl _⟩, fun _ _ ok => ?_⟩
  intro H locs cells slots ls st hK hL hS hl hc hs
  exact lv_ldc2 F.1 F.2.1 F.2.2.2.2.2.1 (tp_word hG F.2.2.2.2.2.2.1 hlink args) hd (ok H locs cells slots ls (.long v :: st) hK hL ⟨⟨v, rfl, hv⟩, hS⟩ hl hc hs)
theorem sim_alen (hd : decode cc pc = .ok (.arraylength, 1)) : tp_Sim X own cc ret nL pc 1 o_alen := by
  intro p l e R s m args below meth c Q a0 b0 F L S h nx hnx
  rcases S with _ | ⟨y | y | _ | a, S⟩ <;> try (simp [o_alen] at hnx; done)
  simp only [o_alen] at hnx
  rcases h0 : hat h a with _ | ⟨t, n, f⟩ | ⟨c', fs⟩ <;> rw [h0] at hnx
  · cases hnx
  · by_cases hb : n < 2147483648
    · simp only [if_pos hb, tp_go] at hnx
      cases hnx
      refine ⟨⟨Nat.le_refl _, Nat.le_refl _⟩, fun _ _ ok => ?_⟩
      intro H locs cells slots ls st hK hL hS hl hc1 hs
      rcases st with _ | ⟨v2, st⟩
      · exact hS.elim
      · obtain ⟨e2, hS⟩ := hS
        obtain rfl := e2
        obtain ⟨cell, q1, q2, q3, q4, q5, q6, q7⟩ := hK.2.2.2.1 a _ h0
        have hA := State.isArrayOf_alike F.2.2.2.2.2.2.1.alike q2
        exact W.alen F.1 F.2.1 q1 hA (by rw [q5]; rfl) rfl rfl hd (ok H locs cells slots ls (.int (nI n) :: st) hK hL ⟨⟨nI n, rfl, nI_toInt (by omega)⟩, hS⟩ hl hc1 hs)
    · simp only [if_neg hb] at hnx; cases hnx
  · cases hnx
theorem sim_newa (hG : tp_Good X az) {at_ : ArrayType} {t : Nat} (hd : decode cc pc = .ok (.newarray at_, 2)) (hw : Cond.arrayClass (newarray.typeOf at_) ∈ lw_all) (ht : newarray.typeOf at_ = tp_ty t ∧ t < 4) : tp_Sim X own cc ret nL pc 2 (o_newa (.newarray at_) t) := by
  intro p l e R s m args below meth c Q a0 b0 F L S h nx hnx
  rcases S with _ | ⟨x | x, S⟩ <;> try (simp [o_newa] at hnx; done)
  by_cases hb : 0 ≤ x ∧ x ≤ 1000000
  · simp only [o_newa, if_pos hb, tp_go] at hnx
    cases hnx
    refine ⟨⟨by rw [hnx_new]; omega, by rw [hsl_new]; omega⟩, fun h1 h2 ok => ?_⟩
    intro H locs cells slots ls st hK hL hS hl hc1 hs
    rcases st with _ | ⟨v2, st⟩
    · exact hS.elim
    · obtain ⟨⟨xv, rfl, ex⟩, hS⟩ := hS
      obtain ⟨ht, ht4⟩ := ht
      rw [hnx_new] at h1
      rw [hsl_new] at h2
      have hb8 : componentBytes (newarray.typeOf at_) ≤ 8 := by cases at_ <;> decide
      refine W.newa F.1 F.2.1 (tp_word hG F.2.2.2.2.2.2.1 hw args) rfl hd rfl (by rw [tp_lt0 ex]; omega) ?_ (by omega) (by rw [tp_nat ex]; omega) fun cA kA comp f1 f2 f3 => ?_
      · rw [tp_nat ex]
        exact Nat.le_trans (Nat.mul_le_mul_left _ hb8) (by omega)
      · have hRA := (hG.2.2.1 t (by omega)).2.moved F.2.2.2.2.2.2.1.alike
        have hAr := (hG.2.2.1 t (by omega)).1
        have hcA : cA = xA X t := by
          rw [ht] at f1
          have : s.vm.findClass ("[" ++ (tp_ty t).toString) = some (xA X t) := by
            rcases t with _ | _ | _ | _ | t
            · exact hRA
            · exact hRA
            · exact hRA
            · exact hRA
            · omega
          rw [this] at f1; exact (Option.some.inj f1).symm
        subst hcA
        generalize hH1 : H.push ({ cls := xA X t, slots := Array.replicate xv.toNatClampNeg (defaultValue (newarray.typeOf at_)), vm := .none } : Cell) = H1
        have z1 : H1.size = H.size + 1 := by rw [← hH1, Array.size_push]
        have e1 : H1[H.size]? = some (arrV (xA X t) x.toNat (fun _ => defaultValue (tp_ty t))) := by rw [← hH1, Array.getElem?_push_size, ← arrV_new, tp_nat ex, ht]
        have o1 : ∀ q : Nat, q < H.size → H1[q]? = H[q]? := fun q hq => by rw [← hH1, Array.getElem?_push, if_neg (Nat.ne_of_lt hq)]
        have hdef : tp_RV (tp_df t) (defaultValue (tp_ty t)) ∧ tp_fit t (tp_df t) = true := by
          rcases t with _ | _ | _ | _ | t
          · exact ⟨⟨0, rfl, rfl⟩, rfl⟩
          · exact ⟨⟨0, rfl, rfl⟩, rfl⟩
          · exact ⟨⟨0, rfl, rfl⟩, rfl⟩
          · exact ⟨⟨0, rfl, rfl⟩, rfl⟩
          · omega
        have hnxe : hnx h = H.size := hK.2.1
        refine ok H1 locs (cells + 1) (slots + xv.toNatClampNeg) ls (.ref H.size :: st) (tp_RH_new hK ⟨_, e1, hAr _ _, (fun q => by cases q), rfl, arrV_size _ _ _, fun j hj => ⟨_, arrV_read _ _ hj, hdef.1⟩, fun _ => ⟨hK.2.2.2.2.1, by omega, rfl, rfl, fun _ _ => hdef.2⟩⟩ z1 o1 (tp_HI_new hK (fun t9 n9 f9 h9 h8 j hj z => by cases h9; omega))) hL ⟨by rw [hnxe]; rfl, hS⟩ hl (by rw [hnx_new]; omega) (by rw [hsl_new, tp_nat ex]; omega)
  · simp [o_newa, hb] at hnx
theorem sim_anew (hG : tp_Good X az) {index t : Nat} {C : String} (hd : decode cc pc = .ok (.anewarray index, 3)) (hlink : Cond.classLink own.cls index C ∈ lw_all) (hover : Cond.arrayOver (.object C) ∈ lw_tbl) (ht : tp_ty t = .object C) (ht67 : t = 6 ∨ t = 7) : tp_Sim X own cc ret nL pc 3 (o_newa (.anewarray index) t) := by
  intro p l e R s m args below meth c Q a0 b0 F L S h nx hnx
  rcases S with _ | ⟨x | x, S⟩ <;> try (simp [o_newa] at hnx; done)
  by_cases hb : 0 ≤ x ∧ x ≤ 1000000
  · simp only [o_newa, if_pos hb, tp_go] at hnx
    cases hnx
    refine ⟨⟨by rw [hnx_new]; omega, by rw [hsl_new]; omega⟩, fun h1 h2 ok => ?_⟩
    intro H locs cells slots ls st hK hL hS hl hc1 hs
    rcases st with _ | ⟨v2, st⟩
    · exact hS.elim
    · obtain ⟨⟨xv, rfl, ex⟩, hS⟩ := hS
      rw [hnx_new] at h1
      rw [hsl_new] at h2
      refine W.anew F.1 F.2.1 F.2.2.2.2.2.1 (tp_word hG F.2.2.2.2.2.2.1 hlink args) (va_AO.use (va_AO.moved F.2.2.2.2.2.2.1.alike (va_AO.of (hG.1 _ hover)))) rfl hd rfl (by rw [tp_lt0 ex]; omega) (by rw [tp_nat ex]; omega) (by omega) (by rw [tp_nat ex]; omega) fun cA kA comp f1 f2 f3 f4 => ?_
      have hRA := (hG.2.2.1 t (by omega)).2.moved F.2.2.2.2.2.2.1.alike
      have hAr := (hG.2.2.1 t (by omega)).1
      have hcA : cA = xA X t := by
        rw [ht] at hRA
        obtain ⟨_, _, -, -, -, h9⟩ := hRA
        rw [h9] at f1; exact (Option.some.inj f1).symm
      subst hcA
      generalize hH1 : H.push ({ cls := xA X t, slots := Array.replicate xv.toNatClampNeg .null, vm := .none } : Cell) = H1
      have z1 : H1.size = H.size + 1 := by rw [← hH1, Array.size_push]
      have e1 : H1[H.size]? = some (arrV (xA X t) x.toNat (fun _ => .null)) := by rw [← hH1, Array.getElem?_push_size, ← arrV_new, tp_nat ex]
      have o1 : ∀ q : Nat, q < H.size → H1[q]? = H[q]? := fun q hq => by rw [← hH1, Array.getElem?_push, if_neg (Nat.ne_of_lt hq)]
      have hdef : tp_df t = xN := by rcases ht67 with rfl | rfl <;> rfl
      have hnxe : hnx h = H.size := hK.2.1
      refine ok H1 locs (cells + 1) (slots + xv.toNatClampNeg) ls (.ref H.size :: st) (tp_RH_new hK ⟨_, e1, hAr _ _, (fun q => by cases q), rfl, arrV_size _ _ _, fun j hj => ⟨_, arrV_read _ _ hj, by rw [hdef]; rfl⟩, fun _ => ⟨hK.2.2.2.2.1, by omega, rfl, rfl, fun _ _ => by rw [hdef]; rcases ht67 with rfl | rfl <;> rfl⟩⟩ z1 o1 (tp_HI_new hK (fun t9 n9 f9 h9 h8 j hj z => by cases h9; rw [hdef]; intro q; cases q))) hL ⟨by rw [hnxe]; rfl, hS⟩ hl (by rw [hnx_new]; omega) (by rw [hsl_new, tp_nat ex]; omega)
  · simp [o_newa, hb] at hnx
theorem sim_new (hG : tp_Good X az) {index b N n : Nat} {C : String} {T : u_T} {ty : Nat → FieldType} {ds : List tp_V} (hd : decode cc pc = .ok (.new index, 3)) (hc : tp_cl[b]? = some (C, T, N)) (hN : tp_nf b = N) (hb0 : 0 < b) (hb16 : b < 16) (hin : ∀ w ∈ u_ws C T N, w ∈ lw_all) (hty : ∀ k, k < N → parseFieldDescriptor (T k).2.2.1 = some (ty k)) (hlink : Cond.classLink own.cls index C ∈ lw_all) (hins : Cond.instantiable C n ∈ lw_all) (hini : Cond.initialized C ∈ lw_all) (hdf : ∀ k, k < N → tp_RV (tp_lf ds k) (defaultValue (ty k))) : tp_Sim X own cc ret nL pc 3 (o_new (.new index) b n ds) := by
  intro p l e R s m args below meth c Q a0 b0 F L S h nx hnx
  cases hnx
  refine ⟨⟨by rw [hnx_new]; omega, by rw [hsl_new]; omega⟩, fun h1 h2 ok => ?_⟩
  intro H locs cells slots ls st hK hL hS hl hc1 hs
  rw [hnx_new] at h1
  rw [hsl_new] at h2
  have hW := F.2.2.2.2.2.2.1
  have hKn := u_Kn_moved hW.alike (hG.2.1 b _ hc)
  have hts : ∀ w ∈ lw_all, w.before args s = true := fun w hw => tp_word hG hW hw args
  refine W.newcK F.1 F.2.1 F.2.2.2.2.2.1 (hts _ hlink) (hts _ hins) (hts _ hini) rfl hd (by omega) (by omega) hKn.2.1 rfl fun H1 kC hkC e1 z1 o1 => ?_
  obtain ⟨cell, g1, g2, g3, g4⟩ := u_born ty hts hin hKn hkC e1 hty
  have hnxe : hnx h = H.size := hK.2.1
  exact ok H1 locs (cells + 1) (slots + n) ls (.ref H.size :: st) (tp_RH_new hK ⟨cell, g1, g2, (fun q => by rw [g3] at q; cases q), by rw [g3]; rfl, fun j hj => ⟨_, g4 j (by omega), hdf j (by omega)⟩, hb0, by omega, fun _ => ⟨hK.2.2.2.2.1, g3, by rw [Option.some.inj (g1.symm.trans e1)]; exact ⟨rfl, rfl⟩⟩⟩ z1 o1 (tp_HI_new hK (fun t9 n9 f9 h9 => by cases h9))) hL ⟨by rw [hnxe]; rfl, hS⟩ hl (by rw [hnx_new]; omega) (by rw [hsl_new]; omega)
theorem sim_cast (hG : tp_Good X az) {index : Nat} {nm : String} {cs : List Nat} (hd : decode cc pc = .ok (.checkcast index, 3)) (hlink : Cond.classLink own.cls index nm ∈ lw_all) (hcs : ∀ c ∈ cs, ∃ q, tp_cl[c]? = some q ∧ (q.1 = nm ∨ Cond.castable q.1 nm ∈ lw_tbl)) : tp_Sim X own cc ret nL pc 3 (o_cast (.checkcast index) cs) := by
  intro p l e R s m args below meth c Q a0 b0 F L S h nx hnx
  rcases S with _ | ⟨y | y | _ | a, S⟩ <;> try (simp [o_cast] at hnx; done)
  · cases hnx
    refine ⟨⟨Nat.le_refl _, Nat.le_refl _⟩, fun _ _ ok => ?_⟩
    intro H locs cells slots ls st hK hL hS hl hc1 hs
    rcases st with _ | ⟨v2, st⟩
    · exact hS.elim
    · obtain ⟨e2, hS⟩ := hS
      obtain rfl := e2
      exact lv_castN F.1 F.2.1 hd (ok H locs cells slots ls (.null :: st) hK hL ⟨rfl, hS⟩ hl hc1 hs)
  · simp only [o_cast] at hnx
    rcases h0 : hat h a with _ | ⟨t, n, f⟩ | ⟨c', fs⟩ <;> rw [h0] at hnx
    · cases hnx
    · cases hnx
    · by_cases hb : tp_in c' cs = true
      · simp only [if_pos hb, tp_go] at hnx
        cases hnx
        refine ⟨⟨Nat.le_refl _, Nat.le_refl _⟩, fun _ _ ok => ?_⟩
        intro H locs cells slots ls st hK hL hS hl hc1 hs
        rcases st with _ | ⟨v2, st⟩
        · exact hS.elim
        · obtain ⟨e2, hS⟩ := hS
          obtain rfl := e2
          have hW := F.2.2.2.2.2.2.1
          obtain ⟨cell, q1, q2, q3, q4, q5, q6⟩ := hK.2.2.2.1 a _ h0
          obtain ⟨q, hq, hor⟩ := hcs c' (of_decide_eq_true hb)
          have hfc := (u_Kn_moved hW.alike (hG.2.1 c' _ hq)).2.1
          have k := ok H locs cells slots ls (.ref a :: st) hK hL ⟨rfl, hS⟩ hl hc1 hs
          rcases hor with rfl | hca
          · exact va_castE F.1 F.2.1 F.2.2.2.2.2.1 (tp_word hG hW hlink args) ⟨cell, q1, q4, by rw [q2]; exact hfc⟩ hd k
          · exact va_castY F.1 F.2.1 F.2.2.2.2.2.1 (tp_word hG hW hlink args) (va_Nw.warmC hW (va_Nw.of rfl (hG.1 _ hca))) ⟨cell, q1, q4, by rw [q2]; exact hfc⟩ hd k
      · simp only [if_neg hb] at hnx; cases hnx
theorem sim_aast (hG : tp_Good X az) {t0 : Nat} {cs : List Nat} (hd : decode cc pc = .ok (.aastore, 1)) (ht0 : t0 = 6 ∨ t0 = 7) (hcs : ∀ c ∈ cs, tp_okc t0 c = true) : tp_Sim X own cc ret nL pc 1 (o_aast [t0] cs) := by
  intro p l e R s m args below meth c Q a0 b0 F L S h nx hnx
  rcases S with _ | ⟨v | v | _ | q, _ | ⟨x | x, _ | ⟨y | y | _ | a, S⟩⟩⟩ <;> try (simp [o_aast] at hnx; done)
  simp only [o_aast] at hnx
  rcases h0 : hat h a with _ | ⟨t, n, f⟩ | ⟨c', fs⟩ <;> rw [h0] at hnx
  · cases hnx
  · rcases h1 : hat h q with _ | ⟨t', n', f'⟩ | ⟨c', fs⟩ <;> rw [h1] at hnx
    · cases hnx
    · cases hnx
    · by_cases hb : tp_in t [t0] = true ∧ tp_in c' cs = true ∧ (0 ≤ x ∧ x < n)
      · simp only [if_pos hb, tp_go] at hnx
        obtain ⟨hb, hb2, hx⟩ := hb
        cases hnx
        refine ⟨⟨Nat.le_refl _, Nat.le_refl _⟩, fun _ _ ok => ?_⟩
        intro H locs cells slots ls st hK hL hS hl hc1 hs
        rcases st with _ | ⟨cw, _ | ⟨v2, _ | ⟨v3, st⟩⟩⟩
        · exact hS.elim
        · exact hS.2.elim
        · exact hS.2.2.elim
        · obtain ⟨e1, ⟨xv, rfl, ex⟩, e2, hS⟩ := hS
          obtain rfl := e2
          obtain rfl := e1
          have hW := F.2.2.2.2.2.2.1
          have ht : t = t0 := by
            have := of_decide_eq_true hb
            simpa using this
          subst ht
          have hok := hcs c' (of_decide_eq_true hb2)
          obtain ⟨cell, q1, q2, q3, q4, q5, q6, q7⟩ := hK.2.2.2.1 a _ h0
          obtain ⟨cq, u1, u2, u3, u4, u5, u6⟩ := hK.2.2.2.1 q _ h1
          obtain ⟨p1, p2, p3, p4, p5⟩ := q7 (by omega)
          obtain ⟨kA, comp, ty, kcomp, kc, w1, w2, w3, w4, w5, w6⟩ := hG.2.2.2.1 t c' ht0 hok
          obtain ⟨kA', w1', wA⟩ := hW.alike.2.2 _ _ w1
          obtain ⟨kcomp', w4', -⟩ := hW.alike.2.2 _ _ w4
          obtain ⟨kc', w5', -⟩ := hW.alike.2.2 _ _ w5
          refine W.aast F.1 F.2.1 q1 (fun z hz => by rw [hz] at q4; cases q4) q3 (by rw [p3]; exact w1') (comp := comp) (t := ty) (by rw [wA]; exact w2) w3 w4' ⟨by rw [tp_lt0 ex]; omega, by rw [tp_nat ex, q5]; omega⟩ u1 (fun z hz => by rw [hz] at u4; cases u4) (by rw [u2]; exact w5') (by rw [u2]; exact tp_asg hW.alike w6) rfl rfl hd fun H' g1 g2 g3 => ?_
          rw [tp_nat ex] at g1 ⊢
          refine ok H' _ cells slots ls st (tp_RH_put hK ⟨cell.setSlot x.toNat (.ref q), g1, tp_arr_set q2, q3, q4, by rw [← q5]; simp [Cell.setSlot], ?_, fun _ => ⟨p1, p2, p3, p4, ?_⟩⟩ g2 g3 p1 (tp_HI_put hK.1 (fun c2 fs2 h2 => by rw [h0] at h2; cases h2) (fun t9 n9 f9 h2 h3 j hj z hz => ?_))) hL hS (fun z hz => ?_) hc1 hs
          · intro i hi
            obtain ⟨cvi, z1, z2⟩ := q6 i hi
            by_cases hij : i = x.toNat
            · subst hij
              refine ⟨.ref q, ?_, by rw [tp_up, if_pos rfl]; rfl⟩
              have hlt := (Array.getElem?_eq_some_iff.mp z1).1
              simp [Cell.setSlot, Array.getElem?_setIfInBounds, hlt]
            · refine ⟨cvi, ?_, by rw [tp_up, if_neg hij]; exact z2⟩
              simp [Cell.setSlot, Array.getElem?_setIfInBounds, Ne.symm hij, z1]
          · intro i hi
            by_cases hij : i = x.toNat
            · rw [tp_up, if_pos hij]; rcases ht0 with rfl | rfl <;> rfl
            · rw [tp_up, if_neg hij]; exact p5 i hi
          · cases h2
            by_cases hij : j = x.toNat
            · rw [tp_up, if_pos hij] at hz
              cases hz
              exact ⟨c', fs, h1, hok⟩
            · rw [tp_up, if_neg hij] at hz
              exact hK.1 a t n f h0 h3 j hj z hz
          · rcases List.mem_append.mp hz with h9 | h9
            · exact hl z h9
            · rw [List.mem_singleton.mp h9]; exact p1
      · simp only [if_neg hb] at hnx; cases hnx
  · cases hnx
theorem sim_objinit (hG : tp_Good X az) {index : Nat} (hd : decode cc pc = .ok (.invokespecial index, 3)) (hlink : Cond.methodLink own.cls index Lib.objectInit ∈ lw_all) (hinst : Cond.instanceMethod Lib.objectInit ∈ lw_all) (hcode : Cond.code Lib.objectInit ⟨#[0xb1]⟩ 1 none ∈ lw_all) : tp_Sim X own cc ret nL pc 3 (o_objinit (.invokespecial index)) := by
  intro p l e R s m args below meth c Q a0 b0 F L S h nx hnx
  rcases S with _ | ⟨y | y | _ | a, S⟩ <;> try (simp [o_objinit] at hnx; done)
  by_cases hb : S.length ≤ 12
  · simp only [o_objinit, if_pos hb, tp_go] at hnx
    cases hnx
    refine ⟨⟨Nat.le_refl _, Nat.le_refl _⟩, fun _ _ ok => ?_⟩
    intro H locs cells slots ls st hK hL hS hl hc1 hs
    rcases st with _ | ⟨v2, st⟩
    · exact hS.elim
    · obtain ⟨e2, hS⟩ := hS
      obtain rfl := e2
      have hW := F.2.2.2.2.2.2.1
      have h12 := tp_RS_len S st hS
      have hR := F.2.2.2.2.2.2.2.2.2.2
      refine W.objInit F.1 F.2.1 F.2.2.2.2.2.1 (tp_word hG hW hlink args) (tp_word hG hW hinst args) (tp_word hG hW hcode args) rfl (by rw [F.2.2.2.2.1]; exact hL.2.1) rfl hd (by omega) (by show 2 * 0 + _ + _ ≤ _; omega) (ok H locs cells slots ls st hK hL hS hl hc1 hs)
  · simp [o_objinit, hb] at hnx
theorem sim_getcls (hG : tp_Good X az) {index q : Nat} (hd : decode cc pc = .ok (.invokevirtual index, 3)) (hlink : Cond.methodLink own.cls index ⟨"java/lang/Object", "getClass", "()Ljava/lang/Class;"⟩ ∈ lw_all) (hdecl : Cond.declares ⟨"java/lang/Object", "getClass", "()Ljava/lang/Class;"⟩ ∈ lw_tbl) (hsel : Cond.selects "[Ljava/lang/Object;" ⟨"java/lang/Object", "getClass", "()Ljava/lang/Class;"⟩ ⟨"java/lang/Object", "getClass", "()Ljava/lang/Class;"⟩ ∈ lw_all) (hinst : Cond.instanceMethod ⟨"java/lang/Object", "getClass", "()Ljava/lang/Class;"⟩ ∈ lw_all) (hnat : Cond.native ⟨"java/lang/Object", "getClass", "()Ljava/lang/Class;"⟩ ∈ lw_all) (hM : va_Mi "[Ljava/lang/Object;" q (xs0 X)) (hj : xG X 0 = xR q) : tp_Sim X own cc ret nL pc 3 (o_getcls (.invokevirtual index)) := by
  intro p l e R s m args below meth c Q a0 b0 F L S h nx hnx
  rcases S with _ | ⟨y | y | _ | a, S⟩ <;> try (simp [o_getcls] at hnx; done)
  simp only [o_getcls] at hnx
  split at hnx
  · rename_i n f h0
    by_cases hb : S.length ≤ 12
    · simp only [if_pos hb, tp_go] at hnx
      cases hnx
      refine ⟨⟨Nat.le_refl _, Nat.le_refl _⟩, fun _ _ ok => ?_⟩
      intro H locs cells slots ls st hK hL hS hl hc1 hs
      rcases st with _ | ⟨v2, st⟩
      · exact hS.elim
      · obtain ⟨e2, hS⟩ := hS
        obtain rfl := e2
        have hW := F.2.2.2.2.2.2.1
        have h12 := tp_RS_len S st hS
        have hR := F.2.2.2.2.2.2.2.2.2.2
        obtain ⟨cell, q1, q2, q3, q4, q5, q6, q7⟩ := hK.2.2.2.1 a _ h0
        obtain ⟨p1, p2, p3, p4, p5⟩ := q7 (by omega)
        have hRA := (hG.2.2.1 6 (by omega)).2.moved hW.alike
        obtain ⟨_, _, -, -, -, h9⟩ := hRA
        exact va_getC F.1 F.2.1 (by rw [F.2.2.2.2.1]; exact hL.2.1.symm) F.2.2.2.2.2.1 (tp_word hG hW hlink args) (va_Nw.use rfl (va_Nw.warmD hW (va_Nw.of rfl (hG.1 _ hdecl)))) (tp_word hG hW hsel args) (tp_word hG hW hinst args) (tp_word hG hW hnat args) (va_Mi.moved hW.alike hM) ⟨cell, q1, q4, by rw [p3]; exact h9⟩ (by omega) (by omega) hd (ok H locs cells slots ls (.ref q :: st) hK hL ⟨by rw [hK.2.2.1 0, hj]; rfl, hS⟩ hl hc1 hs)
    · simp only [if_neg hb] at hnx; cases hnx
  · cases hnx
end Sims4
