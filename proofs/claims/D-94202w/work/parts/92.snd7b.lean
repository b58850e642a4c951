/-! SOUNDNESS 7b: interfaces; the one method with handlers (tp_callVW is the kit's vx_callVW) -/
section VW7
variable {p : Program} {l : Launch} {e : Env} {R : Room} {s : State} {m : MethodId} {args : Array Value} {below : List Frame} {meth : Method} {c : Code} {T : State} {locs : List Loc} {cells slots : Nat}
theorem tp_callVW (X : Stand p l e R s m args below meth c T locs cells slots) (hexec : p.tables.exec = Jvm.exec) {own C : String} {index : Nat} {y : MethodName} {bytes : ByteArray} {maxL : Nat} {ret : Option FieldType} {hh : List (Nat × Nat × Nat × Nat)}
    (hown : s.vm.findClass own = some m.cls) (hlink : (Cond.methodLink own index y).before args s = true) (hinst : (Cond.instanceMethod y).before args s = true) (hsel : (Cond.selects C y y).before args s = true)
    (hcode : (Cond.codeWith y bytes maxL ret hh).before args s = true) (hy : y.cls ≠ "java/lang/invoke/MethodHandle" ∧ y.cls ≠ "java/lang/invoke/VarHandle")
    {W9 : Nat} {Pre : Pt → Array Value → Prop} {Post : Pt → Array Value → Option Value → Pt → Prop} (hK : Back l R p e below s args y 3 W9 Pre Post)
    {b : Addr} {cellB : Cell} (hcell : T.heap[b]? = some cellB) (hobj : cellB.vm.isStatics = false) (hcls : s.vm.findClass C = some cellB.cls)
    {g : JFrame} (hg : g.method = m) (hsize : g.locals.size = c.maxLocals) {argsL rest : List Value} (hlen : ∀ sig, parseMethodDescriptor y.desc = some sig → argsL.length = sig.parameters.length)
    (hstack : g.stack = argsL.reverse ++ .ref b :: rest) (hW : 2 * g.monitorRoom + (rest.map fun v => v.category).sum ≤ W9) (hdg : decode c.code g.pc = .ok (.invokevirtual index, 3))
    (hpre : ∀ vm₁, s.WarmedH vm₁ → Pre ⟨T.setVm vm₁, locs, cells, slots⟩ (Value.ref b :: argsL).toArray) :
    ∃ (v : Option Value) (vm₁ : Vm) (B : Pt), s.WarmedH vm₁ ∧ Stand p l e R s m args below meth c B.U B.locs B.cells B.slots ∧ Post ⟨T.setVm vm₁, locs, cells, slots⟩ (Value.ref b :: argsL).toArray v B ∧
      ∀ target, Steps p.tables e below (B.U.setTop { g with pc := g.pc + 3, stack := v.toList ++ rest }) target → Steps p.tables e below (T.setTop g) target := by
  obtain ⟨mk, methM, hnamed, hmethM, hstM, habM⟩ := Cond.instanceMethod_spec hinst
  obtain ⟨m8, methM', cM, hn8, hmethM', -, -, -, -, -, -, hsigM⟩ := Cond.codeWith_spec hcode
  cases Option.some.inj (hn8.symm.trans hnamed)
  cases hmethM.symm.trans hmethM'
  obtain ⟨c2, r2, m2, q1, q2, q3, q4, kP, hkP, hkPi⟩ := Cond.selects_spec hsel
  cases hcls.symm.trans q1
  cases (State.methodFound?_of_named hnamed hy).symm.trans q2
  cases hnamed.symm.trans q3
  have hselP : selectMethod e.platform s.vm cellB.cls mk = .method mk := by rw [Launch.admits_selectMethod X.admits]; exact q4
  obtain ⟨vm₁, X₁, hstep₁⟩ := X.invokevirtual hexec hown hlink hnamed hmethM hstM hkP hkPi hy (a := b) (cell := cellB) hcell
    (fun z h => by rw [h] at hobj; cases hobj) hselP hmethM habM hkP hkPi (g := g) hg (argsL := argsL) (rest := rest) (hlen _ hsigM) hstack hdg
  obtain ⟨v, B, X', hpost, hsteps⟩ := hK m meth c ⟨T.setVm vm₁, locs, cells, slots⟩ { g with stack := rest } (.invokevirtual index) mk (Value.ref b :: argsL).toArray X₁ hg hsize hdg hW (X₁.named hnamed) (hpre vm₁ X₁.warmed)
  exact ⟨v, vm₁, B, X₁.warmed, X', hpost, fun target h => hstep₁ _ fun acts => by rw [doInvoke_state]; exact hsteps.trans h⟩
end VW7
section Calls7b
variable {X : tp_X} {az : Array Value} {own : MethodName} {cc : ByteArray} {ret : Option FieldType} {nL pc : Nat}
variable {nm : Nat → MethodName} {by_ : Nat → ByteArray} {ml : Nat → Nat} {rt : Nat → Option FieldType}
/-- one class that has the interface's method: what the tables say of it -/
def tp_If (x y : MethodName) (C : String) : Prop := Cond.selects C x y ∈ lw_all ∧ Cond.instanceMethod y ∈ lw_all ∧ Cond.publicMethod y ∈ lw_tbl ∧ Cond.unhidden C x.name x.desc ∈ lw_tbl ∧ Cond.castable C x.cls ∈ lw_tbl ∧ y.desc = x.desc
theorem tp_find_mem {c k : Nat} : ∀ {ps : List (Nat × Nat)}, tp_find c ps = some k → (c, k) ∈ ps
  | [], h => by cases h
  | (c', k') :: ps, h => by
    unfold tp_find at h
    by_cases e : c = c'
    · rw [if_pos e] at h
      cases h
      rw [e]; exact List.mem_cons_self
    · rw [if_neg e] at h
      exact List.mem_cons_of_mem _ (tp_find_mem h)
theorem sim_ci (hG : tp_Good X az) {index count n : Nat} {ps : List (Nat × Nat)} {x : MethodName} (hd : decode cc pc = .ok (.invokeinterface index count, 5)) (hlink : Cond.methodLink own.cls index x ∈ lw_all) (hdecl : Cond.declares x ∈ lw_tbl) (hface : Cond.interfaceMethod x.cls x.cls x.name x.desc ∈ lw_tbl) (hx : x.cls ≠ "java/lang/invoke/MethodHandle" ∧ x.cls ≠ "java/lang/invoke/VarHandle")
    (hps : ∀ q ∈ ps, ∃ (C : String) (T : u_T) (N : Nat), tp_cl[q.1]? = some (C, T, N) ∧ tp_Mk (nm q.2) (by_ q.2) (ml q.2) (rt q.2) n ∧ tp_hh (nm q.2) = [] ∧ tp_If x (nm q.2) C) : tp_SimC X own cc ret nL pc 5 (o_ci (.invokeinterface index count) ps n 0) nm by_ ml rt := by
  intro p l e R s m args below meth c Q a0 b0 d F hR1 hR2 L S h k' hd9 as L' S' h1 hnx
  simp only [o_ci] at hnx
  rcases hpop : tp_pop n S [] with _ | ⟨as0, S0⟩ <;> rw [hpop] at hnx
  · cases hnx
  rcases S0 with _ | ⟨x | x | _ | a, S0⟩ <;> try (simp at hnx; done)
  simp only at hnx
  rcases h0 : hat h a with _ | ⟨⟩ | ⟨c', fs⟩ <;> rw [h0] at hnx
  · cases hnx
  · cases hnx
  simp only at hnx
  rcases hf : tp_find c' ps with _ | k <;> rw [hf] at hnx
  · cases hnx
  by_cases hb : ¬ (S0.length ≤ 12)
  · simp only [if_neg hb] at hnx; cases hnx
  have hb := Classical.not_not.mp hb
  simp only [if_pos hb, tp_ask] at hnx
  cases hnx
  obtain ⟨C, Tt, N, hc, hm, hh, i1, i2, i3, i4, i5, i6⟩ := hps _ (tp_find_mem hf)
  simp only at hm hh i1 i2 i3 i6
  refine ⟨rfl, rfl, fun o h2 hM hle hz1 hz2 => ?_⟩
  have hW := F.2.2.2.2.2.2.1
  have hcw : tp_cw (nm k') (by_ k') (ml k') (rt k') = Cond.code (nm k') (by_ k') (ml k') (rt k') := by simp [tp_cw, hh]
  have hcd : (Cond.code (nm k') (by_ k') (ml k') (rt k')).before args s = true := by
    have := tp_word hG hW hm.1 args
    rwa [hcw] at this
  rcases o with v | q
  · intro ok H locs cells slots ls st hK hL hS hl hc1 hs T hT Xs
    obtain ⟨vs, st', e1, e2, e3, front, e4, e5⟩ := tp_pop_spec n S [] as0 _ st hpop hS
    rcases st' with _ | ⟨cv, st'⟩
    · exact e3.elim
    obtain ⟨e6, e7⟩ := e3
    obtain rfl := e6
    obtain ⟨cell, q1, q2, q3, q4, q5, q6⟩ := hK.2.2.2.1 a _ h0
    obtain ⟨-, hfc, kB, hkB, -⟩ := u_Kn_moved hW.alike (hG.2.1 _ _ hc)
    have hlen := tp_RS_len _ _ e7
    have hFw := va_Fw.moved hx hW.alike (va_Fw.of (y := nm k') (C := C) (hG.1 _ hdecl) (hG.1 _ hface) (hG.1 _ i3) (hG.1 _ i4) (hG.1 _ i5))
    obtain ⟨cv, vm₁, B, g1, g2, g3, g4⟩ := va_callIF Xs F.1 (C := C) F.2.2.2.2.2.1 (tp_word hG hW hlink args) (va_Nw.use rfl hFw.1) (va_Nw.use rfl hFw.2.1) (tp_word hG hW i1 args) (tp_word hG hW i2 args) (va_Nw.use rfl hFw.2.2.1) (va_Nw.use rfl hFw.2.2.2.1) (va_Nw.use rfl hFw.2.2.2.2) hcd hx
      (tp_back hG hW hM hm hR1 hR2) (b := a) (kB := kB) (by rw [hT]; exact q1) q4 (by rw [q2]; exact hfc) (by rw [q2]; exact hkB) (g := F0 m pc ls st) rfl (by rw [F.2.2.2.2.1]; exact hL.2.1) (argsL := vs.reverse) (rest := st') (fun sig hsig => by rw [List.length_reverse, e2]; exact (hm.2.2.2.1 sig (by rw [i6]; exact hsig)).symm) (by show st = _; rw [List.reverse_reverse, e1]) (by show 2 * 0 + _ ≤ 24; omega) (by rw [F.2.1]; exact hd)
      (fun vm₁ hv => ⟨by show cells + _ ≤ _; omega, by show slots + _ ≤ _; omega, by
        rw [e4, List.append_nil]
        exact ⟨rfl, e5⟩, State.WarmedH.trans hW hv, by show tp_RH X h T.heap; rw [hT]; exact hK, F.2.2.2.2.2.2.2.1⟩)
    exact tp_after hle hc1 hs hL e7 hl ok g2 g3 g4
  · exact Or.inl rfl
theorem sim_cvW (hG : tp_Good X az) {index b k n : Nat} {C : String} (hd : decode cc pc = .ok (.invokevirtual index, 3)) (hfc0 : (xs0 X).vm.findClass C = some (xD X b)) (hm : tp_Mk (nm k) (by_ k) (ml k) (rt k) n) (hh : ¬ tp_hh (nm k) = []) (hlink : Cond.methodLink own.cls index (nm k) ∈ lw_all) (hinst : Cond.instanceMethod (nm k) ∈ lw_all) (hsel : Cond.selects C (nm k) (nm k) ∈ lw_all) : tp_SimC X own cc ret nL pc 3 (o_cv (.invokevirtual index) b k n 0) nm by_ ml rt := by
  intro p l e R s m args below meth c Q a0 b0 d F hR1 hR2 L S h k' hd9 as L' S' h1 hnx
  simp only [o_cv] at hnx
  rcases hpop : tp_pop n S [] with _ | ⟨as0, S0⟩ <;> rw [hpop] at hnx
  · cases hnx
  rcases S0 with _ | ⟨x | x | _ | a, S0⟩ <;> try (simp at hnx; done)
  simp only at hnx
  rcases h0 : hat h a with _ | ⟨⟩ | ⟨c', fs⟩ <;> rw [h0] at hnx
  · cases hnx
  · cases hnx
  by_cases hb : ¬ (c' = b ∧ S0.length ≤ 12)
  · simp only [if_neg hb] at hnx; cases hnx
  have hb := Classical.not_not.mp hb
  simp only [if_pos hb, tp_ask] at hnx
  obtain ⟨rfl, h12⟩ := hb
  cases hnx
  refine ⟨rfl, rfl, fun o h2 hM hle hz1 hz2 => ?_⟩
  have hW := F.2.2.2.2.2.2.1
  have hcw : tp_cw (nm k) (by_ k) (ml k) (rt k) = Cond.codeWith (nm k) (by_ k) (ml k) (rt k) (tp_hh (nm k)) := by simp [tp_cw, hh]
  have hcd : (Cond.codeWith (nm k) (by_ k) (ml k) (rt k) (tp_hh (nm k))).before args s = true := by
    have := tp_word hG hW hm.1 args
    rwa [hcw] at this
  rcases o with v | q
  · intro ok H locs cells slots ls st hK hL hS hl hc1 hs T hT Xs
    obtain ⟨vs, st', e1, e2, e3, front, e4, e5⟩ := tp_pop_spec n S [] as0 _ st hpop hS
    rcases st' with _ | ⟨cv, st'⟩
    · exact e3.elim
    obtain ⟨e6, e7⟩ := e3
    obtain rfl := e6
    obtain ⟨cell, q1, q2, q3, q4, q5, q6⟩ := hK.2.2.2.1 a _ h0
    have hfc := tp_fcm hW hfc0
    have hlen := tp_RS_len _ _ e7
    obtain ⟨cv, vm₁, B, g1, g2, g3, g4⟩ := tp_callVW Xs F.1 (C := C) F.2.2.2.2.2.1 (tp_word hG hW hlink args) (tp_word hG hW hinst args) (tp_word hG hW hsel args) hcd hm.2.2.1
      (tp_back hG hW hM hm hR1 hR2) (b := a) (by rw [hT]; exact q1) q4 (by rw [q2]; exact hfc) (g := F0 m pc ls st) rfl (by rw [F.2.2.2.2.1]; exact hL.2.1) (argsL := vs.reverse) (rest := st') (fun sig hsig => by rw [List.length_reverse, e2]; exact (hm.2.2.2.1 sig hsig).symm) (by show st = _; rw [List.reverse_reverse, e1]) (by show 2 * 0 + _ ≤ 24; omega) (by rw [F.2.1]; exact hd)
      (fun vm₁ hv => ⟨by show cells + _ ≤ _; omega, by show slots + _ ≤ _; omega, by
        rw [e4, List.append_nil]
        exact ⟨rfl, e5⟩, State.WarmedH.trans hW hv, by show tp_RH X h T.heap; rw [hT]; exact hK, F.2.2.2.2.2.2.2.1⟩)
    exact tp_after hle hc1 hs hL e7 hl ok g2 g3 g4
  · exact Or.inl rfl
end Calls7b
