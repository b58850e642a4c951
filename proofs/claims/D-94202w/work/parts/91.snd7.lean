/-! SOUNDNESS 7: the kinds of call. The law tp_backX follows the kit's vx_back (kit/laws/EXCEPTIONS.to-paste), with the thrown address known. -/
section Calls7
variable {X : tp_X} {az : Array Value} {own : MethodName} {cc : ByteArray} {ret : Option FieldType} {nL pc : Nat}
variable {nm : Nat → MethodName} {by_ : Nat → ByteArray} {ml : Nat → Nat} {rt : Nat → Option FieldType}
theorem tp_backX {p : Program} {l : Launch} {e : Env} {R : Room} {s : State} {sargs : Array Value} {below : List Frame} {y : MethodName} {bytes : ByteArray} {maxL n d len : Nat} {ret : Option FieldType} {as : List tp_V} {h h' : tp_H} {q : Nat} (hG : tp_Good X az) (hW : (xs0 X).WarmedH s.vm) (hM : tp_Con X l y bytes maxL ret d as h (.inr q) h') (hm : tp_Mk y bytes maxL ret n) (hh : tp_hh y = []) (hR1 : d + 11 ≤ R.frames) (hR2 : 80 * d + 580 ≤ R.locals)
    (m : MethodId) (meth : Method) (c : Code) (A : Pt) (g : JFrame) (ig : Instr) (mk : MethodId) (a : Array Value)
    (Xs : Stand p l e R s m sargs below meth c A.U A.locs A.cells A.slots) (hg : g.method = m) (hsize : g.locals.size = c.maxLocals) (hdg : decode c.code g.pc = .ok (ig, len))
    (hW9 : 2 * g.monitorRoom + (g.stack.map fun v => v.category).sum ≤ 24) (hn : A.U.methodNamed? y = some mk) (hp : PreOf R (hnx h' - hnx h) (hsl h' - hsl h) (fun a U => tp_RS as a.toList ∧ (xs0 X).WarmedH U.vm ∧ tp_RH X h U.heap ∧ l.flags = flags0) A a) :
    ∃ (B : Pt), Stand p l e R s m sargs below meth c B.U B.locs B.cells B.slots ∧ tp_RH X h' B.U.heap ∧ (∃ L, B.locs = A.locs ++ L ∧ ∀ z ∈ L, (xs0 X).heap.size ≤ z.base) ∧ B.cells = A.cells + (hnx h' - hnx h) ∧ B.slots = A.slots + (hsl h' - hsl h) ∧
      Steps p.tables e below (doInvoke e (A.U.setTop g) [] mk a).1 ((B.U.setTop g).pushFrame (.throwing q)) := by
  have hlo : 24 + (maxL + 11) + (80 * d + 500) ≤ R.locals := tp_ar hm.2.2.2.2.1 hR2
  have hcw : tp_cw y bytes maxL ret = Cond.code y bytes maxL ret := by simp [tp_cw, hh]
  unfold tp_Con at hM
  have hf1 : ({ frames := d + 10, cells := hnx h' - hnx h, slots := hsl h' - hsl h, locals := 80 * d + 500 } : Room).frames + 1 ≤ R.frames := hR1
  have hf2 : 24 + (maxL + 11) + ({ frames := d + 10, cells := hnx h' - hnx h, slots := hsl h' - hsl h, locals := 80 * d + 500 } : Room).locals ≤ R.locals := hlo
  have hf3 : ({ frames := d + 10, cells := hnx h' - hnx h, slots := hsl h' - hsl h, locals := 80 * d + 500 } : Room).cells = hnx h' - hnx h := rfl
  have hf4 : ({ frames := d + 10, cells := hnx h' - hnx h, slots := hsl h' - hsl h, locals := 80 * d + 500 } : Room).slots = hsl h' - hsl h := rfl
  generalize hrm : ({ frames := d + 10, cells := hnx h' - hnx h, slots := hsl h' - hsl h, locals := 80 * d + 500 } : Room) = rm at hM hf1 hf2 hf3 hf4
  obtain ⟨U, Ls, c0, s0⟩ := A
  dsimp only [Pt.U, Pt.locs, Pt.cells, Pt.slots] at Xs hn ⊢
  have hp1 : c0 + (hnx h' - hnx h) ≤ R.cells := hp.1
  have hp2 : s0 + (hsl h' - hsl h) ≤ R.slots := hp.2.1
  have hp3 := hp.2.2
  have hU : (xs0 X).WarmedH U.vm := State.WarmedH.trans hW Xs.warmed
  have h1 : (headSpec [tp_cw y bytes maxL ret] rm).pre.before a U = true := atoms_intro fun w hw => by
    obtain rfl := List.mem_singleton.mp hw
    exact tp_word hG hU hm.1 a
  have h2 : (Cond.code y bytes maxL ret).before a U = true := by
    have := tp_word hG hU hm.1 a
    rwa [hcw] at this
  have h3 : (Cond.initialized y.cls).before a U = true := tp_word hG hU hm.2.1 a
  have h4 : c0 + (headSpec [tp_cw y bytes maxL ret] rm).room.cells ≤ R.cells := by rw [show (headSpec [tp_cw y bytes maxL ret] rm).room.cells = _ from hf3]; exact hp1
  have h5 : s0 + (headSpec [tp_cw y bytes maxL ret] rm).room.slots ≤ R.slots := by rw [show (headSpec [tp_cw y bytes maxL ret] rm).room.slots = _ from hf4]; exact hp2
  obtain ⟨methY, cY, hmY, hcY, -, hlY, -, -, -, -⟩ := Cond.code_spec hn h2
  obtain ⟨kY, hkY, -⟩ := className_of_methodNamed hn
  have hinitY : kY.init = .initialized := Cond.initialized_spec (findClass_of_methodNamed hn) hkY h3
  have ht : At U g.method c below := by rw [hg]; exact Xs.here
  have happ : (headSpec [tp_cw y bytes maxL ret] rm).appliesLoose y e.platform (U.calling g mk a) = true :=
    Spec.appliesLoose_calling (g := g) ht hdg hn hkY hinitY
      (Xs.room_calling (g := g) (R' := (headSpec [tp_cw y bytes maxL ret] rm).room) hsize hmY hcY hf1 (by rw [hlY]; have h9 : 24 + (maxL + 11) + (headSpec [tp_cw y bytes maxL ret] rm).room.locals ≤ R.locals := hf2; omega) h4 h5) h1
  obtain ⟨mid, hmid⟩ := ht.above
  have hfr : (U.setTop g).frames = (.java g :: mid) ++ below := by rw [State.frames_setTop' g ht.top, hmid]; rfl
  obtain ⟨o, s₂, hsteps, -, hend, hq⟩ := Steps.callFree hM p Xs.admits Xs.cas Xs.clock (acts := []) hfr happ hp3 trivial
  rw [State.frames_setTop' g ht.top] at hend
  obtain ⟨g₀, hg0⟩ := Option.isSome_iff_exists.mp ht.top
  obtain ⟨r, hr⟩ := State.topJava?_eq_some.mp hg0
  have hr' : (({ U with heap := s₂.heap, slotsUsed := s₂.slotsUsed } : State).setVm s₂.vm).frames = .java g₀ :: r := hr
  obtain ⟨hoq, hRH, L, hW₂, hsm, hL⟩ := hq
  obtain rfl : o = .threw q := hoq
  have hsm : (U.calling g mk a).sameButNew ({ s₂ with vm := (U.calling g mk a).vm } : State) L (hnx h' - hnx h) (hsl h' - hsl h) := hsm
  obtain ⟨e2, q2, q3, q4, q5, q6⟩ := id hsm
  have e3 : s₂ = ({ (U.calling g mk a).setFrames s₂.frames with heap := s₂.heap, slotsUsed := s₂.slotsUsed } : State).setVm s₂.vm := by
    have : s₂ = ({ s₂ with vm := (U.calling g mk a).vm } : State).setVm s₂.vm := rfl
    rw [e2] at this
    exact this
  have hf₂ : s₂.frames = .throwing q :: .java g :: U.frames.tail := hend
  have hW' : U.WarmedH s₂.vm := hW₂
  have hs₂ : s₂ = ((({ U with heap := s₂.heap, slotsUsed := s₂.slotsUsed } : State).setVm s₂.vm).setTop g).pushFrame (.throwing q) := by
    refine e3.trans ?_
    rw [hf₂, State.calling_eq ht.top, State.setFrames_setFrames, State.pushFrame, State.frames_setTop _ hr', State.setTop_of_frames _ hr', State.setFrames_setFrames, hr]
    rfl
  have hsame : U.sameButNew ({ U with heap := s₂.heap, slotsUsed := s₂.slotsUsed } : State) L (hnx h' - hnx h) (hsl h' - hsl h) := by
    refine ⟨?_, q2, q3, q4, q5, q6⟩
    obtain ⟨t, ht2, -⟩ := State.frames_cons hr
    show ({ U with heap := s₂.heap, slotsUsed := s₂.slotsUsed } : State) = { U.setFrames U.frames with heap := s₂.heap, slotsUsed := s₂.slotsUsed }
    rw [State.setFrames_self ht2]
  subst hg
  refine ⟨⟨(({ U with heap := s₂.heap, slotsUsed := s₂.slotsUsed } : State).setVm s₂.vm), Ls ++ L, c0 + (hnx h' - hnx h), s0 + (hsl h' - hsl h)⟩,
    ⟨Xs.admits, Xs.cas, Xs.clock, Xs.frames, Xs.room, Xs.hears, Xs.method, Xs.code, (Xs.here.setHeapUsed s₂.heap s₂.slotsUsed).setVm hW'.alike, Xs.tail, State.WarmedH.trans Xs.warmed hW', Xs.limits, Xs.bytes, Xs.same.trans (hsame.setVm s.vm)⟩,
    hRH, ⟨L, rfl, hL⟩, rfl, rfl, ?_⟩
  show Steps p.tables e below _ (((({ U with heap := s₂.heap, slotsUsed := s₂.slotsUsed } : State).setVm s₂.vm).setTop g).pushFrame (.throwing q))
  rw [← hs₂]
  exact hsteps
theorem tp_fcm {s0 s : State} {C : String} {c : ClassId} (hW : s0.WarmedH s.vm) (h : s0.vm.findClass C = some c) : s.vm.findClass C = some c := by rw [hW.alike.findClass]; exact h
theorem sim_cv (hG : tp_Good X az) {index b k n hd0 : Nat} {C : String} (hd : decode cc pc = .ok (.invokevirtual index, 3)) (hfc0 : (xs0 X).vm.findClass C = some (xD X b)) (hm : tp_Mk (nm k) (by_ k) (ml k) (rt k) n) (hh : tp_hh (nm k) = []) (hlink : Cond.methodLink own.cls index (nm k) ∈ lw_all) (hinst : Cond.instanceMethod (nm k) ∈ lw_all) (hsel : Cond.selects C (nm k) (nm k) ∈ lw_all) : tp_SimC X own cc ret nL pc 3 (o_cv (.invokevirtual index) b k n hd0) nm by_ ml rt := by
  intro p l e R s m args below meth c Q a0 b0 d F hR1 hR2 L S h k' hd9 as L' S' h1 hnx
  simp only [o_cv] at hnx
  rcases hpop : tp_pop n S [] with _ | ⟨as0, S0⟩ <;> rw [hpop] at hnx
  · cases hnx
  rcases S0 with _ | ⟨x | x | _ | a, S0⟩ <;> try (simp at hnx; done)
  simp only at hnx
  rcases h0 : hat h a with _ | ⟨⟩ | ⟨c', fs⟩ <;> rw [h0] at hnx
  · cases hnx
  · cases hnx
  by_cases hb : ¬ (c' = b ∧ S0.length ≤ 12)
  · simp only [if_neg hb] at hnx; cases hnx
  have hb := Classical.not_not.mp hb
  simp only [if_pos hb, tp_ask] at hnx
  obtain ⟨rfl, h12⟩ := hb
  cases hnx
  refine ⟨rfl, rfl, fun o h2 hM hle hz1 hz2 => ?_⟩
  have hW := F.2.2.2.2.2.2.1
  have hcw : tp_cw (nm k) (by_ k) (ml k) (rt k) = Cond.code (nm k) (by_ k) (ml k) (rt k) := by simp [tp_cw, hh]
  have hcd : (Cond.code (nm k) (by_ k) (ml k) (rt k)).before args s = true := by
    have := tp_word hG hW hm.1 args
    rwa [hcw] at this
  rcases o with v | q
  · intro ok H locs cells slots ls st hK hL hS hl hc1 hs T hT Xs
    obtain ⟨vs, st', e1, e2, e3, front, e4, e5⟩ := tp_pop_spec n S [] as0 _ st hpop hS
    rcases st' with _ | ⟨cv, st'⟩
    · exact e3.elim
    obtain ⟨e6, e7⟩ := e3
    obtain rfl := e6
    obtain ⟨cell, q1, q2, q3, q4, q5, q6⟩ := hK.2.2.2.1 a _ h0
    have hfc := tp_fcm hW hfc0
    have hlen := tp_RS_len _ _ e7
    obtain ⟨cv, vm₁, B, g1, g2, g3, g4⟩ := callV Xs F.1 (C := C) F.2.2.2.2.2.1 (tp_word hG hW hlink args) (tp_word hG hW hinst args) (tp_word hG hW hsel args) hcd hm.2.2.1
      (tp_back hG hW hM hm hR1 hR2) (b := a) (by rw [hT]; exact q1) q4 (by rw [q2]; exact hfc) (g := F0 m pc ls st) rfl (by rw [F.2.2.2.2.1]; exact hL.2.1) (argsL := vs.reverse) (rest := st') (fun sig hsig => by rw [List.length_reverse, e2]; exact (hm.2.2.2.1 sig hsig).symm) (by show st = _; rw [List.reverse_reverse, e1]) (by show 2 * 0 + _ ≤ 24; omega) (by rw [F.2.1]; exact hd)
      (fun vm₁ hv => ⟨by show cells + _ ≤ _; omega, by show slots + _ ≤ _; omega, by
        rw [e4, List.append_nil]
        exact ⟨rfl, e5⟩, State.WarmedH.trans hW hv, by show tp_RH X h T.heap; rw [hT]; exact hK, F.2.2.2.2.2.2.2.1⟩)
    exact tp_after hle hc1 hs hL e7 hl ok g2 g3 g4
  · by_cases hd1 : hd0 = 0
    · exact Or.inl hd1
    refine Or.inr fun okx H locs cells slots ls st hK hL hS hl hc1 hs T hT Xs => ?_
    obtain ⟨vs, st', e1, e2, e3, front, e4, e5⟩ := tp_pop_spec n S [] as0 _ st hpop hS
    rcases st' with _ | ⟨cv, st'⟩
    · exact e3.elim
    obtain ⟨e6, e7⟩ := e3
    obtain rfl := e6
    obtain ⟨cell, q1, q2, q3, q4, q5, q6⟩ := hK.2.2.2.1 a _ h0
    have hfc := tp_fcm hW hfc0
    have hlen := tp_RS_len _ _ e7
    obtain ⟨mk, methM, hnamed, hmethM, hstM, habM⟩ := Cond.instanceMethod_spec (tp_word hG hW hinst args)
    obtain ⟨methM', cM, hmethM', -, -, -, -, -, -, hsigM⟩ := Cond.code_spec hnamed hcd
    cases hmethM.symm.trans hmethM'
    obtain ⟨c2, r2, m2, u1, u2, u3, u4, kP, hkP, hkPi⟩ := Cond.selects_spec (tp_word hG hW hsel args)
    cases (show s.vm.findClass C = some cell.cls by rw [q2]; exact hfc).symm.trans u1
    cases (State.methodFound?_of_named hnamed hm.2.2.1).symm.trans u2
    cases hnamed.symm.trans u3
    have hselP : selectMethod e.platform s.vm cell.cls mk = .method mk := by rw [Launch.admits_selectMethod Xs.admits]; exact u4
    obtain ⟨vm₁, X₁, hstep₁⟩ := Xs.invokevirtual F.1 F.2.2.2.2.2.1 (tp_word hG hW hlink args) hnamed hmethM hstM hkP hkPi hm.2.2.1 (a := a) (cell := cell) (by rw [hT]; exact q1)
      (fun z h => by rw [h] at q4; cases q4) hselP hmethM habM hkP hkPi (g := F0 m pc ls st) rfl (argsL := vs.reverse) (rest := st') (by rw [List.length_reverse, e2]; exact (hm.2.2.2.1 _ hsigM).symm) (by show st = _; rw [List.reverse_reverse, e1]) (by rw [F.2.1]; exact hd)
    obtain ⟨⟨U', l2, c2, s2⟩, X2, w1, ⟨L2, w2, w3⟩, w4, w5, w6⟩ := tp_backX hG hW hM hm hh hR1 hR2 m meth c ⟨T.setVm vm₁, locs, cells, slots⟩ { F0 m pc ls st with stack := st' } (.invokevirtual index) mk (Value.ref a :: vs.reverse).toArray X₁ rfl (by rw [F.2.2.2.2.1]; exact hL.2.1) (by rw [F.2.1]; exact hd) (by show 2 * 0 + (st'.map fun v => v.category).sum ≤ 24; omega) (X₁.named hnamed)
      ⟨by show cells + _ ≤ _; omega, by show slots + _ ≤ _; omega, by
        rw [e4, List.append_nil]
        exact ⟨rfl, e5⟩, State.WarmedH.trans hW X₁.warmed, by show tp_RH X h T.heap; rw [hT]; exact hK, F.2.2.2.2.2.2.2.1⟩
    dsimp only [Pt.U, Pt.locs, Pt.cells, Pt.slots] at X2 w1 w2 w4 w5 w6
    subst w2; subst w4; subst w5
    obtain ⟨t, a1, b1⟩ := okx U'.heap _ _ _ ls st' w1 hL (fun z hz => by
      rcases List.mem_append.mp hz with q | q
      · exact hl z q
      · exact w3 z q) (by omega) (by omega) U' rfl X2
    exact ⟨t, hstep₁ _ (fun acts => by rw [doInvoke_state]; exact w6.trans a1), b1⟩
theorem sim_cs (hG : tp_Good X az) {index k n : Nat} (hd : decode cc pc = .ok (.invokestatic index, 3)) (hm : tp_Mk (nm k) (by_ k) (ml k) (rt k) n) (hh : tp_hh (nm k) = []) (hlink : Cond.methodLink own.cls index (nm k) ∈ lw_all) (hstat : Cond.static (nm k) ∈ lw_all) : tp_SimC X own cc ret nL pc 3 (o_cs (.invokestatic index) k n 0) nm by_ ml rt := by
  intro p l e R s m args below meth c Q a0 b0 d F hR1 hR2 L S h k' hd9 as L' S' h1 hnx
  simp only [o_cs] at hnx
  rcases hpop : tp_pop n S [] with _ | ⟨as0, S0⟩ <;> rw [hpop] at hnx
  · cases hnx
  simp only at hnx
  by_cases hb : ¬ (S0.length ≤ 12)
  · simp only [if_neg hb] at hnx; cases hnx
  have hb := Classical.not_not.mp hb
  simp only [if_pos hb, tp_ask] at hnx
  cases hnx
  refine ⟨rfl, rfl, fun o h2 hM hle hz1 hz2 => ?_⟩
  have hW := F.2.2.2.2.2.2.1
  have hcw : tp_cw (nm k) (by_ k) (ml k) (rt k) = Cond.code (nm k) (by_ k) (ml k) (rt k) := by simp [tp_cw, hh]
  have hcd : (Cond.code (nm k) (by_ k) (ml k) (rt k)).before args s = true := by
    have := tp_word hG hW hm.1 args
    rwa [hcw] at this
  rcases o with v | q
  · intro ok H locs cells slots ls st hK hL hS hl hc1 hs T hT Xs
    obtain ⟨vs, st', e1, e2, e7, front, e4, e5⟩ := tp_pop_spec n S [] as _ st hpop hS
    have hlen := tp_RS_len _ _ e7
    obtain ⟨cv, vm₁, B, g1, g2, g3, g4⟩ := callS Xs F.1 F.2.2.2.2.2.1 (tp_word hG hW hlink args) (tp_word hG hW hstat args) (tp_word hG hW hm.2.1 args) hcd hm.2.2.1
      (tp_back hG hW hM hm hR1 hR2) (g := F0 m pc ls st) rfl (by rw [F.2.2.2.2.1]; exact hL.2.1) (argsL := vs.reverse) (rest := st') (fun sig hsig => by rw [List.length_reverse, e2]; exact (hm.2.2.2.1 sig hsig).symm) (by show st = _; rw [List.reverse_reverse, e1]) (by show 2 * 0 + _ ≤ 24; omega) (by rw [F.2.1]; exact hd)
      (fun vm₁ hv => ⟨by show cells + _ ≤ _; omega, by show slots + _ ≤ _; omega, by
        rw [e4, List.append_nil]
        exact e5, State.WarmedH.trans hW hv, by show tp_RH X h T.heap; rw [hT]; exact hK, F.2.2.2.2.2.2.2.1⟩)
    exact tp_after hle hc1 hs hL e7 hl ok g2 g3 g4
  · exact Or.inl rfl
theorem sim_cp (hG : tp_Good X az) {index k n : Nat} (hd : decode cc pc = .ok (.invokespecial index, 3)) (hm : tp_Mk (nm k) (by_ k) (ml k) (rt k) n) (hh : tp_hh (nm k) = []) (hr : rt k = none) (hy1 : (nm k).name = "<init>") (hlink : Cond.methodLink own.cls index (nm k) ∈ lw_all) (hinst : Cond.instanceMethod (nm k) ∈ lw_all) : tp_SimC X own cc ret nL pc 3 (o_cp (.invokespecial index) k n 0) nm by_ ml rt := by
  intro p l e R s m args below meth c Q a0 b0 d F hR1 hR2 L S h k' hd9 as L' S' h1 hnx
  simp only [o_cp] at hnx
  rcases hpop : tp_pop n S [] with _ | ⟨as0, S0⟩ <;> rw [hpop] at hnx
  · cases hnx
  rcases S0 with _ | ⟨x | x | _ | a, S0⟩ <;> try (simp at hnx; done)
  simp only at hnx
  by_cases hb : ¬ (S0.length ≤ 12)
  · simp only [if_neg hb] at hnx; cases hnx
  have hb := Classical.not_not.mp hb
  simp only [if_pos hb, tp_ask] at hnx
  cases hnx
  refine ⟨rfl, rfl, fun o h2 hM hle hz1 hz2 => ?_⟩
  have hW := F.2.2.2.2.2.2.1
  have hcw : tp_cw (nm k) (by_ k) (ml k) (rt k) = Cond.code (nm k) (by_ k) (ml k) (rt k) := by simp [tp_cw, hh]
  have hcd : (Cond.code (nm k) (by_ k) (ml k) none).before args s = true := by
    have := tp_word hG hW hm.1 args
    rwa [hcw, hr] at this
  rcases o with v | q
  · intro ok H locs cells slots ls st hK hL hS hl hc1 hs T hT Xs
    obtain ⟨vs, st', e1, e2, e3, front, e4, e5⟩ := tp_pop_spec n S [] as0 _ st hpop hS
    rcases st' with _ | ⟨cv, st'⟩
    · exact e3.elim
    obtain ⟨e6, e7⟩ := e3
    obtain rfl := e6
    have hlen := tp_RS_len _ _ e7
    obtain ⟨cv, vm₁, B, g1, g2, g3, g4⟩ := callI Xs F.1 F.2.2.2.2.2.1 hy1 (tp_word hG hW hlink args) (tp_word hG hW hinst args) hcd hm.2.2.1
      (tp_back hG hW hM hm hR1 hR2) (g := F0 m pc ls st) rfl (by rw [F.2.2.2.2.1]; exact hL.2.1) (a := a) (argsL := vs.reverse) (rest := st') (fun sig hsig => by rw [List.length_reverse, e2]; exact (hm.2.2.2.1 sig hsig).symm) (by show st = _; rw [List.reverse_reverse, e1]) (by show 2 * 0 + _ ≤ 24; omega) (by rw [F.2.1]; exact hd)
      (fun vm₁ hv => ⟨by show cells + _ ≤ _; omega, by show slots + _ ≤ _; omega, by
        rw [e4, List.append_nil]
        exact ⟨rfl, e5⟩, State.WarmedH.trans hW hv, by show tp_RH X h T.heap; rw [hT]; exact hK, F.2.2.2.2.2.2.2.1⟩)
    exact tp_after hle hc1 hs hL e7 hl ok g2 g3 g4
  · exact Or.inl rfl
theorem sim_cpN (hG : tp_Good X az) {index k n : Nat} {host : String} (hd : decode cc pc = .ok (.invokespecial index, 3)) (hm : tp_Mk (nm k) (by_ k) (ml k) (rt k) n) (hh : tp_hh (nm k) = []) (hr : rt k = none) (hy1 : (nm k).name = "<init>") (hlink : Cond.methodLinkNest own.cls index (nm k) host ∈ lw_tbl) (hinst : Cond.instanceMethod (nm k) ∈ lw_all) : tp_SimC X own cc ret nL pc 3 (o_cp (.invokespecial index) k n 0) nm by_ ml rt := by
  intro p l e R s m args below meth c Q a0 b0 d F hR1 hR2 L S h k' hd9 as L' S' h1 hnx
  simp only [o_cp] at hnx
  rcases hpop : tp_pop n S [] with _ | ⟨as0, S0⟩ <;> rw [hpop] at hnx
  · cases hnx
  rcases S0 with _ | ⟨x | x | _ | a, S0⟩ <;> try (simp at hnx; done)
  simp only at hnx
  by_cases hb : ¬ (S0.length ≤ 12)
  · simp only [if_neg hb] at hnx; cases hnx
  have hb := Classical.not_not.mp hb
  simp only [if_pos hb, tp_ask] at hnx
  cases hnx
  refine ⟨rfl, rfl, fun o h2 hM hle hz1 hz2 => ?_⟩
  have hW := F.2.2.2.2.2.2.1
  have hcw : tp_cw (nm k) (by_ k) (ml k) (rt k) = Cond.code (nm k) (by_ k) (ml k) (rt k) := by simp [tp_cw, hh]
  have hcd : (Cond.code (nm k) (by_ k) (ml k) none).before args s = true := by
    have := tp_word hG hW hm.1 args
    rwa [hcw, hr] at this
  rcases o with v | q
  · intro ok H locs cells slots ls st hK hL hS hl hc1 hs T hT Xs
    obtain ⟨vs, st', e1, e2, e3, front, e4, e5⟩ := tp_pop_spec n S [] as0 _ st hpop hS
    rcases st' with _ | ⟨cv, st'⟩
    · exact e3.elim
    obtain ⟨e6, e7⟩ := e3
    obtain rfl := e6
    have hlen := tp_RS_len _ _ e7
    obtain ⟨cv, vm₁, B, g1, g2, g3, g4⟩ := va_callIN Xs F.1 F.2.2.2.2.2.1 hy1 (va_Nw.use rfl (va_Nw.warmM hW (va_Nw.of rfl (hG.1 _ hlink)))) (tp_word hG hW hinst args) hcd hm.2.2.1
      (tp_back hG hW hM hm hR1 hR2) (g := F0 m pc ls st) rfl (by rw [F.2.2.2.2.1]; exact hL.2.1) (a := a) (argsL := vs.reverse) (rest := st') (fun sig hsig => by rw [List.length_reverse, e2]; exact (hm.2.2.2.1 sig hsig).symm) (by show st = _; rw [List.reverse_reverse, e1]) (by show 2 * 0 + _ ≤ 24; omega) (by rw [F.2.1]; exact hd)
      (fun vm₁ hv => ⟨by show cells + _ ≤ _; omega, by show slots + _ ≤ _; omega, by
        rw [e4, List.append_nil]
        exact ⟨rfl, e5⟩, State.WarmedH.trans hW hv, by show tp_RH X h T.heap; rw [hT]; exact hK, F.2.2.2.2.2.2.2.1⟩)
    exact tp_after hle hc1 hs hL e7 hl ok g2 g3 g4
  · exact Or.inl rfl
end Calls7
