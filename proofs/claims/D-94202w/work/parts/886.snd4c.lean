/-! SOUNDNESS 4c: the constructor of an exception (lines of the kit's EXCEPTIONS, turned to this claim) -/
section Exc
variable {p : Program} {l : Launch} {e : Env} {R : Room} {s : State} {m : MethodId} {args : Array Value} {below : List Frame} {meth : Method} {c : Code} {locs : List Loc} {cells slots : Nat}
theorem tp_vx_frame {U : State} {k n : Nat} (h : s.sameButNew ({ U with vm := s.vm } : State) locs k n) : s.heap.size ≤ U.heap.size ∧ ∀ q : Nat, q < s.heap.size → (∀ z ∈ locs, z.base ≠ q) → U.heap[q]? = s.heap[q]? := by
  obtain ⟨-, h2, -, -, -, h6⟩ := h
  refine ⟨h2, fun q hq hz => ?_⟩
  obtain ⟨c9, e1, e2, e3, e4⟩ := h6 q _ (Array.getElem?_eq_getElem hq)
  have hs : c9.slots = (s.heap[q]).slots := Array.ext_getElem? fun i => e4 i fun hm => hz _ hm rfl
  have h9 : c9 = s.heap[q] := by
    rw [hs] at e2
    exact e2
  have e5 : U.heap[q]? = some c9 := e1
  rw [e5, h9, Array.getElem?_eq_getElem hq]
def tp_vx_L (C n d : String) (A : Nat → Prop) (U : State) (H : Heap) : Prop := ∃ (c : ClassId) (k : Class) (i : Nat) (f : Field) (a : Nat) (cell : Cell), U.vm.findClass C = some c ∧ U.fieldFound? C n d = some (c, k, i, f) ∧ f.isStatic = true ∧ k.statics = some a ∧ H[a]? = some cell ∧ cell.vm.isStatics = true ∧ cell.cls = c ∧ f.slot < cell.slots.size ∧ k.staticTypes[f.slot]? = some f.type ∧ ¬ A a
theorem tp_vx_L.moved {C n d : String} {A : Nat → Prop} {u U : State} {H : Heap} (hvm : u.vm.Alike U.vm) (h : tp_vx_L C n d A u H) : tp_vx_L C n d A U H := by
  obtain ⟨c, k, i, f, a, cell, h1, h2, h3, h4, h5, h6, h7, h8, h9, h10⟩ := h
  obtain ⟨k', hi', he⟩ := State.fieldFound?_setVm hvm h2
  exact ⟨c, k', i, f, a, cell, by rw [hvm.findClass]; exact h1, hi', h3, by rw [he]; exact h4, h5, h6, h7, h8, by rw [he]; exact h9, h10⟩
theorem tp_vx_L.kept {C n d : String} {A : Nat → Prop} {U : State} {H H1 : Heap} (h : tp_vx_L C n d A U H) (hq : ∀ a : Nat, a < H.size → ¬ A a → H1[a]? = H[a]?) : tp_vx_L C n d A U H1 := by
  obtain ⟨c, k, i, f, a, cell, h1, h2, h3, h4, h5, h6, h7, h8, h9, h10⟩ := h
  exact ⟨c, k, i, f, a, cell, h1, h2, h3, h4, by rw [hq a (Array.getElem?_eq_some_iff.mp h5).1 h10]; exact h5, h6, h7, h8, h9, h10⟩
theorem tp_vx_L.narrow {C n d : String} {A B : Nat → Prop} {U : State} {H : Heap} (h : tp_vx_L C n d A U H) (hAB : ∀ q, B q → A q) : tp_vx_L C n d B U H := by
  obtain ⟨c, k, i, f, a, cell, h1, h2, h3, h4, h5, h6, h7, h8, h9, h10⟩ := h
  exact ⟨c, k, i, f, a, cell, h1, h2, h3, h4, h5, h6, h7, h8, h9, fun z => h10 (hAB _ z)⟩
theorem tp_vx_L.word {C n d : String} {A : Nat → Prop} {s : State} {args : Array Value} (h : tp_vx_L C n d A s s.heap) : (Cond.laysStatic C n d).before args s = true := by
  obtain ⟨c, k, i, f, a, cell, h1, h2, h3, h4, h5, h6, h7, h8, h9, -⟩ := h
  show (Cond.laysStatic C n d).holds args s none s [] = true
  exact Cond.laysStatic_of h1 h2 h3 h4 h5 h6 h7 h8 h9
/-- .. and what it holds: null or some reference -/
theorem tp_vx_isRef {C n d : String} {v : Value} {A : Nat → Prop} {s : State} {args : Array Value} (h : va_Z C n d v A s s.heap) (hv : v.isRef = true) : (Cond.isRef (.static C n d)).before args s = true := by
  obtain ⟨cf, kf, fi, f, a, cell, h1, h2, h3, h4, h5, h6, h7, -⟩ := h
  have he : (Term.static C n d).eval args s none [] s = some v := by
    simp [Term.eval, State.fieldNamed?, h1, h2, h4, h5, h6, h7]
  simp only [Cond.before, Cond.holds, Cond.value, he]
  cases v <;> simp_all [Value.isRef]
theorem tp_vx_rebase {T : State} (X : Stand p l e R s m args below meth c T locs cells slots) {R' : Room} (hf : R'.frames ≤ R.frames) (hl : R'.locals ≤ R.locals) (hc : cells + R'.cells ≤ R.cells) (hs : slots + R'.slots ≤ R.slots) :
    Stand p l e R' ((T.setVm s.vm).setFrames (.invoking m args :: below)) m args below meth c T [] 0 0 := by
  have htop : (T.setVm s.vm).topJava?.isSome := X.here.top
  have hF : ((T.setVm s.vm).setFrames (.invoking m args :: below)).frames = .invoking m args :: below := State.frames_setFrames _ (State.cur_lt_of_top htop)
  obtain ⟨g₀, hg0⟩ := Option.isSome_iff_exists.mp htop
  obtain ⟨r, hr⟩ := State.topJava?_eq_some.mp hg0
  have hl9 : e.platform.stackLimits (T.setVm s.vm).me = e.platform.stackLimits s.me := X.limits
  have hb9 : (T.setVm s.vm).me.stackBytes = s.me.stackBytes := X.bytes
  refine ⟨X.admits, X.cas, X.clock, hF, ?_, X.hears, X.method, X.code, X.here, X.tail, X.warmed, ?_, ?_, ?_⟩
  · have h := X.room
    have hU : ((T.setVm s.vm).setFrames (.invoking m args :: below)).localsInUse = s.localsInUse := by
      rw [State.localsInUse_invoking hF (meth := meth) (c := c) X.method X.code, State.localsInUse_invoking X.frames X.method X.code]
    simp only [State.hasRoom, Bool.and_eq_true, decide_eq_true_eq] at h ⊢
    obtain ⟨⟨⟨⟨h1, h2, h3, h4, h5, h6⟩, h7⟩, h8⟩, h9⟩ := h
    rw [X.frames, List.length_cons] at h2 h3
    have q1 := X.heapSize
    have q2 := X.used
    simp only [hF, hU, List.length_cons, State.stackLimits_setFrames, State.stackBytes_setFrames, hl9, hb9]
    refine ⟨⟨⟨⟨by omega, by omega, by omega, by omega, by omega, h6⟩, ?_⟩, ?_⟩, X.book⟩
    · show T.heap.size + R'.cells ≤ e.platform.maxCells
      omega
    · show T.slotsUsed + R'.slots ≤ e.platform.maxSlots
      omega
  · rw [State.stackLimits_setFrames]; rfl
  · rw [State.stackBytes_setFrames]; rfl
  · refine ⟨?_, Nat.le_refl _, Nat.le_refl _, ?_, ?_, fun a c9 h9 => ⟨c9, h9, rfl, rfl, fun _ _ => rfl⟩⟩
    · obtain ⟨t, ht, -⟩ := State.frames_cons hr
      show T.setVm s.vm = { ((T.setVm s.vm).setFrames (.invoking m args :: below)).setFrames (T.setVm s.vm).frames with heap := T.heap, slotsUsed := T.slotsUsed }
      rw [State.setFrames_setFrames, State.setFrames_self ht]
      rfl
    · show T.slotsUsed = T.slotsUsed + ((T.heap.toList.drop T.heap.size).map (·.slots.size)).sum
      rw [List.drop_eq_nil_of_le (Nat.le_of_eq Array.length_toList)]
      rfl
    · show ((T.heap.toList.drop T.heap.size).map (·.slots.size)).sum ≤ 0
      rw [List.drop_eq_nil_of_le (Nat.le_of_eq Array.length_toList)]
      exact Nat.le_refl _
theorem tp_vx_back9 {T S : State} {R' : Room} {k n : Nat} {L : List Loc} (X : Stand p l e R s m args below meth c T locs cells slots) (Y : Stand p l e R' ((T.setVm s.vm).setFrames (.invoking m args :: below)) m args below meth c T [] 0 0) (Z : Stand p l e R' ((T.setVm s.vm).setFrames (.invoking m args :: below)) m args below meth c S L k n) :
    Stand p l e R s m args below meth c S (locs ++ L) (cells + k) (slots + n) := by
  have hW0 : s.WarmedH ((T.setVm s.vm).setFrames (.invoking m args :: below)).vm := State.WarmedH.refl s
  refine { admits := X.admits, cas := X.cas, clock := X.clock, frames := X.frames, room := X.room, hears := X.hears, method := X.method, code := X.code, here := Z.here, tail := Z.tail, warmed := State.WarmedH.trans hW0 Z.warmed, limits := Z.limits.trans (Y.limits.symm.trans X.limits), bytes := Z.bytes.trans (Y.bytes.symm.trans X.bytes), same := ?_ }
  obtain ⟨e1, e2⟩ := Z.same
  rw [State.setFrames_setFrames] at e1
  have h2 : (T.setVm s.vm).sameButNew (S.setVm s.vm) L k n := ⟨e1, e2⟩
  exact X.same.trans h2
end Exc
/-- a static of references: what it holds, where it lies -/
def tp_Zr (X : tp_X) (C n d : String) (j : Nat) : Prop := (∃ v, va_Z C n d v (fun _ => False) (xs0 X) (xs0 X).heap ∧ v.isRef = true ∧ tp_RV (xG X j) v) ∧ tp_vx_L C n d (fun _ => False) (xs0 X) (xs0 X).heap
def tp_thrA : List Cond := Bundle.throwableAtoms.filter (fun w => decide (w ≠ .laysStatic Bundle.tN "UNASSIGNED_STACK" Bundle.steD) && decide (w ≠ .laysStatic Bundle.tN "SUPPRESSED_SENTINEL" Bundle.listD))
def tp_thrB : List Cond := [.instanceMethod (Bundle.init0 "java/lang/Exception"), .code (Bundle.init0 "java/lang/Exception") Bundle.five 1 none, .methodLink "java/lang/Exception" 1 (Bundle.init0 Bundle.tN), .instanceMethod (Bundle.init0 Bundle.tN), .selects "ThroughPack$Wrong" Bundle.tFill0 Bundle.tFill0, .selects "ThroughPack$Wrong" Bundle.tFill Bundle.tFill, .fieldLink Bundle.tN 198 Bundle.tN "backtrace" "Ljava/lang/Object;", .lays Bundle.tN Bundle.tN "backtrace" "Ljava/lang/Object;", .instantiable "ThroughPack$Wrong" 8, .methodLink "ThroughPack$Wrong" 1 (Bundle.init0 "java/lang/Exception")]
theorem in_thrA : ∀ w ∈ tp_thrA, w ∈ lw_all := lw_in tp_thrA [140, 581, 590, 592, 595, 597, 582, 583, 163, 164, 584, 589, 593, 610, 571, 611, 573, 612, 575, 585, 587, 577] (by decide +kernel) (by decide +kernel)
theorem in_thrB : ∀ w ∈ tp_thrB, w ∈ lw_all := lw_in tp_thrB [602, 603, 604, 582, 568, 569, 580, 579, 562, 601] (by decide +kernel) (by decide +kernel)
theorem hc_6' : tp_cl[6]? = some (RX6, TX6, 8) := rfl
theorem tp_takes {s : State} {cell : Cell} {k : Class} {f : Field} {v : Value} (hk : s.vm.classes[cell.cls]? = some k) (hord : k.kind = .ordinary) (hvm : cell.vm = .none) (hz : f.slot < cell.slots.size) (hty : k.instanceTypes[f.slot]? = some f.type) (hv : fits f.type v = true) : Takes s cell f v := by
  refine ⟨hz, ?_⟩
  rw [hvm]
  simp [State.fitsSlot, State.slotType?, hk, hord, hty, hv]
section Sims4c
variable {X : tp_X} {az : Array Value} {own : MethodName} {cc : ByteArray} {ret : Option FieldType} {nL pc : Nat}
set_option maxHeartbeats 1000000 in
theorem sim_excinit (hG : tp_Good X az) (hU : tp_Zr X Bundle.tN "UNASSIGNED_STACK" Bundle.steD 9) (hN : tp_Zr X Bundle.tN "SUPPRESSED_SENTINEL" Bundle.listD 10) (hd : decode cc pc = .ok (.invokespecial 1, 3)) (ho : own = yX6_init) : tp_Sim X own cc ret nL pc 3 (o_excinit (.invokespecial 1)) := by
  intro p l e R s m args below meth c Q a0 b0 F L S h nx hnx
  rcases S with _ | ⟨x | x | _ | a, S⟩ <;> try (simp [o_excinit] at hnx; done)
  simp only [o_excinit] at hnx
  rcases h0 : hat h a with _ | ⟨⟩ | ⟨c', fs⟩ <;> rw [h0] at hnx
  · cases hnx
  · cases hnx
  by_cases hb : ¬ (c' = 6 ∧ fs 4 = xN ∧ S.length ≤ 12)
  · simp only [if_neg hb] at hnx; cases hnx
  have hb := Classical.not_not.mp hb
  simp only [if_pos hb, tp_go] at hnx
  obtain ⟨rfl, hb4, h12⟩ := hb
  cases hnx
  refine ⟨⟨Nat.le_refl _, Nat.le_refl _⟩, fun hz1 hz2 ok => ?_⟩
  intro H locs cells slots ls st hK hL hS hl hc1 hs
  rcases st with _ | ⟨v1, st⟩
  · exact hS.elim
  obtain ⟨e1, hS⟩ := hS
  obtain rfl := e1
  subst ho
  have hz1' : hnx h ≤ a0 + R.cells := hz1
  have hz2' : hsl h ≤ b0 + R.slots := hz2
  have hW := F.2.2.2.2.2.2.1
  have hlen := tp_RS_len _ _ hS
  have hR := F.2.2.2.2.2.2.2.2.2.2
  obtain ⟨cell, q1, q2, q3, q4, q5, q6, q7, q8⟩ := hK.2.2.2.1 a _ h0
  obtain ⟨hB, hvm, hmon1, hmon2⟩ := q8 (by omega)
  intro T hT Xs
  have hst : l.stackTraces = false := by rw [Launch.stackTraces, F.2.2.2.2.2.2.2.1]; decide +kernel
  have htr : e.platform.stackTraces = false := (show e.platform.stackTraces = l.stackTraces by rw [Xs.admits.platform]).trans hst
  have Y := tp_vx_rebase Xs (R' := { frames := R.frames, locals := R.locals, cells := 0, slots := 0 }) (Nat.le_refl _) (Nat.le_refl _) (by show cells + 0 ≤ _; omega) (by show slots + 0 ≤ _; omega)
  obtain ⟨s', hA'⟩ : ∃ z, z = (T.setVm s.vm).setFrames (.invoking m args :: below) := ⟨_, rfl⟩
  have Y0 := Y
  rw [← hA'] at Y
  have hvm' : s'.vm = s.vm := by rw [hA']; rfl
  have hhp : s'.heap = T.heap := by rw [hA']; rfl
  have hW' : (xs0 X).WarmedH s'.vm := by rw [hvm']; exact hW
  have hwA : ∀ w ∈ tp_thrA, w.before args s' = true := fun w h9 => tp_word hG hW' (in_thrA w h9) args
  have hwB : ∀ w ∈ tp_thrB, w.before args s' = true := fun w h9 => tp_word hG hW' (in_thrB w h9) args
  have keep : ∀ a : Nat, a < (xs0 X).heap.size → ¬ False → s'.heap[a]? = (xs0 X).heap[a]? := fun a ha _ => by rw [hhp, hT]; exact hK.2.2.2.2.2 a ha
  obtain ⟨⟨vU, zU, iU, rU⟩, lU⟩ := hU
  obtain ⟨⟨vN, zN, iN, rN⟩, lN⟩ := hN
  have zU' := va_Z.kept (va_Z.moved (U := s') hW'.alike zU) keep
  have zN' := va_Z.kept (va_Z.moved (U := s') hW'.alike zN) keep
  have lU' := tp_vx_L.word (args := args) (tp_vx_L.kept (tp_vx_L.moved (U := s') hW'.alike lU) keep)
  have lN' := tp_vx_L.word (args := args) (tp_vx_L.kept (tp_vx_L.moved (U := s') hW'.alike lN) keep)
  have wU := tp_vx_isRef (args := args) zU' iU
  have wN := tp_vx_isRef (args := args) zN' iN
  have hthr : ∀ w ∈ Bundle.throwableAtoms, w.before args s' = true := fun w h9 => by
    by_cases e1 : w = .laysStatic Bundle.tN "UNASSIGNED_STACK" Bundle.steD
    · rw [e1]; exact lU'
    · by_cases e2 : w = .laysStatic Bundle.tN "SUPPRESSED_SENTINEL" Bundle.listD
      · rw [e2]; exact lN'
      · exact hwA w (List.mem_filter.mpr ⟨h9, by rw [decide_eq_true e1, decide_eq_true e2]; rfl⟩)
  have howns : e.platform.frameOwnsMonitors = true := by rw [Xs.admits.platform]
  have hfin : e.platform.finalization = false := by rw [Xs.admits.platform]
  have hpl : e.platform.magicAccessors = ({} : Platform).magicAccessors := by rw [Xs.admits.platform]
  have hcls : Bundle.fit "java/lang/Exception" = true := by decide +kernel
  obtain ⟨TT, Z, LL, LZ, YY⟩ := ThrowableC.of_atoms (args := args) howns hfin hpl hthr
  obtain ⟨P1, Ps, hlen9, L1, hL9, hP1m, hlink1, hlink⟩ := Bundle.chain0 (args := args) hpl YY.init0 [] "java/lang/Exception" hcls (fun _ h9 => nomatch h9) (fun w hw9 => by
    simp only [Bundle.chain0Atoms, Bundle.passAtoms, List.mem_cons, List.not_mem_nil, or_false] at hw9
    rcases hw9 with rfl | rfl | rfl | rfl | rfl
    · exact hwB _ (by simp [tp_thrB])
    · exact hwB _ (by simp [tp_thrB])
    · exact hwB _ (by simp [tp_thrB])
    · exact hwB _ (by simp [tp_thrB])
    · exact va_Nw.use rfl (va_Nw.warmD hW' (va_Nw.of rfl (hG.1 _ q566))))
  have hfld (j : Nat) (hj : j < 8) := tp_fld hG hW' (b := 6) hc_6' hj in_X6
  have hfc : s'.vm.findClass "ThroughPack$Wrong" = some (xD X 6) := (u_Kn_moved hW'.alike (hG.2.1 6 _ hc_6')).2.1
  obtain ⟨c1, kX, hc1', hk, hord, -, -, hn6⟩ := Cond.instantiable_spec (hwB (.instantiable "ThroughPack$Wrong" 8) (by simp [tp_thrB]))
  cases Option.some.inj (hc1'.symm.trans hfc)
  rw [← q2] at hk hfc
  have hsel0 : selectMethod e.platform s'.vm cell.cls TT.fill0 = .method TT.fill0 := by
    obtain ⟨c2, r2, m2, z1, z2, z3, z4, -⟩ := Cond.selects_spec (hwB (.selects "ThroughPack$Wrong" Bundle.tFill0 Bundle.tFill0) (by simp [tp_thrB]))
    cases Option.some.inj (z1.symm.trans hfc)
    cases Option.some.inj (z2.symm.trans (State.methodFound?_of_named YY.fill0 (by decide)))
    cases Option.some.inj (z3.symm.trans YY.fill0)
    rw [Launch.admits_selectMethod Xs.admits]; exact z4
  have hselF : selectMethod e.platform s'.vm cell.cls TT.fill = .method TT.fill := by
    obtain ⟨c2, r2, m2, z1, z2, z3, z4, -⟩ := Cond.selects_spec (hwB (.selects "ThroughPack$Wrong" Bundle.tFill Bundle.tFill) (by simp [tp_thrB]))
    cases Option.some.inj (z1.symm.trans hfc)
    cases Option.some.inj (z2.symm.trans (State.methodFound?_of_named YY.fill (by decide)))
    cases Option.some.inj (z3.symm.trans YY.fill)
    rw [Launch.admits_selectMethod Xs.admits]; exact z4
  have hts : ∀ w ∈ lw_all, w.before args s' = true := fun w hw => tp_word hG hW' hw args
  obtain ⟨cellS0, hcS0, hiss⟩ := YY.statics
  obtain ⟨u0, hu0⟩ := Cond.staticRefV YY.unassigned LL.unassignedStatic LL.statics hcS0 hiss wU
  obtain ⟨sen, hsen⟩ := Cond.staticRefV YY.sentinel LL.sentinelStatic LL.statics hcS0 hiss wN
  have evU : u0.v = vU := by
    obtain ⟨cf, kf, fi, f, a9, cl9, y1, y2, y3, y4, y5, y6, y7, -⟩ := zU'
    cases Option.some.inj (y1.symm.trans YY.unassigned)
    cases Option.some.inj (y4.symm.trans LL.statics)
    cases Option.some.inj (y5.symm.trans hcS0)
    exact Option.some.inj (hu0.symm.trans y7)
  have evN : sen.v = vN := by
    obtain ⟨cf, kf, fi, f, a9, cl9, y1, y2, y3, y4, y5, y6, y7, -⟩ := zN'
    cases Option.some.inj (y1.symm.trans YY.sentinel)
    cases Option.some.inj (y4.symm.trans LL.statics)
    cases Option.some.inj (y5.symm.trans hcS0)
    exact Option.some.inj (hsen.symm.trans y7)
  have hneS : TT.aS ≠ a := by
    obtain ⟨cf, kf, fi, f, a9, cl9, y1, y2, y3, y4, y5, y6, y7, -⟩ := va_Z.moved (U := s') hW'.alike zU
    cases Option.some.inj (y1.symm.trans YY.unassigned)
    cases Option.some.inj (y4.symm.trans LL.statics)
    exact Nat.ne_of_lt (Nat.lt_of_lt_of_le (Array.getElem?_eq_some_iff.mp y5).1 hB)
  have hknownS : cellS0.vm ≠ .unknown := fun q => by rw [q] at hiss; cases hiss
  obtain ⟨ci198, i198, fB, hk198, hg198, ha198, hsB, -, hnB, htB, hffB⟩ := Cond.ownField (t := .object "java/lang/Object") YY.found LL.cls (by decide +kernel) (hwB (.fieldLink Bundle.tN 198 Bundle.tN "backtrace" "Ljava/lang/Object;") (by simp [tp_thrB])) (hwB (.lays Bundle.tN Bundle.tN "backtrace" "Ljava/lang/Object;") (by simp [tp_thrB])) e.platform hpl
  obtain ⟨tyC, dC, hdC, hdnC⟩ := Cond.laysAt hfc hk YY.cause (hts _ q570)
  obtain ⟨tyS, dS, hdS, hdnS⟩ := Cond.laysAt hfc hk YY.stack (hts _ q572)
  obtain ⟨tyP, dP, hdP, hdnP⟩ := Cond.laysAt hfc hk YY.supp (hts _ q574)
  obtain ⟨tyB, dB, hdB, hdnB⟩ := Cond.laysAt hfc hk hffB (hts _ q578)
  have bC := Cond.laysApart hdB hdC hdnB hdnC (by rw [hnB, YY.causeName]; decide)
  have bS := Cond.laysApart hdB hdS hdnB hdnS (by rw [hnB, YY.stackName]; decide)
  have bP := Cond.laysApart hdB hdP hdnB hdnP (by rw [hnB, YY.suppName]; decide)
  have sC : TT.fCause.slot = xF X 6 0 := by
    obtain ⟨cf, fi, kf, kC, fd, r1, r2, -⟩ := hfld 0 (by omega)
    cases Option.some.inj (r1.symm.trans YY.cause)
    exact r2
  have sS : TT.fStack.slot = xF X 6 1 := by
    obtain ⟨cf, fi, kf, kC, fd, r1, r2, -⟩ := hfld 1 (by omega)
    cases Option.some.inj (r1.symm.trans YY.stack)
    exact r2
  have sP : TT.fSupp.slot = xF X 6 2 := by
    obtain ⟨cf, fi, kf, kC, fd, r1, r2, -⟩ := hfld 2 (by omega)
    cases Option.some.inj (r1.symm.trans YY.supp)
    exact r2
  have sB : fB.slot = xF X 6 4 := by
    obtain ⟨cf, fi, kf, kC, fd, r1, r2, -⟩ := hfld 4 (by omega)
    cases Option.some.inj (r1.symm.trans hffB)
    exact r2
  have hap : ∀ x y, x < 8 → y < 8 → x ≠ y → xF X 6 x ≠ xF X 6 y := by
    intro x y hx hy hxy
    obtain ⟨cf1, fi1, kf1, kC1, fd1, t1, t2, t3, t4, t5, t6⟩ := hfld x hx
    obtain ⟨cf2, fi2, kf2, kC2, fd2, u1, u2, u3, u4, u5, u6⟩ := hfld y hy
    rw [← t2, ← u2]
    refine u_apart (u_lays hts in_X6 hx) (u_lays hts in_X6 hy) t1 u1 ?_
    rw [(State.fieldFound?_type t1 (tyX6_ok x hx)).1, (State.fieldFound?_type u1 (tyX6_ok y hy)).1]
    exact nmX6 x hx y hy hxy
  have hlen6 (j : Nat) (hj : j < 8) : xF X 6 j < cell.slots.size := by
    obtain ⟨cv, y1, -⟩ := q5 j hj
    exact (Array.getElem?_eq_some_iff.mp y1).1
  have hback : cell.slots[fB.slot]? = some .null := by
    obtain ⟨cv, y1, y2⟩ := q5 4 (by decide)
    rw [hb4] at y2
    rw [sB, y1, show cv = .null from y2]
  have hskip : SkipFacts TT e.platform s' (fun u => u) u0 ((preparedCellV TT.toThrowableT cell a u0 sen).withEntry T.cur) :=
    ⟨{ ci198 := ci198, i198 := i198, fBack := fB }, ⟨hk198, hg198, ha198, hsB⟩, by
      simpa [preparedCellV, Cell.setSlot, Cell.withEntry, Array.getElem?_setIfInBounds, bC, bS, bP, bC.symm, bS.symm, bP.symm] using hback, fun _ _ => rfl⟩
  have hown' : s'.vm.findClass "ThroughPack$Wrong" = some m.cls := by rw [hvm']; exact F.2.2.2.2.2.1
  obtain ⟨tm, methC, cdC, kC, vm₁, hnC, -, -, -, -, -, -, -, hW₁, st1⟩ := Steps.initCold (tb := p.tables) (e := e) (below := below) (s := s') (U := T) Y.here F.1 Y.warmed hpl hown' (t := Bundle.init0 "java/lang/Exception") rfl rfl (Bundle.fit_spec hcls).2
    (hwB (.methodLink "ThroughPack$Wrong" 1 (Bundle.init0 "java/lang/Exception")) (by simp [tp_thrB])) (hwB (.instanceMethod (Bundle.init0 "java/lang/Exception")) (by simp [tp_thrB])) (bytes := Bundle.five) (maxL := 1) (hwB (.code (Bundle.init0 "java/lang/Exception") Bundle.five 1 none) (by simp [tp_thrB]))
    (f := F0 m pc ls (.ref a :: st)) rfl (a := a) (rest := st) rfl (by rw [F.2.1]; exact hd)
  cases Option.some.inj (hnC.symm.trans hP1m)
  have X₁ := Y.noted hW₁
  have hsize : ls.size = c.maxLocals := by rw [F.2.2.2.2.1]; exact hL.2.1
  have hcellT : T.heap[a]? = some cell := by rw [hT]; exact q1
  obtain ⟨vm₂, X₂, st2⟩ := X₁.ctorPlainOffV F.1 (g := F0 m pc ls st) rfl hsize TT LL Z LZ (P1 :: Ps)
    (fun P hP => by rcases List.mem_cons.mp hP with rfl | hP; exact L1; exact hL9 P hP) ⟨hlink1, hlink⟩ (u0 := u0) (sen := sen) (self := a) (cell := cell) (cellS := cellS0)
    hcellT (fun k q => by rw [hvm] at q; cases q) q3 hmon1 hmon2 hsel0 hselF (by show T.heap[_]? = _; rw [← hhp]; exact hcS0) hneS hknownS hu0 hsen
    (tp_takes hk hord hvm (by rw [sC]; exact hlen6 0 (by omega)) tyC (by rw [YY.causeType]; rfl)) (tp_takes hk hord hvm (by rw [sS]; exact hlen6 1 (by omega)) tyS (by rw [YY.stackType]; exact fits_refV_array _ u0)) (tp_takes hk hord hvm (by rw [sP]; exact hlen6 2 (by omega)) tyP (by rw [YY.suppType]; exact fits_refV_object _ sen)) YY.objLocals hskip htr [] (by rw [F.2.1]; exact hd)
    (by simp only [List.length_cons, hlen9]; show 0 + 1 + 2 < R.frames; omega) (by simp only [List.length_cons, hlen9]; show 2 * 0 + _ + (13 * (0 + 1) + 41) ≤ R.locals; omega)
  generalize hce : (preparedCellV TT.toThrowableT cell a u0 sen).setSlot TT.fStack.slot u0.v = ce at X₂ st2
  have hlt : a < H.size := (Array.getElem?_eq_some_iff.mp q1).1
  have X5 := tp_vx_back9 Xs Y0 (by rw [hA'] at X₂; exact X₂)
  have g1 : (H.setIfInBounds a ce)[a]? = some ce := by simp [Array.getElem?_setIfInBounds, hlt]
  have g3 : ∀ q : Nat, q ≠ a → (H.setIfInBounds a ce)[q]? = H[q]? := fun q hq => by simp [Array.getElem?_setIfInBounds, Ne.symm hq]
  have hsz : ce.slots.size = cell.slots.size := by rw [← hce]; simp [preparedCellV, Cell.setSlot]
  have hget : ∀ j, j < 8 → ∃ cv, ce.slots[xF X 6 j]? = some cv ∧ tp_RV (tp_up (tp_up (tp_up fs 0 (xR a)) 1 (hgs h 9)) 2 (hgs h 10) j) cv := by
    intro j hj
    have d01 := hap 0 1 (by omega) (by omega) (by omega)
    have d02 := hap 0 2 (by omega) (by omega) (by omega)
    have d12 := hap 1 2 (by omega) (by omega) (by omega)
    have l0 := hlen6 0 (by omega)
    have l1 := hlen6 1 (by omega)
    have l2 := hlen6 2 (by omega)
    rw [← hce]
    simp only [preparedCellV, Cell.setSlot, Array.getElem?_setIfInBounds, Array.size_setIfInBounds, sC, sS, sP]
    by_cases j2 : j = 2
    · subst j2
      refine ⟨sen.v, by simp [d12, d02, l2, d12.symm], ?_⟩
      rw [tp_up, if_pos rfl, hK.2.2.1, evN]; exact rN
    · by_cases j1 : j = 1
      · subst j1
        refine ⟨u0.v, by simp [l1], ?_⟩
        rw [tp_up, if_neg j2, tp_up, if_pos rfl, hK.2.2.1, evU]; exact rU
      · by_cases j0 : j = 0
        · subst j0
          refine ⟨.ref a, by simp [d01.symm, d02.symm, l0], ?_⟩
          rw [tp_up, if_neg j2, tp_up, if_neg j1, tp_up, if_pos rfl]; rfl
        · obtain ⟨cv, y1, y2⟩ := q5 j hj
          have n0 := hap 0 j (by omega) hj (fun z => j0 z.symm)
          have n1 := hap 1 j (by omega) hj (fun z => j1 z.symm)
          have n2 := hap 2 j (by omega) hj (fun z => j2 z.symm)
          refine ⟨cv, by simp [n0, n1, n2, y1], ?_⟩
          rw [tp_up, if_neg j2, tp_up, if_neg j1, tp_up, if_neg j0]; exact y2
  have hcc : ce.cls = cell.cls ∧ ce.vm = cell.vm ∧ ce.monitor = cell.monitor := by rw [← hce]; exact ⟨rfl, rfl, rfl⟩
  obtain ⟨t9, a1, b1⟩ := ok (H.setIfInBounds a ce) (locs ++ ([] ++ [⟨a, TT.fCause.slot⟩, ⟨a, TT.fStack.slot⟩, ⟨a, TT.fSupp.slot⟩, ⟨a, TT.fStack.slot⟩])) cells slots ls st (tp_RH_put hK (H' := H.setIfInBounds a ce) (e' := eO 6 (tp_up (tp_up (tp_up fs 0 (xR a)) 1 (hgs h 9)) 2 (hgs h 10))) ⟨ce, g1, hcc.1.trans q2, by rw [hcc.2.1]; exact q3, by rw [hcc.2.1]; exact q4, hget, q6, q7, fun _ => ⟨hB, by rw [hcc.2.1]; exact hvm, by rw [hcc.2.2]; exact hmon1, by rw [hcc.2.2]; exact hmon2⟩⟩ (by simp) g3 hB (tp_HI_put hK.1 (fun c2 fs2 h2 => by
      rw [h0] at h2
      cases h2
      exact ⟨_, rfl⟩) (fun t n f h2 => by cases h2))) hL hS (fun z hz => by
        rcases List.mem_append.mp hz with h9 | h9
        · exact hl z h9
        · simp only [List.nil_append, List.mem_cons, List.not_mem_nil, or_false] at h9
          rcases h9 with rfl | rfl | rfl | rfl <;> exact hB) hc1 hs _ (by rw [← hT]; rfl) X5
  exact ⟨t9, st1 _ (fun acts => by
    rw [doInvoke_state]
    exact st2 _ a1), b1⟩
end Sims4c
