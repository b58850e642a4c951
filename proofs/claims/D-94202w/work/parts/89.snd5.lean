/-! SOUNDNESS 5: ends, contracts, calls -/
def tp_Out (o : tp_O) (oc : Outcome) : Prop := match o with
  | .inl none => oc = .returned none
  | .inl (some v) => ∃ cv, oc = .returned (some cv) ∧ tp_RV v cv
  | .inr q => oc = .threw q
/-- what has been written and made since s -/
def tp_FE (X : tp_X) (s t : State) (mc ms : Nat) : Prop := ∃ L : List Loc, s.WarmedH t.vm ∧ s.sameButNew ({ t with vm := s.vm } : State) L mc ms ∧ ∀ z ∈ L, (xs0 X).heap.size ≤ z.base
def tp_MQ (X : tp_X) (below : List Frame) (s : State) (o : tp_O) (h : tp_H) (mc ms : Nat) : State → Prop := fun t =>
  ∃ oc, t.status = .running ∧ Ended t below oc ∧ tp_Out o oc ∧ tp_RH X h t.heap ∧ tp_FE X s t mc ms
def tp_SimE (X : tp_X) (own : MethodName) (cc : ByteArray) (ret : Option FieldType) (nL pc : Nat) (op : tp_Op) : Prop :=
  ∀ (p : Program) (l : Launch) (e : Env) (R : Room) (s : State) (m : MethodId) (args : Array Value) (below : List Frame) (meth : Method) (c : Code) (a0 b0 : Nat), tp_Fr X own cc ret nL R p l s m meth c → ∀ (L : tp_L) (S : tp_T) (h : tp_H) (o : tp_O) (h' : tp_H), op.2 L S h = some (.inr (.inr (o, h'))) →
    h' = h ∧ tp_Ok X nL p l e R s m args below meth c (tp_MQ X below s o h (hnx h - a0) (hsl h - b0)) a0 b0 pc L S h
theorem tp_Wmono {p : Program} {l : Launch} {e : Env} {R : Room} {s : State} {m : MethodId} {args : Array Value} {below : List Frame} {meth : Method} {c : Code} {H : Heap} {locs : List Loc} {cells slots : Nat} {Q Q' : State → Prop} {g : JFrame} (h : W p l e R s m args below meth c H locs cells slots Q g) (hq : ∀ t, Q t → Q' t) : W p l e R s m args below meth c H locs cells slots Q' g := by
  intro T hT X
  obtain ⟨t, a, b⟩ := h T hT X
  exact ⟨t, a, hq t b⟩
theorem tp_MQ_of {X : tp_X} {below : List Frame} {args : Array Value} {s : State} {o : tp_O} {h : tp_H} {mc ms : Nat} {t : State} (hq : MQ below (fun _ _ oc t => tp_Out o oc ∧ tp_RH X h t.heap) args s mc ms (fun q => (xs0 X).heap.size ≤ q) t) : tp_MQ X below s o h mc ms t := by
  obtain ⟨oc, h1, h2, ⟨h3, h4⟩, L, ⟨-, h5, h6⟩, h7⟩ := hq
  exact ⟨oc, h1, h2, h3, h4, L, h5, h6, h7⟩
section Rets
variable {p : Program} {l : Launch} {e : Env} {R : Room} {s : State} {m : MethodId} {args : Array Value} {below : List Frame} {meth : Method} {c : Code} {H : Heap} {locs : List Loc} {cells slots : Nat}
theorem tp_vret {cc : ByteArray} {Qc : Array Value → State → Outcome → State → Prop} {free : Addr → Prop} (hexec : p.tables.exec = Jvm.exec) (hb : c.code = cc) (hr : meth.sig.returnType = none)
    (hq : ∀ t : State, t.heap = H → s.WarmedH t.vm → Qc args s (.returned none) t) (hf : ∀ q ∈ locs, free q.base)
    {pc : Nat} {ls : Array Slot} {rest : List Value} (hdg : decode cc pc = .ok (.return_, 1)) (hlocks : meth.locks = false) : W p l e R s m args below meth c H locs cells slots (MQ below Qc args s cells slots free) (F0 m pc ls rest) := by
  intro T hT X
  obtain ⟨fs, hret, hrun, hended, hW, hframe⟩ := X.leave (v := none) (fun _ => rfl)
  have hmeth' : T.vm.method? m = some meth := X.method'
  refine ⟨T.setFrames fs, ?_, .returned none, hrun, hended, hq _ hT hW, locs, ⟨⟨_, rfl⟩, hW, hframe⟩, hf⟩
  jvm_step X.here [X.here.top, hexec, hb, hdg, hmeth', hr]
  (try refine ⟨rfl, ?_⟩); (try refine ⟨rfl, ?_⟩)
  first | (intro acts; rw [hret _ acts rfl rfl rfl]) | rw [hret _ _ rfl rfl rfl]
  exact Steps.refl _
theorem tp_zret {cc : ByteArray} {Qc : Array Value → State → Outcome → State → Prop} {free : Addr → Prop} {v : Int32} {ty : FieldType} (hexec : p.tables.exec = Jvm.exec) (hb : c.code = cc) (hr : meth.sig.returnType = some ty) (hn : narrow ty (.int v) = .int v)
    (hq : ∀ t : State, t.heap = H → s.WarmedH t.vm → Qc args s (.returned (some (.int v))) t) (hf : ∀ q ∈ locs, free q.base)
    {pc : Nat} {ls : Array Slot} {rest : List Value} (hdg : decode cc pc = .ok (.ireturn, 1)) (hlocks : meth.locks = false) : W p l e R s m args below meth c H locs cells slots (MQ below Qc args s cells slots free) (F0 m pc ls (.int v :: rest)) := by
  intro T hT X
  obtain ⟨fs, hret, hrun, hended, hW, hframe⟩ := X.leave (v := some (.int v)) (fun h => by rw [hr] at h; cases h)
  have hmeth' : T.vm.method? m = some meth := X.method'
  refine ⟨T.setFrames fs, ?_, .returned (some (.int v)), hrun, hended, hq _ hT hW, locs, ⟨⟨_, rfl⟩, hW, hframe⟩, hf⟩
  jvm_step X.here [X.here.top, hexec, hb, hdg, hmeth', hr, hn]
  (try refine ⟨rfl, ?_⟩); (try refine ⟨rfl, ?_⟩)
  first | (intro acts; rw [hret _ acts rfl rfl rfl]) | rw [hret _ _ rfl rfl rfl]
  exact Steps.refl _
theorem tp_lret {cc : ByteArray} {Qc : Array Value → State → Outcome → State → Prop} {free : Addr → Prop} {v : Int64} (hexec : p.tables.exec = Jvm.exec) (hb : c.code = cc) (hr : meth.sig.returnType = some .long)
    (hq : ∀ t : State, t.heap = H → s.WarmedH t.vm → Qc args s (.returned (some (.long v))) t) (hf : ∀ q ∈ locs, free q.base)
    {pc : Nat} {ls : Array Slot} {rest : List Value} (hdg : decode cc pc = .ok (.lreturn, 1)) (hlocks : meth.locks = false) : W p l e R s m args below meth c H locs cells slots (MQ below Qc args s cells slots free) (F0 m pc ls (.long v :: rest)) := by
  intro T hT X
  obtain ⟨fs, hret, hrun, hended, hW, hframe⟩ := X.leave (v := some (.long v)) (fun h => by rw [hr] at h; cases h)
  have hmeth' : T.vm.method? m = some meth := X.method'
  refine ⟨T.setFrames fs, ?_, .returned (some (.long v)), hrun, hended, hq _ hT hW, locs, ⟨⟨_, rfl⟩, hW, hframe⟩, hf⟩
  jvm_step X.here [X.here.top, hexec, hb, hdg, hmeth', hr, narrow]
  (try refine ⟨rfl, ?_⟩); (try refine ⟨rfl, ?_⟩)
  first | (intro acts; rw [hret _ acts rfl rfl rfl]) | rw [hret _ _ rfl rfl rfl]
  exact Steps.refl _
theorem tp_aret {cc : ByteArray} {Qc : Array Value → State → Outcome → State → Prop} {free : Addr → Prop} {v : Value} {rt : FieldType} (hexec : p.tables.exec = Jvm.exec) (hb : c.code = cc) (hr : meth.sig.returnType = some rt)
    (hrt : (∃ n, rt = .object n) ∨ ∃ t, rt = .array t) (hv : v = .null ∨ ∃ a, v = .ref a)
    (hq : ∀ t : State, t.heap = H → s.WarmedH t.vm → Qc args s (.returned (some v)) t) (hf : ∀ q ∈ locs, free q.base)
    {pc : Nat} {ls : Array Slot} {rest : List Value} (hdg : decode cc pc = .ok (.areturn, 1)) (hlocks : meth.locks = false) : W p l e R s m args below meth c H locs cells slots (MQ below Qc args s cells slots free) (F0 m pc ls (v :: rest)) := by
  intro T hT X
  obtain ⟨fs, hret, hrun, hended, hW, hframe⟩ := X.leave (v := some v) (fun h => by rw [hr] at h; cases h)
  have hmeth' : T.vm.method? m = some meth := X.method'
  refine ⟨T.setFrames fs, ?_, .returned (some v), hrun, hended, hq _ hT hW, locs, ⟨⟨_, rfl⟩, hW, hframe⟩, hf⟩
  rcases hrt with ⟨n, rfl⟩ | ⟨t, rfl⟩ <;> rcases hv with rfl | ⟨a, rfl⟩ <;>
    (jvm_step X.here [X.here.top, hexec, hb, hdg, hmeth', hr]
     (try refine ⟨rfl, ?_⟩); (try refine ⟨rfl, ?_⟩)
     first | (intro acts; rw [hret _ acts rfl rfl rfl]) | rw [hret _ _ rfl rfl rfl]
     exact Steps.refl _)
/-- the method's frame g, with q thrown over it -/
def tp_Wx (p : Program) (l : Launch) (e : Env) (R : Room) (s : State) (m : MethodId) (args : Array Value) (below : List Frame) (meth : Method) (c : Code) (H : Heap) (locs : List Loc) (cells slots : Nat) (Q : State → Prop) (g : JFrame) (q : Addr) : Prop :=
  ∀ T : State, T.heap = H → Stand p l e R s m args below meth c T locs cells slots → ∃ t, Steps p.tables e below ((T.setTop g).pushFrame (.throwing q)) t ∧ Q t
theorem tp_athrow {Q : State → Prop} {rest : List Value} {ls : Array Slot} {cc : ByteArray} {pc : Nat} (hexec : p.tables.exec = Jvm.exec) (hb : c.code = cc) {q : Addr} (hdg : decode cc pc = .ok (.athrow, 1)) (k : tp_Wx p l e R s m args below meth c H locs cells slots Q (F0 m pc ls rest) q) : W p l e R s m args below meth c H locs cells slots Q (F0 m pc ls (.ref q :: rest)) := by
  intro T hT X
  obtain ⟨t, st, hq⟩ := k T hT X
  refine ⟨t, ?_, hq⟩
  have hdg' : decode c.code pc = .ok (.athrow, 1) := by rw [hb]; exact hdg
  jvm_step X.here [X.here.top, hexec, hdg', athrow.wp_sem]
  exact st
theorem tp_out {Xx : tp_X} {h : tp_H} {rest : List Value} {ls : Array Slot} {pc : Nat} {q : Addr} (hout : ∀ x ∈ c.exceptionTable.toList, covers x pc = false) (hlocks : meth.locks = false)
    (hx : tp_RH Xx h H) (hf : ∀ z ∈ locs, (xs0 Xx).heap.size ≤ z.base) :
    tp_Wx p l e R s m args below meth c H locs cells slots (tp_MQ Xx below s (.inr q) h cells slots) (F0 m pc ls rest) q := by
  intro T hT X
  obtain ⟨st1, hrun, hend, hW, hsm⟩ := X.leaveThrown q (g := F0 m pc ls rest) rfl rfl rfl hout hlocks
  refine ⟨_, st1, .threw q, hrun, hend, rfl, ?_, locs, hW, hsm, hf⟩
  show tp_RH Xx h T.heap
  rw [hT]; exact hx
end Rets
section Ends5
variable {X : tp_X} {az : Array Value} {own : MethodName} {cc : ByteArray} {ret : Option FieldType} {nL pc : Nat}
theorem sim_vret (hd : decode cc pc = .ok (.return_, 1)) (hr : ret = none) : tp_SimE X own cc ret nL pc o_vret := by
  intro p l e R s m args below meth c a0 b0 F L S h o h' hnx
  cases hnx
  refine ⟨rfl, ?_⟩
  intro H locs cells slots ls st hK hL hS hl hc hs
  have e1 : hnx h - a0 = cells := by omega
  have e2 : hsl h - b0 = slots := by omega
  rw [e1, e2]
  refine tp_Wmono (W.eq (g2 := F0 m pc ls st) rfl ?_) (fun t => tp_MQ_of (args := args))
  exact tp_vret F.1 F.2.1 (F.2.2.1.trans hr) (fun t ht hW => ⟨rfl, by rw [ht]; exact hK⟩) hl hd F.2.2.2.1
theorem sim_lret (hd : decode cc pc = .ok (.lreturn, 1)) (hr : ret = some .long) : tp_SimE X own cc ret nL pc o_lret := by
  intro p l e R s m args below meth c a0 b0 F L S h o h' hnx
  rcases S with _ | ⟨x | x | x, S⟩ <;> try (simp [o_lret] at hnx; done)
  cases hnx
  refine ⟨rfl, ?_⟩
  intro H locs cells slots ls st hK hL hS hl hc hs
  have e1 : hnx h - a0 = cells := by omega
  have e2 : hsl h - b0 = slots := by omega
  rw [e1, e2]
  rcases st with _ | ⟨v2, st⟩
  · exact hS.elim
  · obtain ⟨⟨xv, rfl, ex⟩, hS⟩ := hS
    refine tp_Wmono ?_ (fun t => tp_MQ_of (args := args))
    exact tp_lret F.1 F.2.1 (F.2.2.1.trans hr) (fun t ht hW => ⟨⟨_, rfl, xv, rfl, ex⟩, by rw [ht]; exact hK⟩) hl hd F.2.2.2.1
theorem sim_aret {rt : FieldType} (hd : decode cc pc = .ok (.areturn, 1)) (hr : ret = some rt) (hrt : (∃ n, rt = .object n) ∨ ∃ t, rt = .array t) : tp_SimE X own cc ret nL pc o_aret := by
  intro p l e R s m args below meth c a0 b0 F L S h o h' hnx
  rcases S with _ | ⟨x | x | r, S⟩ <;> try (simp [o_aret] at hnx; done)
  cases hnx
  refine ⟨rfl, ?_⟩
  intro H locs cells slots ls st hK hL hS hl hc hs
  have e1 : hnx h - a0 = cells := by omega
  have e2 : hsl h - b0 = slots := by omega
  rw [e1, e2]
  rcases st with _ | ⟨v2, st⟩
  · exact hS.elim
  · obtain ⟨e2, hS⟩ := hS
    refine tp_Wmono ?_ (fun t => tp_MQ_of (args := args))
    exact tp_aret F.1 F.2.1 (F.2.2.1.trans hr) hrt (by rcases r with _ | q; exact Or.inl e2; exact Or.inr ⟨q, e2⟩) (fun t ht hW => ⟨⟨_, rfl, e2⟩, by rw [ht]; exact hK⟩) hl hd F.2.2.2.1
theorem sim_iret {k : Nat} {rt : FieldType} (hd : decode cc pc = .ok (.ireturn, 1)) (hr : ret = some rt) (hrt : rt = .int ∧ k = 0 ∨ rt = .boolean ∧ k = 1 ∨ rt = .byte ∧ k = 2 ∨ rt = .char ∧ k = 9) : tp_SimE X own cc ret nL pc (o_iret k) := by
  intro p l e R s m args below meth c a0 b0 F L S h o h' hnx
  rcases S with _ | ⟨x | x, S⟩ <;> try (simp [o_iret] at hnx; done)
  by_cases hf : (if k = 9 then decide (0 ≤ x) && decide (x < 65536) else tp_fit k (xI x)) = true
  · simp only [o_iret, if_pos hf] at hnx
    cases hnx
    refine ⟨rfl, ?_⟩
    intro H locs cells slots ls st hK hL hS hl hc hs
    have e1 : hnx h - a0 = cells := by omega
    have e2 : hsl h - b0 = slots := by omega
    rw [e1, e2]
    rcases st with _ | ⟨v2, st⟩
    · exact hS.elim
    · obtain ⟨e2, hS⟩ := hS
      have e2' := e2
      obtain ⟨xv, rfl, ex⟩ := e2
      refine tp_Wmono ?_ (fun t => tp_MQ_of (args := args))
      refine tp_zret F.1 F.2.1 (F.2.2.1.trans hr) ?_ (fun t ht hW => ⟨⟨_, rfl, xv, rfl, ex⟩, by rw [ht]; exact hK⟩) hl hd F.2.2.2.1
      rcases hrt with ⟨rfl, rfl⟩ | ⟨rfl, rfl⟩ | ⟨rfl, rfl⟩ | ⟨rfl, rfl⟩
      · rfl
      · exact (tp_fits e2' (by rw [if_neg (by decide)] at hf; exact hf) (Or.inr (Or.inl ⟨rfl, rfl⟩))).2
      · exact (tp_fits e2' (by rw [if_neg (by decide)] at hf; exact hf) (Or.inr (Or.inr (Or.inl ⟨rfl, rfl⟩)))).2
      · simp only [if_true, Bool.and_eq_true, decide_eq_true_eq] at hf
        obtain ⟨j, hj, rfl⟩ := nI_of (x := xv) (by rw [tp_lt0 ex]; omega)
        rw [nI_toInt (by omega)] at ex
        exact (pk_charN (by omega)).1
  · simp only [o_iret, if_neg hf] at hnx
    cases hnx
theorem sim_thr (hd : decode cc pc = .ok (.athrow, 1)) (hno : tp_hh own = []) : tp_SimE X own cc ret nL pc o_thr := by
  intro p l e R s m args below meth c a0 b0 F L S h o h' hnx
  rcases S with _ | ⟨x | x | _ | q, S⟩ <;> try (simp [o_thr] at hnx; done)
  simp only [o_thr] at hnx
  rcases h0 : hat h q with _ | ⟨⟩ | ⟨c', fs⟩ <;> rw [h0] at hnx
  · cases hnx
  · cases hnx
  · by_cases hb : c' = 6
    · simp only [if_pos hb] at hnx
      cases hnx
      refine ⟨rfl, ?_⟩
      intro H locs cells slots ls st hK hL hS hl hc hs
      have e1 : hnx h - a0 = cells := by omega
      have e2 : hsl h - b0 = slots := by omega
      rw [e1, e2]
      rcases st with _ | ⟨v2, st⟩
      · exact hS.elim
      · obtain ⟨e2, hS⟩ := hS
        obtain rfl := e2
        have ht := F.2.2.2.2.2.2.2.2.2.2.2.2
        rw [hno, List.map_eq_nil_iff] at ht
        exact tp_athrow F.1 F.2.1 hd (tp_out (fun x hx => by rw [ht] at hx; cases hx) F.2.2.2.1 hK hl)
    · simp only [if_neg hb] at hnx; cases hnx
end Ends5
