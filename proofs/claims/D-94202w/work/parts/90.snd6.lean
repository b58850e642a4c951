/-! SOUNDNESS 6: contracts and calls -/
/-- the method's own word: its code, or its code with handlers -/
def tp_cw (y : MethodName) (cc : ByteArray) (nL : Nat) (ret : Option FieldType) : Cond := if tp_hh y = [] then .code y cc nL ret else .codeWith y cc nL ret (tp_hh y)
/-- the contract of one run: from h, with the arguments as, it comes to o and h' -/
def tp_Con (X : tp_X) (l : Launch) (y : MethodName) (cc : ByteArray) (nL : Nat) (ret : Option FieldType) (d : Nat) (as : List tp_V) (h : tp_H) (o : tp_O) (h' : tp_H) : Prop :=
  MetFree l y (headSpec [tp_cw y cc nL ret] ({ frames := d + 10, cells := hnx h' - hnx h, slots := hsl h' - hsl h, locals := 80 * d + 500 } : Room)) (fun a U => tp_RS as a.toList ∧ (xs0 X).WarmedH U.vm ∧ tp_RH X h U.heap ∧ l.flags = flags0) (fun _ _ _ _ _ => True)
    (fun _ st oc t => tp_Out o oc ∧ tp_RH X h' t.heap ∧ tp_FE X st t (hnx h' - hnx h) (hsl h' - hsl h))
theorem tp_Con_met {X : tp_X} {l : Launch} {y : MethodName} {cc : ByteArray} {nL : Nat} {ret : Option FieldType} {d : Nat} {as : List tp_V} {h h' : tp_H} {v : Option tp_V} (hM : tp_Con X l y cc nL ret d as h (.inl v) h') :
    Met l y [tp_cw y cc nL ret] ({ frames := d + 10, cells := hnx h' - hnx h, slots := hsl h' - hsl h, locals := 80 * d + 500 } : Room) (fun a U => tp_RS as a.toList ∧ (xs0 X).WarmedH U.vm ∧ tp_RH X h U.heap ∧ l.flags = flags0) (fun _ _ oc t => tp_Out (.inl v) oc ∧ tp_RH X h' t.heap) (hnx h' - hnx h) (hsl h' - hsl h) (fun q => (xs0 X).heap.size ≤ q) := by
  intro p e h1 h2 h3 s m args below h4 h5 h6 h7
  obtain ⟨n, o, g1, g2, g3, g4, g5, L, g6, g7, g8⟩ := hM p e h1 h2 h3 s m args below h4 h5 h6 h7
  refine ⟨n, o, g1, g2, g3, ⟨g4, g5⟩, L, ⟨?_, g6, g7⟩, g8⟩
  rcases v with _ | v
  · exact ⟨none, g4⟩
  · obtain ⟨cv, e, -⟩ := g4
    exact ⟨some cv, e⟩
theorem tp_blind {X : tp_X} {l : Launch} {h : tp_H} {as : List tp_V} : FrameBlind (fun a U => tp_RS as a.toList ∧ (xs0 X).WarmedH U.vm ∧ tp_RH X h U.heap ∧ l.flags = flags0) := fun _ _ _ _ h => h
/-- what is known of a method by its name -/
def tp_Mk (y : MethodName) (cc : ByteArray) (nL : Nat) (ret : Option FieldType) (n : Nat) : Prop := (tp_cw y cc nL ret) ∈ lw_all ∧ Cond.initialized y.cls ∈ lw_all ∧ (y.cls ≠ "java/lang/invoke/MethodHandle" ∧ y.cls ≠ "java/lang/invoke/VarHandle") ∧ (∀ sig, parseMethodDescriptor y.desc = some sig → sig.parameters.length = n) ∧ nL ≤ 40 ∧ plainName y.cls = true
theorem tp_goodw {w : Cond} (hw : w ∈ lw_all) : (w.onTables && w.keeps) = true ∨ ∃ ty, w = .arrayClass ty := good_of_word (List.mem_filter.mp hw).2
set_option maxRecDepth 10000 in
theorem tp_ar {nb d z : Nat} (h : nb ≤ 40) (h2 : 80 * d + 580 ≤ z) : 24 + (nb + 11) + (80 * d + 500) ≤ z := by omega
section Calls6
variable {X : tp_X} {az : Array Value} {own : MethodName} {cc : ByteArray} {ret : Option FieldType} {nL pc : Nat}
variable {p : Program} {l : Launch} {e : Env} {R : Room} {s : State} {m : MethodId} {args : Array Value} {below : List Frame} {meth : Method} {c : Code} {Q : State → Prop} {a0 b0 : Nat}
/-- what a call's lemma gives, whatever the kind of call: it comes back at the callee's end -/
theorem tp_back {y : MethodName} {cb : ByteArray} {nb n d len : Nat} {rb : Option FieldType} {as : List tp_V} {h h' : tp_H} {v : Option tp_V} (hG : tp_Good X az) (hW : (xs0 X).WarmedH s.vm) (hM : tp_Con X l y cb nb rb d as h (.inl v) h') (hm : tp_Mk y cb nb rb n) (hR1 : d + 11 ≤ R.frames) (hR2 : 80 * d + 580 ≤ R.locals) :
    Back l R p e below s args y len 24 (PreOf R (hnx h' - hnx h) (hsl h' - hsl h) (fun a U => tp_RS as a.toList ∧ (xs0 X).WarmedH U.vm ∧ tp_RH X h U.heap ∧ l.flags = flags0)) (PostOf (fun _ _ oc t => tp_Out (.inl v) oc ∧ tp_RH X h' t.heap) (hnx h' - hnx h) (hsl h' - hsl h) (fun q => (xs0 X).heap.size ≤ q)) := by
  have hmet := tp_Con_met hM
  have hws : ∀ w ∈ [tp_cw y cb nb rb], ∀ (a' : Array Value) (U : State), s.WarmedH U.vm → w.before a' U = true := by
    intro w hw a' U hU
    obtain rfl := List.mem_singleton.mp hw
    exact tp_word hG (State.WarmedH.trans hW hU) hm.1 a'
  have hini : ∀ (a' : Array Value) (U : State), s.WarmedH U.vm → (Cond.initialized y.cls).before a' U = true := fun a' U hU => tp_word hG (State.WarmedH.trans hW hU) hm.2.1 a'
  have h40 : nb ≤ 40 := hm.2.2.2.2.1
  have hf : d + 10 + 1 ≤ R.frames := hR1
  have hlo : 24 + (nb + 11) + (80 * d + 500) ≤ R.locals := by clear hG hM hmet hws hini hm; exact tp_ar h40 hR2
  generalize hrm : ({ frames := d + 10, cells := hnx h' - hnx h, slots := hsl h' - hsl h, locals := 80 * d + 500 } : Room) = rm at hmet
  have hf : rm.frames + 1 ≤ R.frames := by rw [← hrm]; exact hf
  have hlo : 24 + (nb + 11) + rm.locals ≤ R.locals := by rw [← hrm]; exact hlo
  by_cases hh : tp_hh y = []
  · exact back_of (bytes := cb) (maxL := nb) (ret := rb) hmet tp_blind (by rw [← hrm]) (by rw [← hrm]) hf hlo hws (by simp [tp_cw, hh]) hini
  · exact va_backW (bytes := cb) (maxL := nb) (ret := rb) (hh := tp_hh y) hmet tp_blind (by rw [← hrm]) (by rw [← hrm]) hf hlo hws (by simp [tp_cw, hh]) hini
/-- the frame goes on behind a call -/
theorem tp_after {h h' : tp_H} {v : Option tp_V} {pc2 : Nat} {L : tp_L} {S : tp_T} {T : State} {locs : List Loc} {cells slots : Nat} {g : JFrame} {ls : Array Slot} {st : List Value} {a : Array Value} {vm₁ : Vm} {cv : Option Value} {B : Pt}
    (hle : hnx h ≤ hnx h' ∧ hsl h ≤ hsl h') (hc : cells + a0 = hnx h) (hs : slots + b0 = hsl h) (hL : tp_RL nL L ls) (hS : tp_RS S st) (hl : ∀ z ∈ locs, (xs0 X).heap.size ≤ z.base)
    (ok : tp_Ok X nL p l e R s m args below meth c Q a0 b0 pc2 L (match v with | none => S | some v => v :: S) h')
    (hX : Stand p l e R s m args below meth c B.U B.locs B.cells B.slots) (hpost : PostOf (fun _ _ oc t => tp_Out (.inl v) oc ∧ tp_RH X h' t.heap) (hnx h' - hnx h) (hsl h' - hsl h) (fun q => (xs0 X).heap.size ≤ q) ⟨T.setVm vm₁, locs, cells, slots⟩ a cv B)
    (hst : ∀ target, Steps p.tables e below (B.U.setTop { method := m, pc := pc2, locals := ls, stack := cv.toList ++ st, locked := none }) target → Steps p.tables e below (T.setTop g) target) : ∃ t, Steps p.tables e below (T.setTop g) t ∧ Q t := by
  obtain ⟨gg, mk, t, L2, e1, e2, ⟨hq, hRH⟩, e3, hL2, e4, e5⟩ := hpost
  obtain ⟨U', l2, c2, s2⟩ := B
  dsimp only [Pt.U, Pt.locs, Pt.cells, Pt.slots] at hX e1 e2 e3 e4 e5 hst
  subst e3; subst e4; subst e5
  rw [← e1] at hRH
  have hl2 : ∀ z ∈ locs ++ L2, (xs0 X).heap.size ≤ z.base := fun z hz => by
    rcases List.mem_append.mp hz with q | q
    · exact hl z q
    · exact hL2 z q
  rcases v with _ | v
  · have hcv : cv = none := by injection hq
    subst hcv
    obtain ⟨t2, a1, b1⟩ := ok U'.heap _ _ _ ls st hRH hL hS hl2 (by omega) (by omega) U' rfl hX
    exact ⟨t2, hst t2 a1, b1⟩
  · obtain ⟨cw, hcv, hr⟩ := hq
    have hcv : cv = some cw := by injection hcv
    subst hcv
    obtain ⟨t2, a1, b1⟩ := ok U'.heap _ _ _ ls (cw :: st) hRH hL ⟨hr, hS⟩ hl2 (by omega) (by omega) U' rfl hX
    exact ⟨t2, hst t2 a1, b1⟩
end Calls6
theorem tp_pop_spec : ∀ (n : Nat) (S : tp_T) (acc as : List tp_V) (S' : tp_T) (st : List Value), tp_pop n S acc = some (as, S') → tp_RS S st → ∃ (vs st' : List Value), st = vs ++ st' ∧ vs.length = n ∧ tp_RS S' st' ∧ ∃ front, as = front ++ acc ∧ tp_RS front vs.reverse
  | 0, S, acc, as, S', st, h, hS => by
    simp only [tp_pop, Option.some.injEq, Prod.mk.injEq] at h
    obtain ⟨rfl, rfl⟩ := h
    exact ⟨[], st, rfl, rfl, hS, [], rfl, trivial⟩
  | n + 1, [], acc, as, S', st, h, hS => by simp [tp_pop] at h
  | n + 1, v :: S, acc, as, S', st, h, hS => by
    rcases st with _ | ⟨cv, st⟩
    · exact hS.elim
    · obtain ⟨vs, st', e1, e2, e3, front, e4, e5⟩ := tp_pop_spec n S (v :: acc) as S' st h hS.2
      refine ⟨cv :: vs, st', by rw [e1]; rfl, by simp [e2], e3, front ++ [v], by simp [e4], ?_⟩
      rw [List.reverse_cons]
      exact tp_RS_app e5 ⟨hS.1, trivial⟩
where
  tp_RS_app : ∀ {A B : tp_T} {a b : List Value}, tp_RS A a → tp_RS B b → tp_RS (A ++ B) (a ++ b)
    | [], _, [], _, _, h => h
    | _ :: A, _, _ :: a, _, h1, h2 => ⟨h1.1, tp_RS_app h1.2 h2⟩
    | [], _, _ :: _, _, h, _ => h.elim
    | _ :: _, _, [], _, h, _ => h.elim
/-- one call -/
def tp_SimC (X : tp_X) (own : MethodName) (cc : ByteArray) (ret : Option FieldType) (nL pc len : Nat) (op : tp_Op) (nm : Nat → MethodName) (by_ : Nat → ByteArray) (ml : Nat → Nat) (rt : Nat → Option FieldType) : Prop :=
  ∀ (p : Program) (l : Launch) (e : Env) (R : Room) (s : State) (m : MethodId) (args : Array Value) (below : List Frame) (meth : Method) (c : Code) (Q : State → Prop) (a0 b0 d : Nat), tp_Fr X own cc ret nL R p l s m meth c → d + 11 ≤ R.frames → 80 * d + 580 ≤ R.locals →
    ∀ (L : tp_L) (S : tp_T) (h : tp_H) (k' hd : Nat) (as : List tp_V) (L' : tp_L) (S' : tp_T) (h1 : tp_H), op.2 L S h = some (.inr (.inl (k', hd, as, L', S', h1))) → h1 = h ∧ L' = L ∧ ∀ (o : tp_O) (h2 : tp_H), tp_Con X l (nm k') (by_ k') (ml k') (rt k') d as h o h2 → (hnx h ≤ hnx h2 ∧ hsl h ≤ hsl h2) → hnx h2 ≤ a0 + R.cells → hsl h2 ≤ b0 + R.slots → match o with
      | .inl v => tp_Ok X nL p l e R s m args below meth c Q a0 b0 (pc + len) L (match v with | none => S' | some v => v :: S') h2 → tp_Ok X nL p l e R s m args below meth c Q a0 b0 pc L S h
      | .inr q => hd = 0 ∨ ((∀ (H : Heap) (locs : List Loc) (cells slots : Nat) (ls : Array Slot) (st : List Value), tp_RH X h2 H → tp_RL nL L ls → (∀ z ∈ locs, (xs0 X).heap.size ≤ z.base) → cells + a0 = hnx h2 → slots + b0 = hsl h2 → tp_Wx p l e R s m args below meth c H locs cells slots Q (F0 m pc ls st) q) → tp_Ok X nL p l e R s m args below meth c Q a0 b0 pc L S h)
