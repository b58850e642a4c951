/-! SOUNDNESS 10: the theorem -/
/-- the one handler that catches -/
theorem tp_catch {X : tp_X} {az : Array Value} (hG : tp_Good X az) (hlink : Cond.classLink "ThroughPack" 156 "ThroughPack$Wrong" ∈ lw_all) {own : MethodName} {cc : ByteArray} {ret : Option FieldType} {nL : Nat} {p : Program} {l : Launch} {e : Env} {R : Room} {s : State} {m : MethodId} {args : Array Value} {below : List Frame} {meth : Method} {c : Code} {Q : State → Prop} {H : Heap} {locs : List Loc} {cells slots : Nat} {ls : Array Slot} {rest : List Value} {pc q : Nat} {h : tp_H} {fs : Nat → tp_V}
    (F : tp_Fr X own cc ret nL R p l s m meth c) (ho : own = ⟨"ThroughPack", "text", "()I"⟩) (h1 : 30 ≤ pc) (h2 : pc < 62) (hK : tp_RH X h H) (h0 : hat h q = some (eO 6 fs)) (kk : W p l e R s m args below meth c H locs cells slots Q (F0 m 70 ls [.ref q])) : tp_Wx p l e R s m args below meth c H locs cells slots Q (F0 m pc ls rest) q := by
  subst ho
  have hW := F.2.2.2.2.2.2.1
  have ht := F.2.2.2.2.2.2.2.2.2.2.2.2
  have hhh : tp_hh ⟨"ThroughPack", "text", "()I"⟩ = [(30, 62, 70, 156), (30, 62, 96, 0), (70, 89, 96, 0), (96, 98, 96, 0)] := rfl
  rw [hhh] at ht
  obtain ⟨x, suf, hl⟩ : ∃ x suf, c.exceptionTable.toList = x :: suf := by
    rcases hz : c.exceptionTable.toList with _ | ⟨x, suf⟩
    · rw [hz] at ht; cases ht
    · exact ⟨x, suf, rfl⟩
  rw [hl] at ht
  simp only [List.map_cons, List.cons.injEq, Prod.mk.injEq] at ht
  obtain ⟨⟨x1, x2, x3, x4⟩, -⟩ := ht
  obtain ⟨cell, q1, q2, q3, q4, q5, q6⟩ := hK.2.2.2.1 q _ h0
  have hfc := (u_Kn_moved hW.alike (hG.2.1 6 (RX6, TX6, 8) rfl)).2.1
  have hvm : cell.vm = .none := (q6.2.2 (by omega)).2.1
  intro T hT Xs
  have hpl : e.platform.magicAccessors = ({} : Platform).magicAccessors := by rw [Xs.admits.platform]
  obtain ⟨c5, hc5, hcl5⟩ := Cond.classLink_spec F.2.2.2.2.2.1 (tp_word hG hW hlink args) e.platform hpl
  have hc5' : c5 = cell.cls := by
    rw [q2]
    exact (Option.some.inj (hfc.symm.trans hc5)).symm
  subst hc5'
  obtain ⟨vm', X', st⟩ := Xs.thenCaughtThrough q (g := F0 m pc ls rest) rfl (Steps.refl _) (by rw [hT]; exact q1) (by rw [hvm]; rfl) (by obtain ⟨k9, h9, -⟩ := Vm.findClass_spec hc5; exact ⟨k9, h9⟩) [] x suf hl
    (fun z hz => by cases hz) (by
      show covers x pc = true
      simp [covers, x1, x2, h1, h2]) (Or.inr ⟨by rw [x4]; decide, cell.cls, by rw [x4]; exact hcl5, va_asg _ _⟩)
  rw [x3] at st
  obtain ⟨t, a1, b1⟩ := kk (T.setVm vm') hT X'
  exact ⟨t, st.trans a1, b1⟩
set_option maxRecDepth 10000 in
theorem tp_ar2 {d z : Nat} (h : 80 * (d + 1) + 500 ≤ z) : 80 * d + 580 ≤ z := by omega
section Main
variable {X : tp_X} {az : Array Value} {nm : Nat → MethodName} {by_ : Nat → ByteArray} {rt : Nat → Option FieldType} {nn : Nat → Nat}
theorem tp_con_of {l : Launch} {k d : Nat} {as : List tp_V} {h h' : tp_H} {o : tp_O} (hG : tp_Good X az) (hm : tp_Mk (nm k) (by_ k) (tp_ml k) (rt k) (nn k)) (hw : tp_words as ≤ tp_ml k)
    (body : ∀ (p : Program) (e : Env) (R : Room) (s : State) (m : MethodId) (args : Array Value) (below : List Frame) (meth : Method) (c : Code), tp_Fr X (nm k) (by_ k) (rt k) (tp_ml k) R p l s m meth c → d + 10 ≤ R.frames → 80 * d + 500 ≤ R.locals → hnx h' ≤ hnx h + R.cells → hsl h' ≤ hsl h + R.slots →
      tp_Ok X (tp_ml k) p l e R s m args below meth c (tp_MQ X below s o h' (hnx h' - hnx h) (hsl h' - hsl h)) (hnx h) (hsl h) 0 (tp_en (tp_ml k) as) [] h) : tp_Con X l (nm k) (by_ k) (tp_ml k) (rt k) d as h o h' := by
  unfold tp_Con
  have hr1 : d + 10 ≤ ({ frames := d + 10, cells := hnx h' - hnx h, slots := hsl h' - hsl h, locals := 80 * d + 500 } : Room).frames := Nat.le_refl _
  have hr2 : 80 * d + 500 ≤ ({ frames := d + 10, cells := hnx h' - hnx h, slots := hsl h' - hsl h, locals := 80 * d + 500 } : Room).locals := Nat.le_refl _
  have hr3 : hnx h' ≤ hnx h + ({ frames := d + 10, cells := hnx h' - hnx h, slots := hsl h' - hsl h, locals := 80 * d + 500 } : Room).cells := by show hnx h' ≤ hnx h + (hnx h' - hnx h); omega
  have hr4 : hsl h' ≤ hsl h + ({ frames := d + 10, cells := hnx h' - hnx h, slots := hsl h' - hsl h, locals := 80 * d + 500 } : Room).slots := by show hsl h' ≤ hsl h + (hsl h' - hsl h); omega
  generalize ({ frames := d + 10, cells := hnx h' - hnx h, slots := hsl h' - hsl h, locals := 80 * d + 500 } : Room) = rm at hr1 hr2 hr3 hr4 ⊢
  refine MetFree.of_bodyS (code := by_ k) (maxLocals := tp_ml k) (ret := rt k) hm.2.2.2.2.2 ?_ ?_
  · intro args s m hpre hn
    have hc := atoms_spec (ws := [tp_cw (nm k) (by_ k) (tp_ml k) (rt k)]) hpre _ List.mem_cons_self
    by_cases hh : tp_hh (nm k) = []
    · rw [show tp_cw (nm k) (by_ k) (tp_ml k) (rt k) = Cond.code (nm k) (by_ k) (tp_ml k) (rt k) by simp [tp_cw, hh]] at hc
      obtain ⟨meth, c, h1, h2, h3, h4, h5, h6, -, -⟩ := Cond.code_spec hn hc
      exact ⟨meth, c, h1, h2, h3, h4, h5, h6⟩
    · rw [show tp_cw (nm k) (by_ k) (tp_ml k) (rt k) = Cond.codeWith (nm k) (by_ k) (tp_ml k) (rt k) (tp_hh (nm k)) by simp [tp_cw, hh]] at hc
      obtain ⟨m9, meth, c, hn9, h1, h2, h3, h4, -, h5, h6, -⟩ := Cond.codeWith_spec hc
      cases hn.symm.trans hn9
      exact ⟨meth, c, h1, h2, h3, h4, h5, h6⟩
  · intro p e s m args below meth c s₁ B hml hP _
    obtain ⟨hRS, hWs, hRH, hfl⟩ := hP
    have hh0 : s₁.heap = s.heap := by rw [B.state]; rfl
    have X0 := Stand.of_body B
    have hc := atoms_spec (ws := [tp_cw (nm k) (by_ k) (tp_ml k) (rt k)]) B.pre _ List.mem_cons_self
    have htab : c.exceptionTable.toList.map (fun h => (h.startPc, h.endPc, h.handlerPc, h.catchType)) = tp_hh (nm k) := by
      by_cases hh : tp_hh (nm k) = []
      · rw [show tp_cw (nm k) (by_ k) (tp_ml k) (rt k) = Cond.code (nm k) (by_ k) (tp_ml k) (rt k) by simp [tp_cw, hh]] at hc
        obtain ⟨meth', c', h1, h2, h3, h4, h5, h6, h7, -⟩ := Cond.code_spec B.named hc
        cases h1.symm.trans B.method
        cases h2.symm.trans X0.code
        rw [hh, List.map_eq_nil_iff]
        simpa using h7
      · rw [show tp_cw (nm k) (by_ k) (tp_ml k) (rt k) = Cond.codeWith (nm k) (by_ k) (tp_ml k) (rt k) (tp_hh (nm k)) by simp [tp_cw, hh]] at hc
        obtain ⟨m9, meth', c', hn9, h1, h2, h3, h4, h5, -⟩ := Cond.codeWith_spec hc
        cases B.named.symm.trans hn9
        cases h1.symm.trans B.method
        cases h2.symm.trans X0.code
        exact h5
    obtain ⟨ls, e1, hRL⟩ := tp_entry hRS hw m
    have hF : tp_Fr X (nm k) (by_ k) (rt k) (tp_ml k) rm p l s m meth c := ⟨B.exec, B.bytes, B.returns, B.notSynchronized, hml, findClass_of_methodNamed B.named, hWs, hfl, hRH.2.2.2.2.1, (name_of_methodNamed B.named B.method).1, by omega, by omega, htab⟩
    have K := body p e rm s m args below meth c hF hr1 hr2 hr3 hr4 s.heap [] 0 0 ls [] hRH hRL trivial (fun z hz => by cases hz) (by omega) (by omega)
    rw [← e1] at K
    obtain ⟨t, a1, oc, b1, b2, b3, b4, b5⟩ := K s₁ hh0 X0
    exact ⟨t, oc, a1, b1, b2, b3, b4, b5⟩
theorem tp_sound {l : Launch} (hG : tp_Good X az) (hlink : Cond.classLink "ThroughPack" 156 "ThroughPack$Wrong" ∈ lw_all) (hm : ∀ k, tp_Mk (nm k) (by_ k) (tp_ml k) (rt k) (nn k)) (hB : ∀ k pc, tp_Fit X (nm k) (by_ k) (rt k) (tp_ml k) nm by_ tp_ml rt pc (tp_B k pc)) :
    ∀ (n d k : Nat) (is : List tp_Op) (L : tp_L) (S : tp_T) (h : tp_H) (o : tp_O) (h' : tp_H), tp_run n d k is L S h = some (o, h') → ∀ (p : Program) (e : Env) (R : Room) (s : State) (m : MethodId) (args : Array Value) (below : List Frame) (meth : Method) (c : Code) (a0 b0 pc : Nat),
      tp_Fr X (nm k) (by_ k) (rt k) (tp_ml k) R p l s m meth c → tp_Fit X (nm k) (by_ k) (rt k) (tp_ml k) nm by_ tp_ml rt pc is → d + 10 ≤ R.frames → 80 * d + 500 ≤ R.locals → hnx h' ≤ a0 + R.cells → hsl h' ≤ b0 + R.slots →
      tp_Ok X (tp_ml k) p l e R s m args below meth c (tp_MQ X below s o h' (hnx h' - a0) (hsl h' - b0)) a0 b0 pc L S h := by
  have hle := tp_run_le (X := X) (ok := fun _ => True) (fun k _ pc => hB k pc) (fun _ => trivial)
  intro n
  induction n with
  | zero => intro d k is L S h o h' hr; simp [tp_run] at hr
  | succ n ih =>
    intro d k is L S h o h' hr p e R s m args below meth c a0 b0 pc F hf hR1 hR2 hz1 hz2
    cases is with
    | nil => simp [tp_run] at hr
    | cons op is =>
      have hle0 := hle _ _ _ _ _ _ _ _ _ pc hr hf
      rcases hf with rfl | ⟨len, ⟨hmo, hsim⟩, hf⟩ | ⟨he, hsim⟩ | ⟨len, ⟨hc, hsim⟩, hf⟩ | hdead
      · simp only [tp_run, o_fall, tp_jp] at hr
        exact ih _ _ _ _ _ _ _ _ hr p e R s m args below meth c a0 b0 pc F (hB k pc) hR1 hR2 hz1 hz2
      · rcases e0 : op.2 L S h with _ | nx
        · simp [tp_run, e0] at hr
        · obtain ⟨t, L', S', h1, rfl, m1, m2⟩ := hmo L S h nx e0
          have hs := hsim p l e R s m args below meth c (tp_MQ X below s o h' (hnx h' - a0) (hsl h' - b0)) a0 b0 F L S h _ e0
          rcases t with _ | t
          · simp only [tp_run, e0] at hr
            have hle1 := hle _ _ _ _ _ _ _ _ _ (pc + len) hr hf
            exact hs.2 (by omega) (by omega) (ih _ _ _ _ _ _ _ _ hr p e R s m args below meth c a0 b0 (pc + len) F hf hR1 hR2 hz1 hz2)
          · simp only [tp_run, e0] at hr
            have hle1 := hle _ _ _ _ _ _ _ _ _ t hr (hB k t)
            exact hs.2 (by omega) (by omega) (ih _ _ _ _ _ _ _ _ hr p e R s m args below meth c a0 b0 t F (hB k t) hR1 hR2 hz1 hz2)
      · rcases e0 : op.2 L S h with _ | nx
        · simp [tp_run, e0] at hr
        · obtain ⟨o1, rfl⟩ := he L S h nx e0
          simp only [tp_run, e0] at hr
          cases hr
          exact (hsim p l e R s m args below meth c a0 b0 F L S h o h e0).2
      · rcases e0 : op.2 L S h with _ | nx
        · simp [tp_run, e0] at hr
        · obtain ⟨k', hd, as, S', rfl, hhd⟩ := hc L S h nx e0
          simp only [tp_run, e0] at hr
          cases d with
          | zero => simp at hr
          | succ d =>
            by_cases hw : ¬ tp_words as ≤ tp_ml k'
            · simp [hw] at hr
            have hw := Classical.not_not.mp hw
            simp only [if_pos hw] at hr
            rcases e1 : tp_run n d k' (tp_B k' 0) (tp_en (tp_ml k') as) [] h with _ | ⟨o1, h2⟩
            · rw [e1] at hr; simp at hr
            · have hle1 := hle _ _ _ _ _ _ _ _ _ 0 e1 (hB k' 0)
              have hcon : tp_Con X l (nm k') (by_ k') (tp_ml k') (rt k') d as h o1 h2 := tp_con_of hG (hm k') hw (fun p e R s m args below meth c F hR1 hR2 hz1 hz2 => ih _ _ _ _ _ _ _ _ e1 p e R s m args below meth c (hnx h) (hsl h) 0 F (hB k' 0) hR1 hR2 hz1 hz2)
              have hs := (hsim p l e R s m args below meth c (tp_MQ X below s o h' (hnx h' - a0) (hsl h' - b0)) a0 b0 d F (by omega) (tp_ar2 hR2) L S h k' hd as L S' h e0).2.2 o1 h2 hcon hle1
              rcases o1 with (_ | v) | q
              · rw [e1] at hr
                have hle2 := hle _ _ _ _ _ _ _ _ _ (pc + len) hr hf
                exact hs (by omega) (by omega) (ih _ _ _ _ _ _ _ _ hr p e R s m args below meth c a0 b0 (pc + len) F hf hR1 hR2 hz1 hz2)
              · rw [e1] at hr
                have hle2 := hle _ _ _ _ _ _ _ _ _ (pc + len) hr hf
                exact hs (by omega) (by omega) (ih _ _ _ _ _ _ _ _ hr p e R s m args below meth c a0 b0 (pc + len) F hf hR1 hR2 hz1 hz2)
              · rw [e1] at hr
                rcases hd with _ | _ | hd
                · simp at hr
                · cases hr
                  rcases hs hz1 hz2 with h0 | hs
                  · cases h0
                  refine hs fun H locs cells slots ls st hK hL hl hc1 hs1 => ?_
                  have hno : tp_hh (nm k) = [] := by
                    rcases hhd with h0 | ⟨-, h0⟩ | ⟨h0, -⟩
                    · cases h0
                    · exact h0
                    · cases h0
                  have ht := F.2.2.2.2.2.2.2.2.2.2.2.2
                  rw [hno, List.map_eq_nil_iff] at ht
                  rw [show hnx h' - a0 = cells by omega, show hsl h' - b0 = slots by omega]
                  exact tp_out (fun x hx => by rw [ht] at hx; cases hx) F.2.2.2.1 hK hl
                · simp only at hr
                  split at hr
                  · rename_i fs h0
                    have hle2 := hle _ _ _ _ _ _ _ _ _ hd hr (hB k hd)
                    rcases hs (by omega) (by omega) with h9 | hs
                    · cases h9
                    refine hs fun H locs cells slots ls st hK hL hl hc1 hs1 => ?_
                    rcases hhd with h9 | ⟨h9, -⟩ | ⟨h9, ho, g1, g2⟩
                    · cases h9
                    · cases h9
                    · obtain rfl : hd = 70 := by omega
                      exact tp_catch hG hlink F ho g1 g2 hK h0 (ih _ _ _ _ _ _ _ _ hr p e R s m args below meth c a0 b0 70 F (hB k 70) hR1 hR2 hz1 hz2 H locs cells slots ls [.ref q] hK hL ⟨rfl, trivial⟩ hl hc1 hs1)
                  · simp at hr
      · simp [tp_run, hdead] at hr
end Main
