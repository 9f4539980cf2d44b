/-! METHODS THAT MAKE OBJECTS: credits -/
set_option maxRecDepth 100000
/-- what has been made, and the credit that is left -/
def Cr (C0 cells slots : Nat) (cr : Int) : Prop := (cells : Int) + cr ≤ C0 ∧ (slots : Int) + cr ≤ C0 ∧ 0 ≤ cr
theorem cr_0 (C0 : Nat) : Cr C0 0 0 (C0 : Int) := by unfold Cr; omega
theorem cr_le {C0 cells slots : Nat} {cr : Int} (h : Cr C0 cells slots cr) : cells ≤ C0 ∧ slots ≤ C0 := by unfold Cr at h; omega
theorem cr_new {C0 cells slots n : Nat} {cr u : Int} (h : Cr C0 cells slots cr) (hu : 1 ≤ u ∧ (n : Int) ≤ u) (hle : u ≤ cr) : Cr C0 (cells + 1) (slots + n) (cr - u) := by unfold Cr at h ⊢; omega
theorem cr_call {C0 cells slots k n : Nat} {cr cr1 : Int} {Cc : Nat} (h : Cr C0 cells slots cr) (hc : (Cc : Int) = cr) (h1 : Cr Cc k n cr1) : Cr C0 (cells + k) (slots + n) cr1 := by unfold Cr at h h1 ⊢; omega
def QcA (X : Cxt) (C0 : Nat) (QN : Option Value → St → Int → Prop) (QE : Int → St → Int → Prop) : Array Value → State → Outcome → State → Prop := fun a st o t =>
  ∃ (k n : Nat) (cr : Int), Cr C0 k n cr ∧ ZQ X (fun v σ => QN v σ cr) (fun x σ => QE x σ cr) a st o t ∧ ∃ L, FrT st o t L k n ∧ ∀ q ∈ L, zA X q.base
def MetA (X : Cxt) (l : Launch) (y : MethodName) (ws : List Cond) (d C0 : Nat) (Pc : Array Value → State → Prop) (QN : Option Value → St → Int → Prop) (QE : Int → St → Int → Prop) : Prop :=
  MetFree l y (headSpec ws (zrm d C0 C0)) Pc (fun _ _ _ _ _ => True) (QcA X C0 QN QE)
def MQA (X : Cxt) (below : List Frame) (C0 : Nat) (QN : Option Value → St → Int → Prop) (QE : Int → St → Int → Prop) (a : Array Value) (s : State) : State → Prop := fun t =>
  ∃ o, t.status = .running ∧ Ended t below o ∧ QcA X C0 QN QE a s o t
def qIA (Q : Int → St → Int → Prop) : Option Value → St → Int → Prop := fun v σ cr => qI (fun r σ' => Q r σ' cr) v σ
def qZA (Q : Int → St → Int → Prop) : Option Value → St → Int → Prop := fun v σ cr => qZ (fun r σ' => Q r σ' cr) v σ
def qLA (Q : Int → St → Int → Prop) : Option Value → St → Int → Prop := fun v σ cr => qL (fun r σ' => Q r σ' cr) v σ
def qRA (X : Cxt) (r : Nat) (Q : Int → St → Int → Prop) : Option Value → St → Int → Prop := fun v σ cr => qR X r (fun r σ' => Q r σ' cr) v σ
def qVA (Q : St → Int → Prop) : Option Value → St → Int → Prop := fun v σ cr => qV (fun σ' => Q σ' cr) v σ
section AL0
variable {X0 : Cxt} {p : Program} {l : Launch} {e : Env} {R : Room} {s : State} {m : MethodId} {args : Array Value} {below : List Frame} {meth : Method} {c : Code} {T : State} {locs : List Loc} {cells slots C0 : Nat} {QN : Option Value → St → Int → Prop} {QE : Int → St → Int → Prop} {cr : Int}
theorem mqa_of {a : Array Value} (hcr : Cr C0 cells slots cr) (t : State) (h : MQT below (ZQ X0 (fun v σ => QN v σ cr) (fun x σ => QE x σ cr)) a s cells slots (zA X0) t) : MQA X0 below C0 QN QE a s t := by
  obtain ⟨o, h1, h2, h3, L, h4, h5⟩ := h
  exact ⟨o, h1, h2, cells, slots, cr, hcr, h3, L, h4, h5⟩
theorem MetA.ofW {y : MethodName} {ws ws' : List Cond} {d : Nat} {Pc : Array Value → State → Prop} {cc : ByteArray} {maxL : Nat} {ret : Option FieldType}
    (hy : plainName y.cls = true) (hw : ws = Cond.code y cc maxL ret :: ws')
    (body : ∀ p e s m args below meth c s₁, BodyLoose p l y (headSpec ws (zrm d C0 C0)) cc maxL ret e s m args below meth c s₁ → c.maxLocals = maxL → Pc args s →
      W p l e (headSpec ws (zrm d C0 C0)).room s m args below meth c s.heap [] 0 0 (MQA X0 below C0 QN QE args s) (entryFrame m args maxL)) : MetA X0 l y ws d C0 Pc QN QE := by
  refine MetFree.of_bodyS (code := cc) (maxLocals := maxL) (ret := ret) hy ?_ ?_
  · intro args s m h hn
    obtain ⟨meth, c, h1, h2, h3, h4, h5, h6, -, -⟩ := Cond.code_spec hn (atoms_spec (ws := ws) h _ (by rw [hw]; exact List.mem_cons_self))
    exact ⟨meth, c, h1, h2, h3, h4, h5, h6⟩
  · intro p e s m args below meth c s₁ B hml hP _
    have hh0 : s₁.heap = s.heap := by rw [B.state]; rfl
    obtain ⟨t, a1, o, b1, b2, b3⟩ := body p e s m args below meth c s₁ B hml hP s₁ hh0 (Stand.of_body B)
    exact ⟨t, o, a1, b1, b2, b3⟩
theorem MetA.ofWW {y : MethodName} {ws ws' : List Cond} {d : Nat} {Pc : Array Value → State → Prop} {cc : ByteArray} {maxL : Nat} {ret : Option FieldType} {hh : List (Nat × Nat × Nat × Nat)}
    (hy : plainName y.cls = true) (hw : ws = Cond.codeWith y cc maxL ret hh :: ws')
    (body : ∀ p e s m args below meth c s₁, BodyLoose p l y (headSpec ws (zrm d C0 C0)) cc maxL ret e s m args below meth c s₁ → c.maxLocals = maxL → Pc args s → c.exceptionTable.toList.map (fun h => (h.startPc, h.endPc, h.handlerPc, h.catchType)) = hh →
      W p l e (headSpec ws (zrm d C0 C0)).room s m args below meth c s.heap [] 0 0 (MQA X0 below C0 QN QE args s) (entryFrame m args maxL)) : MetA X0 l y ws d C0 Pc QN QE := by
  refine MetFree.of_bodyS (code := cc) (maxLocals := maxL) (ret := ret) hy ?_ ?_
  · intro args s m h hn
    obtain ⟨m9, meth, c, hn9, h1, h2, h3, h4, -, h5, h6, -⟩ := Cond.codeWith_spec (atoms_spec (ws := ws) h _ (by rw [hw]; exact List.mem_cons_self))
    cases hn.symm.trans hn9
    exact ⟨meth, c, h1, h2, h3, h4, h5, h6⟩
  · intro p e s m args below meth c s₁ B hml hP _
    have hh0 : s₁.heap = s.heap := by rw [B.state]; rfl
    have hex : c.exceptionTable.toList.map (fun h => (h.startPc, h.endPc, h.handlerPc, h.catchType)) = hh := by
      obtain ⟨m9, meth', c', hn9, h1, h2, h3, h4, h7, h5, h6, -⟩ := Cond.codeWith_spec (atoms_spec (ws := ws) B.pre _ (by rw [hw]; exact List.mem_cons_self))
      cases B.named.symm.trans hn9
      cases B.method.symm.trans h1
      cases (Stand.of_body B).code.symm.trans h2
      exact h7
    obtain ⟨t, a1, o, b1, b2, b3⟩ := body p e s m args below meth c s₁ B hml hP hex s₁ hh0 (Stand.of_body B)
    exact ⟨t, o, a1, b1, b2, b3⟩
theorem runA {y : MethodName} {ws : List Cond} {d : Nat} {Pc : Array Value → State → Prop} {maxL : Nat} {g : JFrame} {rest : List Value} {a : Array Value} {ig : Instr}
    (X : Stand p l e R s m args below meth c T locs cells slots) (hM : MetA X0 l y ws d C0 Pc QN QE) (hI : Inv p l e R s m args below meth c T locs cells slots g rest y a) (hL : LocW s y maxL ws)
    (hbl : FrameBlind Pc) (hP : ∀ U : State, U.heap = T.heap → s.WarmedH U.vm → Pc a U) (hfr : d + 1 ≤ R.frames) (hlo : 8 + (maxL + 11) + 40 * d ≤ R.locals)
    (hg : g.method = m) (hsize : g.locals.size = c.maxLocals) (hdg : decode c.code g.pc = .ok (ig, 3)) (hW : 2 * g.monitorRoom + (rest.map fun v => v.category).sum ≤ 8) (hf : cells + C0 ≤ R.cells ∧ slots + C0 ≤ R.slots) :
    ∃ (k n : Nat) (cr : Int), Cr C0 k n cr ∧ RunT p l e R s m args below meth c T locs cells slots k n g rest (ZQ X0 (fun v σ => QN v σ cr) (fun x σ => QE x σ cr) a) (zA X0) := by
  obtain ⟨vm₁, mk, X₁, hn, hgo⟩ := hI
  obtain ⟨hws, hini, hlc⟩ := hL
  generalize hU : T.setVm vm₁ = U at X₁ hn hgo
  have hUh : U.heap = T.heap := by rw [← hU]; rfl
  have hWm : s.WarmedH U.vm := X₁.warmed
  obtain ⟨methY, cY, hmY, hcY, hlY⟩ := hlc U mk hWm hn
  obtain ⟨kY, hkY, -⟩ := className_of_methodNamed hn
  have hinitY : kY.init = .initialized := Cond.initialized_spec (findClass_of_methodNamed hn) hkY (hini a U hWm)
  generalize hg' : ({ g with stack := rest } : JFrame) = g' at hgo ⊢
  have hgm : g'.method = m := by rw [← hg']; exact hg
  have hgs : g'.locals.size = c.maxLocals := by rw [← hg']; exact hsize
  have hgd : decode c.code g'.pc = .ok (ig, 3) := by rw [← hg']; exact hdg
  have hgW : 2 * g'.monitorRoom + (g'.stack.map fun v => v.category).sum ≤ 8 := by rw [← hg']; exact hW
  have hgpc : g'.pc = g.pc := by rw [← hg']
  have hgst : g'.stack = rest := by rw [← hg']
  have h : At U g'.method c below := by rw [hgm]; exact X₁.here
  have h1 : (headSpec ws (zrm d C0 C0)).pre.before a U = true := atoms_intro fun w hw => hws w hw _ _ hWm
  have happ : (headSpec ws (zrm d C0 C0)).appliesLoose y e.platform (U.calling g' mk a) = true :=
    Spec.appliesLoose_calling (g := g') h hgd hn hkY hinitY
      (X₁.room_calling (g := g') (R' := (headSpec ws (zrm d C0 C0)).room) hgs hmY hcY hfr (by rw [hlY]; show _ + 40 * d ≤ _; omega) (by show _ + C0 ≤ _; omega) (by show _ + C0 ≤ _; omega)) h1
  obtain ⟨mid, hmid⟩ := h.above
  have hfr' : (U.setTop g').frames = (.java g' :: mid) ++ below := by rw [State.frames_setTop' g' h.top, hmid]; rfl
  obtain ⟨o, s₂, hsteps, -, hend, hq0⟩ := Steps.callFree hM p X₁.admits X₁.cas X₁.clock (acts := []) hfr' happ (hbl _ _ _ _ (hP U hUh hWm)) trivial
  have hq1 : QcA X0 C0 QN QE a (U.calling g' mk a) o s₂ := hq0
  obtain ⟨mc, ms, cr, hcr, hq, L, ⟨hor, hW₂, hsame⟩, hLf⟩ := hq1
  refine ⟨mc, ms, cr, hcr, ?_⟩
  rw [State.frames_setTop' g' h.top] at hend
  rcases hor with ⟨v, rfl⟩ | ⟨x, rfl⟩
  · left
    obtain ⟨e2, q2, q3, q4, q5, q6⟩ := id hsame
    have e3 : s₂ = ({ (U.calling g' mk a).setFrames s₂.frames with heap := s₂.heap, slotsUsed := s₂.slotsUsed } : State).setVm s₂.vm := by
      have : s₂ = ({ s₂ with vm := (U.calling g' mk a).vm } : State).setVm s₂.vm := rfl
      rw [e2] at this
      exact this
    obtain ⟨c₂, i₂, len₂, hc₂, hd₂, hf₂⟩ := hend
    have hW' : U.WarmedH s₂.vm := hW₂
    have hcc : c₂ = c := by
      have h1 : s₂.code? g'.method = U.code? g'.method := by
        rw [State.code?_eq, State.code?_eq, hW'.alike.method?]
      exact Option.some.inj (hc₂.symm.trans (h1.trans h.code))
    subst hcc
    have hlen : len₂ = 3 := by rw [hgd] at hd₂; cases hd₂; rfl
    subst hlen
    obtain ⟨g₀, hg0⟩ := Option.isSome_iff_exists.mp h.top
    obtain ⟨r, hr⟩ := State.topJava?_eq_some.mp hg0
    have hs₂ : s₂ = (({ U with heap := s₂.heap, slotsUsed := s₂.slotsUsed } : State).setVm s₂.vm).setTop { g' with pc := g'.pc + 3, stack := v.toList ++ g'.stack } := by
      have hr' : (({ U with heap := s₂.heap, slotsUsed := s₂.slotsUsed } : State).setVm s₂.vm).frames = .java g₀ :: r := hr
      refine e3.trans ?_
      rw [hf₂, State.calling_eq h.top, State.setFrames_setFrames, State.setTop_of_frames _ hr', hr]
      rfl
    have hsm : U.sameButNew ({ U with heap := s₂.heap, slotsUsed := s₂.slotsUsed } : State) L mc ms := by
      refine ⟨?_, q2, q3, q4, q5, q6⟩
      obtain ⟨t, ht, -⟩ := State.frames_cons hr
      show ({ U with heap := s₂.heap, slotsUsed := s₂.slotsUsed } : State) = { U.setFrames U.frames with heap := s₂.heap, slotsUsed := s₂.slotsUsed }
      rw [State.setFrames_self ht]
    refine ⟨v, U.calling g' mk a, s₂, (({ U with heap := s₂.heap, slotsUsed := s₂.slotsUsed } : State).setVm s₂.vm), L, hUh, ?_, hLf, rfl, hq, fun target h9 => hgo _ ?_⟩
    · exact ⟨X₁.admits, X₁.cas, X₁.clock, X₁.frames, X₁.room, X₁.hears, X₁.method, X₁.code, (X₁.here.setHeapUsed s₂.heap s₂.slotsUsed).setVm hW'.alike, X₁.tail, State.WarmedH.trans X₁.warmed hW', X₁.limits, X₁.bytes, X₁.same.trans (hsm.setVm s.vm)⟩
    · refine hsteps.trans ?_
      rw [hs₂]
      have : ({ g' with pc := g'.pc + 3, stack := v.toList ++ g'.stack } : JFrame) = { g with pc := g.pc + 3, stack := v.toList ++ rest } := by rw [← hg']
      rw [this]
      exact h9
  · right
    have hgm2 : g'.method = m := hgm
    obtain ⟨T', XT, hT1, hT2, hT3⟩ := X₁.outOfThrown (g := g') hgm2 (t := s₂) (x := x) (L := L) (k := mc) (n := ms) (by rw [X₁.tail] at hend; exact hend) hW₂ hsame
    refine ⟨x, U.calling g' mk a, s₂, T', L, hUh, XT, hLf, ?_, hq, fun target h9 => hgo _ (hsteps.trans ?_)⟩
    · rw [hT3, Stand.throwing_heap]
    · rw [hT3]
      rw [hg'] at h9
      exact h9
end AL0
section AL1
variable {X : Cxt} {p : Program} {l : Launch} {e : Env} {R : Room} {s : State} {m : MethodId} {args : Array Value} {below : List Frame} {meth : Method} {c : Code} {H : Heap} {locs : List Loc} {cells slots C0 : Nat} {Q : State → Prop}
variable {cc : ByteArray} {nL : Nat} {own : String} {ret : Option FieldType} {pc : Nat} {ls : Array Slot} {rest : List Value} {σ : St} {QN : Option Value → St → Int → Prop} {QE : Int → St → Int → Prop} {cr : Int}
theorem z_startA {y : MethodName} {d : Nat} {vs : List Value} {lv : List (Nat × Value)} (hy : plainName y.cls = true) (ho : y.cls = own) (hlv : lv_args 0 vs = lv) (hn : (lg_sl vs).length ≤ nL)
    (body : ∀ (p : Program) (e : Env) (s : State) (m : MethodId) (below : List Frame) (meth : Method) (c : Code) (ls : Array Slot), l.admits e → MCx X p s m vs.toArray meth c cc nL own ret → c.exceptionTable.isEmpty = true → meth.name = y.name → Wc X σ s.heap s.heap [] → lv_has ls nL lv → W p l e (zrm d C0 C0) s m vs.toArray below meth c s.heap [] 0 0 (MQA X below C0 QN QE vs.toArray s) (F0 m 0 ls [])) :
    MetA X l y (ws_ y cc nL ret) d C0 (ZP X σ vs) QN QE := by
  refine MetA.ofW (cc := cc) (maxL := nL) (ret := ret) hy rfl ?_
  intro p e s m args below meth c s₁ B hml hv
  obtain ⟨rfl, hS, hE⟩ := hv
  have hts := atoms_spec (ws := ws_ y cc nL ret) B.pre
  have hown : s.vm.findClass y.cls = some m.cls := findClass_of_methodNamed B.named
  rw [lg_entry_eq]
  have hl := lv_entry vs (n := nL) hn
  rw [hlv] at hl
  refine body p e s m below meth c _ (Stand.of_body B).admits ⟨B.exec, B.bytes, hml, by rw [← ho]; exact hown, fun w h => hts w (List.mem_cons_of_mem _ h), B.returns, B.notSynchronized, hE, ?_⟩ (B.noHandlers (hts _ List.mem_cons_self)) (name_of_methodNamed B.named B.method).1 ⟨hS, va_S.rf⟩ hl
  have := hS.2.2.2.2.2.2.1
  have := hS.2.2.2.2.2.2.2.1
  omega
theorem z_startAW {y : MethodName} {d : Nat} {vs : List Value} {lv : List (Nat × Value)} {hh : List (Nat × Nat × Nat × Nat)} (hy : plainName y.cls = true) (ho : y.cls = own) (hlv : lv_args 0 vs = lv) (hn : (lg_sl vs).length ≤ nL)
    (body : ∀ (p : Program) (e : Env) (s : State) (m : MethodId) (below : List Frame) (meth : Method) (c : Code) (ls : Array Slot), MCx X p s m vs.toArray meth c cc nL own ret → c.exceptionTable.toList.map (fun h => (h.startPc, h.endPc, h.handlerPc, h.catchType)) = hh → Wc X σ s.heap s.heap [] → lv_has ls nL lv → W p l e (zrm d C0 C0) s m vs.toArray below meth c s.heap [] 0 0 (MQA X below C0 QN QE vs.toArray s) (F0 m 0 ls [])) :
    MetA X l y (wsW_ y cc nL ret hh) d C0 (ZP X σ vs) QN QE := by
  refine MetA.ofWW (cc := cc) (maxL := nL) (ret := ret) hy rfl ?_
  intro p e s m args below meth c s₁ B hml hv hex
  obtain ⟨rfl, hS, hE⟩ := hv
  have hts := atoms_spec (ws := wsW_ y cc nL ret hh) B.pre
  have hown : s.vm.findClass y.cls = some m.cls := findClass_of_methodNamed B.named
  rw [lg_entry_eq]
  have hl := lv_entry vs (n := nL) hn
  rw [hlv] at hl
  refine body p e s m below meth c _ ⟨B.exec, B.bytes, hml, by rw [← ho]; exact hown, fun w h => hts w (List.mem_cons_of_mem _ h), B.returns, B.notSynchronized, hE, ?_⟩ hex ⟨hS, va_S.rf⟩ hl
  have := hS.2.2.2.2.2.2.1
  have := hS.2.2.2.2.2.2.2.1
  omega
/-- a call of a method that makes objects -/
theorem z_callA {y : MethodName} {ws : List Cond} {d maxL Cc : Nat} {vs stk : List Value} {ig : Instr} (K : MCx X p s m args meth c cc nL own ret) (hw : Wc X σ s.heap H locs) (hM : MetA X l y ws d Cc (ZP X σ vs) QN QE)
    (hI : ∀ T : State, T.heap = H → Stand p l e R s m args below meth c T locs cells slots → Inv p l e R s m args below meth c T locs cells slots (F0 m pc ls stk) rest y vs.toArray) (hL : LocW s y maxL ws)
    (hfr : d + 1 ≤ R.frames ∧ 8 + (maxL + 11) + 40 * d ≤ R.locals) (hl : ls.size = nL) (hd : decode cc pc = .ok (ig, 3)) (hst : (rest.map fun v => v.category).sum ≤ 8) (hcr : Cr C0 cells slots cr) (hCc : (Cc : Int) = cr) (hR : C0 ≤ R.cells ∧ C0 ≤ R.slots)
    (kN : ∀ (v : Option Value) (σ' : St) (H1 : Heap) (locs1 : List Loc) (cells1 slots1 : Nat) (cr1 : Int), QN v σ' cr1 → Wc X σ' s.heap H1 locs1 → Cr C0 cells1 slots1 cr1 → W p l e R s m args below meth c H1 locs1 cells1 slots1 Q (F0 m (pc + 3) ls (v.toList ++ rest)))
    (kE : ∀ (x : Int) (σ' : St) (H1 : Heap) (locs1 : List Loc) (cells1 slots1 : Nat) (cr1 : Int), 0 ≤ x → QE x σ' cr1 → Wc X σ' s.heap H1 locs1 → Cr C0 cells1 slots1 cr1 → WT p l e R s m args below meth c H1 locs1 cells1 slots1 Q (F0 m pc ls rest) (cb X + x.toNat)) :
    W p l e R s m args below meth c H locs cells slots Q (F0 m pc ls stk) := by
  intro T hT X0
  have key : ∀ {st₀ t : State} {L : List Loc}, st₀.heap = T.heap → va_F (zA X) st₀ t → (∀ q ∈ L, zA X q.base) → va_S (zA X) s.heap t.heap (locs ++ L) := by
    intro st₀ t L h0 hF hL
    refine ⟨Nat.le_trans hw.2.1 (by have := hF.1; rw [h0, hT] at this; exact this), fun q h1 h2 => ?_, fun q hq => ?_⟩
    · rw [hF.2 q (by rw [h0, hT]; exact Nat.lt_of_lt_of_le h1 hw.2.1) h2, h0, hT]
      exact hw.2.2.1 q h1 h2
    · rcases List.mem_append.mp hq with h | h
      · exact hw.2.2.2 q h
      · exact hL q h
  obtain ⟨k, n, cr1, hcr1, hrun⟩ := runA (a := vs.toArray) (g := F0 m pc ls stk) (rest := rest) X0 hM (hI T hT X0) hL (zp_blind X σ vs) (fun U hU hW => ⟨rfl, by rw [hU, hT]; exact hw.1, ZEnv.call hw.2 (by rw [hU, hT]) hW K.env⟩) hfr.1 hfr.2 rfl (hl.trans K.ml.symm) (by rw [K.b]; exact hd) (by show 2 * 0 + _ ≤ 8; omega) (by unfold Cr at hcr; omega)
  have hcr2 := cr_call hcr hCc hcr1
  rcases hrun with ⟨v, st₀, t, T', L, h0, X', hLf, e1, ⟨σ', g1, g2, g3⟩, hgo⟩ | ⟨x, st₀, t, T', L, h0, X', hLf, e1, ⟨σ', g1, g2, g3⟩, hgo⟩
  · rcases g3 with ⟨v', hv, hq⟩ | ⟨a', hv, -⟩
    · cases hv
      obtain ⟨t2, a1, b1⟩ := kN v σ' T'.heap (locs ++ L) _ _ _ hq ⟨by rw [e1]; exact g1, by rw [e1]; exact key h0 g2 hLf⟩ hcr2 T' rfl X'
      exact ⟨t2, hgo t2 a1, b1⟩
    · cases hv
  · rcases g3 with ⟨v', hv, -⟩ | ⟨a', hv, hp, hq⟩
    · cases hv
    · cases hv
      obtain ⟨t2, a1, b1⟩ := kE a' σ' T'.heap (locs ++ L) _ _ _ hp hq ⟨by rw [e1]; exact g1, by rw [e1]; exact key h0 g2 hLf⟩ hcr2 T' rfl X'
      exact ⟨t2, hgo t2 a1, b1⟩
theorem za_iret {z : Int} {Q : Int → St → Int → Prop} (K : MCx X p s m args meth c cc nL own (some .int)) (hw : Wc X σ s.heap H locs) (hcr : Cr C0 cells slots cr) (hr : rng z) (hq : Q z σ cr) (hd : decode cc pc = .ok (.ireturn, 1)) : W p l e R s m args below meth c H locs cells slots (MQA X below C0 (qIA Q) QE args s) (F0 m pc ls [jI z]) :=
  W.mono (mqa_of hcr) (z_iret (Q := fun z σ => Q z σ cr) K hw hr hq hd)
theorem za_zret {z : Int} {Q : Int → St → Int → Prop} (K : MCx X p s m args meth c cc nL own (some .boolean)) (hw : Wc X σ s.heap H locs) (hcr : Cr C0 cells slots cr) (hr : 0 ≤ z ∧ z ≤ 1) (hq : Q z σ cr) (hd : decode cc pc = .ok (.ireturn, 1)) : W p l e R s m args below meth c H locs cells slots (MQA X below C0 (qZA Q) QE args s) (F0 m pc ls [jI z]) :=
  W.mono (mqa_of hcr) (z_zret (Q := fun z σ => Q z σ cr) K hw hr hq hd)
theorem za_lret {z : Int} {Q : Int → St → Int → Prop} (K : MCx X p s m args meth c cc nL own (some .long)) (hw : Wc X σ s.heap H locs) (hcr : Cr C0 cells slots cr) (hr : rngL z) (hq : Q z σ cr) (hd : decode cc pc = .ok (.lreturn, 1)) : W p l e R s m args below meth c H locs cells slots (MQA X below C0 (qLA Q) QE args s) (F0 m pc ls [jL z]) :=
  W.mono (mqa_of hcr) (z_lret (Q := fun z σ => Q z σ cr) K hw hr hq hd)
theorem za_aret {z : Int} {C : String} {r : Nat} {Q : Int → St → Int → Prop} (K : MCx X p s m args meth c cc nL own (some (.object C))) (hw : Wc X σ s.heap H locs) (hcr : Cr C0 cells slots cr) (hr : z = -1 ∨ okR σ r z) (hq : Q z σ cr) (hd : decode cc pc = .ok (.areturn, 1)) : W p l e R s m args below meth c H locs cells slots (MQA X below C0 (qRA X r Q) QE args s) (F0 m pc ls [jR X z]) :=
  W.mono (mqa_of hcr) (z_aret (Q := fun z σ => Q z σ cr) K hw hr hq hd)
theorem za_vret {Q : St → Int → Prop} (K : MCx X p s m args meth c cc nL own none) (hw : Wc X σ s.heap H locs) (hcr : Cr C0 cells slots cr) (hq : Q σ cr) (hd : decode cc pc = .ok (.return_, 1)) : W p l e R s m args below meth c H locs cells slots (MQA X below C0 (qVA Q) QE args s) (F0 m pc ls []) :=
  W.mono (mqa_of hcr) (z_vret (Q := fun σ => Q σ cr) K hw hq hd)
theorem za_out {x : Int} (K : MCx X p s m args meth c cc nL own ret) (hw : Wc X σ s.heap H locs) (hcr : Cr C0 cells slots cr) (h0 : 0 ≤ x) (hq : QE x σ cr) (hout : ∀ y ∈ c.exceptionTable.toList, covers y pc = false) :
    WT p l e R s m args below meth c H locs cells slots (MQA X below C0 QN QE args s) (F0 m pc ls rest) (cb X + x.toNat) := by
  intro T hT X0
  obtain ⟨t, h1, h2⟩ := z_out (QN := fun v σ => QN v σ cr) (QE := fun x σ => QE x σ cr) K hw h0 hq hout T hT X0
  exact ⟨t, h1, mqa_of hcr t h2⟩
theorem za_athrow {x : Int} (K : MCx X p s m args meth c cc nL own ret) (hw : Wc X σ s.heap H locs) (hcr : Cr C0 cells slots cr) (h0 : 0 ≤ x) (hq : QE x σ cr) (hout : ∀ y ∈ c.exceptionTable.toList, covers y pc = false) (hd : decode cc pc = .ok (.athrow, 1)) :
    W p l e R s m args below meth c H locs cells slots (MQA X below C0 QN QE args s) (F0 m pc ls (jR X x :: rest)) :=
  W.mono (mqa_of hcr) (z_athrow K hw h0 hq hout hd)
theorem zac_i {y : MethodName} {ws : List Cond} {d maxL Cc : Nat} {vs stk : List Value} {ig : Instr} {Q' : Int → St → Int → Prop} (K : MCx X p s m args meth c cc nL own ret) (hw : Wc X σ s.heap H locs) (hM : MetA X l y ws d Cc (ZP X σ vs) (qIA Q') (fun _ _ _ => False))
    (hI : ∀ T : State, T.heap = H → Stand p l e R s m args below meth c T locs cells slots → Inv p l e R s m args below meth c T locs cells slots (F0 m pc ls stk) rest y vs.toArray) (hL : LocW s y maxL ws)
    (hfr : d + 1 ≤ R.frames ∧ 8 + (maxL + 11) + 40 * d ≤ R.locals) (hl : ls.size = nL) (hd : decode cc pc = .ok (ig, 3)) (hst : (rest.map fun v => v.category).sum ≤ 8) (hcr : Cr C0 cells slots cr) (hCc : (Cc : Int) = cr) (hR : C0 ≤ R.cells ∧ C0 ≤ R.slots)
    (kN : ∀ (z : Int) (σ' : St) (H1 : Heap) (locs1 : List Loc) (cells1 slots1 : Nat) (cr1 : Int), rng z → Q' z σ' cr1 → Wc X σ' s.heap H1 locs1 → Cr C0 cells1 slots1 cr1 → W p l e R s m args below meth c H1 locs1 cells1 slots1 Q (F0 m (pc + 3) ls (jI z :: rest)))
:
    W p l e R s m args below meth c H locs cells slots Q (F0 m pc ls stk) :=
  z_callA K hw hM hI hL hfr hl hd hst hcr hCc hR (fun v σ' H1 locs1 c1 s1 r1 hq hw1 hc1 => by obtain ⟨z, rfl, hr, hq⟩ := hq; exact kN z σ' H1 locs1 c1 s1 r1 hr hq hw1 hc1) (fun _ _ _ _ _ _ _ _ h _ _ => h.elim)
theorem zac_z {y : MethodName} {ws : List Cond} {d maxL Cc : Nat} {vs stk : List Value} {ig : Instr} {Q' : Int → St → Int → Prop} (K : MCx X p s m args meth c cc nL own ret) (hw : Wc X σ s.heap H locs) (hM : MetA X l y ws d Cc (ZP X σ vs) (qZA Q') (fun _ _ _ => False))
    (hI : ∀ T : State, T.heap = H → Stand p l e R s m args below meth c T locs cells slots → Inv p l e R s m args below meth c T locs cells slots (F0 m pc ls stk) rest y vs.toArray) (hL : LocW s y maxL ws)
    (hfr : d + 1 ≤ R.frames ∧ 8 + (maxL + 11) + 40 * d ≤ R.locals) (hl : ls.size = nL) (hd : decode cc pc = .ok (ig, 3)) (hst : (rest.map fun v => v.category).sum ≤ 8) (hcr : Cr C0 cells slots cr) (hCc : (Cc : Int) = cr) (hR : C0 ≤ R.cells ∧ C0 ≤ R.slots)
    (kN : ∀ (z : Int) (σ' : St) (H1 : Heap) (locs1 : List Loc) (cells1 slots1 : Nat) (cr1 : Int), (0 ≤ z ∧ z ≤ 1) → Q' z σ' cr1 → Wc X σ' s.heap H1 locs1 → Cr C0 cells1 slots1 cr1 → W p l e R s m args below meth c H1 locs1 cells1 slots1 Q (F0 m (pc + 3) ls (jI z :: rest)))
:
    W p l e R s m args below meth c H locs cells slots Q (F0 m pc ls stk) :=
  z_callA K hw hM hI hL hfr hl hd hst hcr hCc hR (fun v σ' H1 locs1 c1 s1 r1 hq hw1 hc1 => by obtain ⟨z, rfl, hr, hq⟩ := hq; exact kN z σ' H1 locs1 c1 s1 r1 hr hq hw1 hc1) (fun _ _ _ _ _ _ _ _ h _ _ => h.elim)
theorem zac_l {y : MethodName} {ws : List Cond} {d maxL Cc : Nat} {vs stk : List Value} {ig : Instr} {Q' : Int → St → Int → Prop} (K : MCx X p s m args meth c cc nL own ret) (hw : Wc X σ s.heap H locs) (hM : MetA X l y ws d Cc (ZP X σ vs) (qLA Q') (fun _ _ _ => False))
    (hI : ∀ T : State, T.heap = H → Stand p l e R s m args below meth c T locs cells slots → Inv p l e R s m args below meth c T locs cells slots (F0 m pc ls stk) rest y vs.toArray) (hL : LocW s y maxL ws)
    (hfr : d + 1 ≤ R.frames ∧ 8 + (maxL + 11) + 40 * d ≤ R.locals) (hl : ls.size = nL) (hd : decode cc pc = .ok (ig, 3)) (hst : (rest.map fun v => v.category).sum ≤ 8) (hcr : Cr C0 cells slots cr) (hCc : (Cc : Int) = cr) (hR : C0 ≤ R.cells ∧ C0 ≤ R.slots)
    (kN : ∀ (z : Int) (σ' : St) (H1 : Heap) (locs1 : List Loc) (cells1 slots1 : Nat) (cr1 : Int), rngL z → Q' z σ' cr1 → Wc X σ' s.heap H1 locs1 → Cr C0 cells1 slots1 cr1 → W p l e R s m args below meth c H1 locs1 cells1 slots1 Q (F0 m (pc + 3) ls (jL z :: rest)))
:
    W p l e R s m args below meth c H locs cells slots Q (F0 m pc ls stk) :=
  z_callA K hw hM hI hL hfr hl hd hst hcr hCc hR (fun v σ' H1 locs1 c1 s1 r1 hq hw1 hc1 => by obtain ⟨z, rfl, hr, hq⟩ := hq; exact kN z σ' H1 locs1 c1 s1 r1 hr hq hw1 hc1) (fun _ _ _ _ _ _ _ _ h _ _ => h.elim)
theorem zac_r {r : Nat} {y : MethodName} {ws : List Cond} {d maxL Cc : Nat} {vs stk : List Value} {ig : Instr} {Q' : Int → St → Int → Prop} (K : MCx X p s m args meth c cc nL own ret) (hw : Wc X σ s.heap H locs) (hM : MetA X l y ws d Cc (ZP X σ vs) (qRA X r Q') (fun _ _ _ => False))
    (hI : ∀ T : State, T.heap = H → Stand p l e R s m args below meth c T locs cells slots → Inv p l e R s m args below meth c T locs cells slots (F0 m pc ls stk) rest y vs.toArray) (hL : LocW s y maxL ws)
    (hfr : d + 1 ≤ R.frames ∧ 8 + (maxL + 11) + 40 * d ≤ R.locals) (hl : ls.size = nL) (hd : decode cc pc = .ok (ig, 3)) (hst : (rest.map fun v => v.category).sum ≤ 8) (hcr : Cr C0 cells slots cr) (hCc : (Cc : Int) = cr) (hR : C0 ≤ R.cells ∧ C0 ≤ R.slots)
    (kN : ∀ (z : Int) (σ' : St) (H1 : Heap) (locs1 : List Loc) (cells1 slots1 : Nat) (cr1 : Int), (z = -1 ∨ okR σ' r z) → Q' z σ' cr1 → Wc X σ' s.heap H1 locs1 → Cr C0 cells1 slots1 cr1 → W p l e R s m args below meth c H1 locs1 cells1 slots1 Q (F0 m (pc + 3) ls (jR X z :: rest)))
:
    W p l e R s m args below meth c H locs cells slots Q (F0 m pc ls stk) :=
  z_callA K hw hM hI hL hfr hl hd hst hcr hCc hR (fun v σ' H1 locs1 c1 s1 r1 hq hw1 hc1 => by obtain ⟨z, rfl, hr, hq⟩ := hq; exact kN z σ' H1 locs1 c1 s1 r1 hr hq hw1 hc1) (fun _ _ _ _ _ _ _ _ h _ _ => h.elim)
theorem zac_v {y : MethodName} {ws : List Cond} {d maxL Cc : Nat} {vs stk : List Value} {ig : Instr} {Q' : St → Int → Prop} (K : MCx X p s m args meth c cc nL own ret) (hw : Wc X σ s.heap H locs) (hM : MetA X l y ws d Cc (ZP X σ vs) (qVA Q') (fun _ _ _ => False))
    (hI : ∀ T : State, T.heap = H → Stand p l e R s m args below meth c T locs cells slots → Inv p l e R s m args below meth c T locs cells slots (F0 m pc ls stk) rest y vs.toArray) (hL : LocW s y maxL ws)
    (hfr : d + 1 ≤ R.frames ∧ 8 + (maxL + 11) + 40 * d ≤ R.locals) (hl : ls.size = nL) (hd : decode cc pc = .ok (ig, 3)) (hst : (rest.map fun v => v.category).sum ≤ 8) (hcr : Cr C0 cells slots cr) (hCc : (Cc : Int) = cr) (hR : C0 ≤ R.cells ∧ C0 ≤ R.slots)
    (kN : ∀ (σ' : St) (H1 : Heap) (locs1 : List Loc) (cells1 slots1 : Nat) (cr1 : Int), Q' σ' cr1 → Wc X σ' s.heap H1 locs1 → Cr C0 cells1 slots1 cr1 → W p l e R s m args below meth c H1 locs1 cells1 slots1 Q (F0 m (pc + 3) ls (rest)))
:
    W p l e R s m args below meth c H locs cells slots Q (F0 m pc ls stk) :=
  z_callA K hw hM hI hL hfr hl hd hst hcr hCc hR (fun v σ' H1 locs1 c1 s1 r1 hq hw1 hc1 => by obtain ⟨rfl, hq⟩ := hq; exact kN σ' H1 locs1 c1 s1 r1 hq hw1 hc1) (fun _ _ _ _ _ _ _ _ h _ _ => h.elim)
theorem zat_i {y : MethodName} {ws : List Cond} {d maxL Cc : Nat} {vs stk : List Value} {ig : Instr} {Q' : Int → St → Int → Prop} (K : MCx X p s m args meth c cc nL own ret) (hw : Wc X σ s.heap H locs) (hM : MetA X l y ws d Cc (ZP X σ vs) (qIA Q') QE)
    (hI : ∀ T : State, T.heap = H → Stand p l e R s m args below meth c T locs cells slots → Inv p l e R s m args below meth c T locs cells slots (F0 m pc ls stk) rest y vs.toArray) (hL : LocW s y maxL ws)
    (hfr : d + 1 ≤ R.frames ∧ 8 + (maxL + 11) + 40 * d ≤ R.locals) (hl : ls.size = nL) (hd : decode cc pc = .ok (ig, 3)) (hst : (rest.map fun v => v.category).sum ≤ 8) (hcr : Cr C0 cells slots cr) (hCc : (Cc : Int) = cr) (hR : C0 ≤ R.cells ∧ C0 ≤ R.slots)
    (kN : ∀ (z : Int) (σ' : St) (H1 : Heap) (locs1 : List Loc) (cells1 slots1 : Nat) (cr1 : Int), rng z → Q' z σ' cr1 → Wc X σ' s.heap H1 locs1 → Cr C0 cells1 slots1 cr1 → W p l e R s m args below meth c H1 locs1 cells1 slots1 Q (F0 m (pc + 3) ls (jI z :: rest)))
    (kE : ∀ (x : Int) (σ' : St) (H1 : Heap) (locs1 : List Loc) (cells1 slots1 : Nat) (cr1 : Int), 0 ≤ x → QE x σ' cr1 → Wc X σ' s.heap H1 locs1 → Cr C0 cells1 slots1 cr1 → WT p l e R s m args below meth c H1 locs1 cells1 slots1 Q (F0 m pc ls rest) (cb X + x.toNat)) :
    W p l e R s m args below meth c H locs cells slots Q (F0 m pc ls stk) :=
  z_callA K hw hM hI hL hfr hl hd hst hcr hCc hR (fun v σ' H1 locs1 c1 s1 r1 hq hw1 hc1 => by obtain ⟨z, rfl, hr, hq⟩ := hq; exact kN z σ' H1 locs1 c1 s1 r1 hr hq hw1 hc1) kE
theorem zat_z {y : MethodName} {ws : List Cond} {d maxL Cc : Nat} {vs stk : List Value} {ig : Instr} {Q' : Int → St → Int → Prop} (K : MCx X p s m args meth c cc nL own ret) (hw : Wc X σ s.heap H locs) (hM : MetA X l y ws d Cc (ZP X σ vs) (qZA Q') QE)
    (hI : ∀ T : State, T.heap = H → Stand p l e R s m args below meth c T locs cells slots → Inv p l e R s m args below meth c T locs cells slots (F0 m pc ls stk) rest y vs.toArray) (hL : LocW s y maxL ws)
    (hfr : d + 1 ≤ R.frames ∧ 8 + (maxL + 11) + 40 * d ≤ R.locals) (hl : ls.size = nL) (hd : decode cc pc = .ok (ig, 3)) (hst : (rest.map fun v => v.category).sum ≤ 8) (hcr : Cr C0 cells slots cr) (hCc : (Cc : Int) = cr) (hR : C0 ≤ R.cells ∧ C0 ≤ R.slots)
    (kN : ∀ (z : Int) (σ' : St) (H1 : Heap) (locs1 : List Loc) (cells1 slots1 : Nat) (cr1 : Int), (0 ≤ z ∧ z ≤ 1) → Q' z σ' cr1 → Wc X σ' s.heap H1 locs1 → Cr C0 cells1 slots1 cr1 → W p l e R s m args below meth c H1 locs1 cells1 slots1 Q (F0 m (pc + 3) ls (jI z :: rest)))
    (kE : ∀ (x : Int) (σ' : St) (H1 : Heap) (locs1 : List Loc) (cells1 slots1 : Nat) (cr1 : Int), 0 ≤ x → QE x σ' cr1 → Wc X σ' s.heap H1 locs1 → Cr C0 cells1 slots1 cr1 → WT p l e R s m args below meth c H1 locs1 cells1 slots1 Q (F0 m pc ls rest) (cb X + x.toNat)) :
    W p l e R s m args below meth c H locs cells slots Q (F0 m pc ls stk) :=
  z_callA K hw hM hI hL hfr hl hd hst hcr hCc hR (fun v σ' H1 locs1 c1 s1 r1 hq hw1 hc1 => by obtain ⟨z, rfl, hr, hq⟩ := hq; exact kN z σ' H1 locs1 c1 s1 r1 hr hq hw1 hc1) kE
theorem zat_l {y : MethodName} {ws : List Cond} {d maxL Cc : Nat} {vs stk : List Value} {ig : Instr} {Q' : Int → St → Int → Prop} (K : MCx X p s m args meth c cc nL own ret) (hw : Wc X σ s.heap H locs) (hM : MetA X l y ws d Cc (ZP X σ vs) (qLA Q') QE)
    (hI : ∀ T : State, T.heap = H → Stand p l e R s m args below meth c T locs cells slots → Inv p l e R s m args below meth c T locs cells slots (F0 m pc ls stk) rest y vs.toArray) (hL : LocW s y maxL ws)
    (hfr : d + 1 ≤ R.frames ∧ 8 + (maxL + 11) + 40 * d ≤ R.locals) (hl : ls.size = nL) (hd : decode cc pc = .ok (ig, 3)) (hst : (rest.map fun v => v.category).sum ≤ 8) (hcr : Cr C0 cells slots cr) (hCc : (Cc : Int) = cr) (hR : C0 ≤ R.cells ∧ C0 ≤ R.slots)
    (kN : ∀ (z : Int) (σ' : St) (H1 : Heap) (locs1 : List Loc) (cells1 slots1 : Nat) (cr1 : Int), rngL z → Q' z σ' cr1 → Wc X σ' s.heap H1 locs1 → Cr C0 cells1 slots1 cr1 → W p l e R s m args below meth c H1 locs1 cells1 slots1 Q (F0 m (pc + 3) ls (jL z :: rest)))
    (kE : ∀ (x : Int) (σ' : St) (H1 : Heap) (locs1 : List Loc) (cells1 slots1 : Nat) (cr1 : Int), 0 ≤ x → QE x σ' cr1 → Wc X σ' s.heap H1 locs1 → Cr C0 cells1 slots1 cr1 → WT p l e R s m args below meth c H1 locs1 cells1 slots1 Q (F0 m pc ls rest) (cb X + x.toNat)) :
    W p l e R s m args below meth c H locs cells slots Q (F0 m pc ls stk) :=
  z_callA K hw hM hI hL hfr hl hd hst hcr hCc hR (fun v σ' H1 locs1 c1 s1 r1 hq hw1 hc1 => by obtain ⟨z, rfl, hr, hq⟩ := hq; exact kN z σ' H1 locs1 c1 s1 r1 hr hq hw1 hc1) kE
theorem zat_r {r : Nat} {y : MethodName} {ws : List Cond} {d maxL Cc : Nat} {vs stk : List Value} {ig : Instr} {Q' : Int → St → Int → Prop} (K : MCx X p s m args meth c cc nL own ret) (hw : Wc X σ s.heap H locs) (hM : MetA X l y ws d Cc (ZP X σ vs) (qRA X r Q') QE)
    (hI : ∀ T : State, T.heap = H → Stand p l e R s m args below meth c T locs cells slots → Inv p l e R s m args below meth c T locs cells slots (F0 m pc ls stk) rest y vs.toArray) (hL : LocW s y maxL ws)
    (hfr : d + 1 ≤ R.frames ∧ 8 + (maxL + 11) + 40 * d ≤ R.locals) (hl : ls.size = nL) (hd : decode cc pc = .ok (ig, 3)) (hst : (rest.map fun v => v.category).sum ≤ 8) (hcr : Cr C0 cells slots cr) (hCc : (Cc : Int) = cr) (hR : C0 ≤ R.cells ∧ C0 ≤ R.slots)
    (kN : ∀ (z : Int) (σ' : St) (H1 : Heap) (locs1 : List Loc) (cells1 slots1 : Nat) (cr1 : Int), (z = -1 ∨ okR σ' r z) → Q' z σ' cr1 → Wc X σ' s.heap H1 locs1 → Cr C0 cells1 slots1 cr1 → W p l e R s m args below meth c H1 locs1 cells1 slots1 Q (F0 m (pc + 3) ls (jR X z :: rest)))
    (kE : ∀ (x : Int) (σ' : St) (H1 : Heap) (locs1 : List Loc) (cells1 slots1 : Nat) (cr1 : Int), 0 ≤ x → QE x σ' cr1 → Wc X σ' s.heap H1 locs1 → Cr C0 cells1 slots1 cr1 → WT p l e R s m args below meth c H1 locs1 cells1 slots1 Q (F0 m pc ls rest) (cb X + x.toNat)) :
    W p l e R s m args below meth c H locs cells slots Q (F0 m pc ls stk) :=
  z_callA K hw hM hI hL hfr hl hd hst hcr hCc hR (fun v σ' H1 locs1 c1 s1 r1 hq hw1 hc1 => by obtain ⟨z, rfl, hr, hq⟩ := hq; exact kN z σ' H1 locs1 c1 s1 r1 hr hq hw1 hc1) kE
theorem zat_v {y : MethodName} {ws : List Cond} {d maxL Cc : Nat} {vs stk : List Value} {ig : Instr} {Q' : St → Int → Prop} (K : MCx X p s m args meth c cc nL own ret) (hw : Wc X σ s.heap H locs) (hM : MetA X l y ws d Cc (ZP X σ vs) (qVA Q') QE)
    (hI : ∀ T : State, T.heap = H → Stand p l e R s m args below meth c T locs cells slots → Inv p l e R s m args below meth c T locs cells slots (F0 m pc ls stk) rest y vs.toArray) (hL : LocW s y maxL ws)
    (hfr : d + 1 ≤ R.frames ∧ 8 + (maxL + 11) + 40 * d ≤ R.locals) (hl : ls.size = nL) (hd : decode cc pc = .ok (ig, 3)) (hst : (rest.map fun v => v.category).sum ≤ 8) (hcr : Cr C0 cells slots cr) (hCc : (Cc : Int) = cr) (hR : C0 ≤ R.cells ∧ C0 ≤ R.slots)
    (kN : ∀ (σ' : St) (H1 : Heap) (locs1 : List Loc) (cells1 slots1 : Nat) (cr1 : Int), Q' σ' cr1 → Wc X σ' s.heap H1 locs1 → Cr C0 cells1 slots1 cr1 → W p l e R s m args below meth c H1 locs1 cells1 slots1 Q (F0 m (pc + 3) ls (rest)))
    (kE : ∀ (x : Int) (σ' : St) (H1 : Heap) (locs1 : List Loc) (cells1 slots1 : Nat) (cr1 : Int), 0 ≤ x → QE x σ' cr1 → Wc X σ' s.heap H1 locs1 → Cr C0 cells1 slots1 cr1 → WT p l e R s m args below meth c H1 locs1 cells1 slots1 Q (F0 m pc ls rest) (cb X + x.toNat)) :
    W p l e R s m args below meth c H locs cells slots Q (F0 m pc ls stk) :=
  z_callA K hw hM hI hL hfr hl hd hst hcr hCc hR (fun v σ' H1 locs1 c1 s1 r1 hq hw1 hc1 => by obtain ⟨rfl, hq⟩ := hq; exact kN σ' H1 locs1 c1 s1 r1 hq hw1 hc1) kE
theorem zt_i8 {y : MethodName} {ws : List Cond} {d maxL : Nat} {vs stk : List Value} {ig : Instr} {Q' : Int → St → Prop} {QX : Int → St → Prop} (K : MCx X p s m args meth c cc nL own ret) (hw : Wc X σ s.heap H locs) (hM : MetT l y ws (zrm d 0 0) (ZP X σ vs) (ZQ X (qI Q') QX) 0 0 (zA X))
    (hI : ∀ T : State, T.heap = H → Stand p l e R s m args below meth c T locs cells slots → Inv p l e R s m args below meth c T locs cells slots (F0 m pc ls stk) rest y vs.toArray) (hL : LocW s y maxL ws)
    (hfr : d + 1 ≤ R.frames ∧ 8 + (maxL + 11) + 40 * d ≤ R.locals) (hl : ls.size = nL) (hd : decode cc pc = .ok (ig, 3)) (hst : (rest.map fun v => v.category).sum ≤ 8) (hc : cells ≤ R.cells ∧ slots ≤ R.slots)
    (kN : ∀ (z : Int) (σ' : St) (H1 : Heap) (locs1 : List Loc), rng z → Q' z σ' → Wc X σ' s.heap H1 locs1 → W p l e R s m args below meth c H1 locs1 cells slots Q (F0 m (pc + 3) ls (jI z :: rest)))
    (kE : ∀ (x : Int) (σ' : St) (H1 : Heap) (locs1 : List Loc), 0 ≤ x → QX x σ' → Wc X σ' s.heap H1 locs1 → WT p l e R s m args below meth c H1 locs1 cells slots Q (F0 m pc ls rest) (cb X + x.toNat)) :
    W p l e R s m args below meth c H locs cells slots Q (F0 m pc ls stk) :=
  z_call8 K hw hM hI hL ⟨rfl, rfl⟩ hfr hl hd hst hc (fun v σ' H1 locs1 hq hw1 => by obtain ⟨z, rfl, hr, hq⟩ := hq; exact kN z σ' H1 locs1 hr hq hw1) kE
end AL1
