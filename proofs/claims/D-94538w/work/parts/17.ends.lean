/-! ROWS: calls, returns, throws -/
set_option maxRecDepth 100000
/-- what only the classes' fields in the list may have changed -/
def Kp (ws : List (Int × Nat)) (σ σ' : St) : Prop := (∀ (a : Int) (f : Nat), tg σ a ≠ 0 → (tg σ a, f) ∉ ws → σ' a f = σ a f) ∧ ∀ (a : Int) (f : Nat), 0 < tg σ a → σ' a f (-1) = σ a f (-1)
def wsOk (ws : List (Int × Nat)) : Bool := ws.all (fun q => q.2 != 99)
theorem kp_rf {ws : List (Int × Nat)} (σ : St) : Kp ws σ σ := ⟨fun _ _ _ _ => rfl, fun _ _ _ => rfl⟩
theorem ws99 {ws : List (Int × Nat)} (h : wsOk ws = true) (t : Int) : (t, 99) ∉ ws := by
  intro hm
  have := List.all_eq_true.mp h _ hm
  simp at this
theorem kp_tg {ws : List (Int × Nat)} {σ σ' : St} (hk : Kp ws σ σ') (h : wsOk ws = true) {a : Int} {t : Int} (ht : tg σ a = t) (h0 : t ≠ 0) : tg σ' a = t := by
  have := hk.1 a 99 (by rw [ht]; exact h0) (ws99 h _)
  show σ' a 99 0 = t
  rw [this]
  exact ht
theorem kp_okR {ws : List (Int × Nat)} {σ σ' : St} (hk : Kp ws σ σ') (h : wsOk ws = true) {r : Nat} {z : Int} (hr : okR σ r z) : okR σ' r z := by
  revert hr
  unfold okR
  split
  · exact fun h => h
  · split
    · intro hr
      have : tg σ' z = tg σ z := kp_tg hk h rfl (by omega)
      rw [this]
      exact hr
    · intro hr
      exact kp_tg hk h hr (by omega)
theorem kp_trans {w1 w2 ws : List (Int × Nat)} {σ σ' σ'' : St} (hw : wsOk w1 = true) (h1 : Kp w1 σ σ') (h2 : Kp w2 σ' σ'') (s1 : ∀ q ∈ w1, q ∈ ws) (s2 : ∀ q ∈ w2, q ∈ ws) : Kp ws σ σ'' := by
  refine ⟨fun a f h0 hn => ?_, fun a f h0 => ?_⟩
  · have e1 := h1.1 a f h0 (fun h => hn (s1 _ h))
    have e2 := kp_tg h1 hw (a := a) rfl h0
    rw [h2.1 a f (by rw [e2]; exact h0) (by rw [e2]; exact fun h => hn (s2 _ h)), e1]
  · have e2 := kp_tg h1 hw (a := a) rfl (by omega)
    rw [h2.2 a f (by rw [e2]; exact h0), h1.2 a f h0]
theorem kp_st {ws : List (Int × Nat)} {σ σ' : St} {a j v : Int} {f : Nat} {t : Int} (hk : Kp ws σ σ') (hw : wsOk ws = true) (hj : 0 ≤ j) (ht : tg σ' a = t) (hm : (t, f) ∈ ws) : Kp ws σ (st σ' a f j v) := by
  refine ⟨fun a' f' h0 hn => ?_, fun a' f' h0 => ?_⟩
  · rw [st_off, hk.1 a' f' h0 hn]
    by_cases e : a' = a
    · right
      rintro rfl
      subst e
      have := kp_tg hk hw (a := a') rfl h0
      rw [this] at ht
      rw [ht] at hn
      exact hn hm
    · exact Or.inl e
  · rw [st_ne (by omega), hk.2 a' f' h0]
theorem st_m1 {σ : St} {a a' j v : Int} {f f' : Nat} (hj : 0 ≤ j) : st σ a f j v a' f' (-1) = σ a' f' (-1) := st_ne (by omega)
theorem tg_st {σ : St} {a a' j v : Int} {f : Nat} (h : f ≠ 99) : tg (st σ a f j v) a' = tg σ a' := by
  show st σ a f j v a' 99 0 = σ a' 99 0
  exact st_ne (fun q => h q.2.1.symm)
/-- a method's start and end -/
def ZP (X : Cxt) (σ : St) (vs : List Value) : Array Value → State → Prop := va_Pc vs (fun U => Sim X σ U.heap ∧ ZEnv X U)
def ZQ (X : Cxt) (QN : Option Value → St → Prop) (QE : Int → St → Prop) : Array Value → State → Outcome → State → Prop := fun _ st oc t =>
  ∃ σ', Sim X σ' t.heap ∧ va_F (zA X) st t ∧ ((∃ v, oc = .returned v ∧ QN v σ') ∨ ∃ a : Int, oc = .threw (cb X + a.toNat) ∧ 0 ≤ a ∧ QE a σ')
def qI (Q : Int → St → Prop) : Option Value → St → Prop := fun v σ => ∃ z, v = some (jI z) ∧ rng z ∧ Q z σ
def qZ (Q : Int → St → Prop) : Option Value → St → Prop := fun v σ => ∃ z, v = some (jI z) ∧ (0 ≤ z ∧ z ≤ 1) ∧ Q z σ
def qL (Q : Int → St → Prop) : Option Value → St → Prop := fun v σ => ∃ z, v = some (jL z) ∧ rngL z ∧ Q z σ
def qR (X : Cxt) (r : Nat) (Q : Int → St → Prop) : Option Value → St → Prop := fun v σ => ∃ z, v = some (jR X z) ∧ (z = -1 ∨ okR σ r z) ∧ Q z σ
def qV (Q : St → Prop) : Option Value → St → Prop := fun v σ => v = none ∧ Q σ
theorem zp_blind (X : Cxt) (σ : St) (vs : List Value) : FrameBlind (ZP X σ vs) := fun _ U _ _ h => ⟨h.1, h.2.1, ZEnv.same (s := U) rfl rfl h.2.2⟩
theorem b01r {z : Int} (h : 0 ≤ z ∧ z ≤ 1) : rng z := ⟨by omega, by omega⟩
section ZE
variable {X : Cxt} {p : Program} {l : Launch} {e : Env} {R : Room} {s : State} {m : MethodId} {args : Array Value} {below : List Frame} {meth : Method} {c : Code} {H : Heap} {locs : List Loc} {cells slots : Nat} {Q : State → Prop}
variable {cc : ByteArray} {nL : Nat} {own : String} {ret : Option FieldType} {pc : Nat} {ls : Array Slot} {rest : List Value} {σ : St} {QN : Option Value → St → Prop} {QE : Int → St → Prop}
theorem z_fr (hw : Wc X σ s.heap H locs) : ∀ q ∈ locs, zA X q.base := fun q hq => hw.2.2.2 q hq
theorem z_end (hw : Wc X σ s.heap H locs) {v : Option Value} (hq : QN v σ) : ∀ t : State, t.heap = H → s.WarmedH t.vm → ZQ X QN QE args s (.returned v) t := fun t ht _ => ⟨σ, by rw [ht]; exact hw.1, hw.2.F ht, Or.inl ⟨v, rfl, hq⟩⟩
theorem z_iret {z : Int} (K : MCx X p s m args meth c cc nL own (some .int)) (hw : Wc X σ s.heap H locs) (hr : rng z) {Q : Int → St → Prop} (hq : Q z σ) (hd : decode cc pc = .ok (.ireturn, 1)) : W p l e R s m args below meth c H locs cells slots (MQT below (ZQ X (qI Q) QE) args s cells slots (zA X)) (F0 m pc ls [jI z]) :=
  W.mono mq_mqt (W.iret (hlocks := K.lk) K.x K.b K.r (z_end hw ⟨z, rfl, hr, hq⟩) (z_fr hw) hd)
theorem z_zret {z : Int} (K : MCx X p s m args meth c cc nL own (some .boolean)) (hw : Wc X σ s.heap H locs) (hr : 0 ≤ z ∧ z ≤ 1) {Q : Int → St → Prop} (hq : Q z σ) (hd : decode cc pc = .ok (.ireturn, 1)) : W p l e R s m args below meth c H locs cells slots (MQT below (ZQ X (qZ Q) QE) args s cells slots (zA X)) (F0 m pc ls [jI z]) :=
  W.mono mq_mqt (W.zret (hlocks := K.lk) K.x K.b K.r (nar_z hr) (z_end hw ⟨z, rfl, hr, hq⟩) (z_fr hw) hd)
theorem z_lret {z : Int} (K : MCx X p s m args meth c cc nL own (some .long)) (hw : Wc X σ s.heap H locs) (hr : rngL z) {Q : Int → St → Prop} (hq : Q z σ) (hd : decode cc pc = .ok (.lreturn, 1)) : W p l e R s m args below meth c H locs cells slots (MQT below (ZQ X (qL Q) QE) args s cells slots (zA X)) (F0 m pc ls [jL z]) :=
  W.mono mq_mqt (W.lret (hlocks := K.lk) K.x K.b K.r (z_end hw ⟨z, rfl, hr, hq⟩) (z_fr hw) hd)
theorem z_aret {z : Int} {C : String} {r : Nat} (K : MCx X p s m args meth c cc nL own (some (.object C))) (hw : Wc X σ s.heap H locs) (hr : z = -1 ∨ okR σ r z) {Q : Int → St → Prop} (hq : Q z σ) (hd : decode cc pc = .ok (.areturn, 1)) : W p l e R s m args below meth c H locs cells slots (MQT below (ZQ X (qR X r Q) QE) args s cells slots (zA X)) (F0 m pc ls [jR X z]) :=
  W.mono mq_mqt (W.aret (hlocks := K.lk) K.x K.b K.r (Or.inl ⟨C, rfl⟩) (jR_or X z) (z_end hw ⟨z, rfl, hr, hq⟩) (z_fr hw) hd)
theorem z_vret (K : MCx X p s m args meth c cc nL own none) (hw : Wc X σ s.heap H locs) {Q : St → Prop} (hq : Q σ) (hd : decode cc pc = .ok (.return_, 1)) : W p l e R s m args below meth c H locs cells slots (MQT below (ZQ X (qV Q) QE) args s cells slots (zA X)) (F0 m pc ls []) :=
  W.mono mq_mqt (W.vret (hlocks := K.lk) K.x K.b K.r (z_end hw ⟨rfl, hq⟩) (z_fr hw) hd)
/-- an exception is on its way through the method -/
def WT (p : Program) (l : Launch) (e : Env) (R : Room) (s : State) (m : MethodId) (args : Array Value) (below : List Frame) (meth : Method) (c : Code) (H : Heap) (locs : List Loc) (cells slots : Nat) (Q : State → Prop) (g : JFrame) (x : Addr) : Prop :=
  ∀ T : State, T.heap = H → Stand p l e R s m args below meth c T locs cells slots → ∃ t, Steps p.tables e below ((T.setTop g).pushFrame (.throwing x)) t ∧ Q t
theorem z_tend (hw : Wc X σ s.heap H locs) {x : Int} (h0 : 0 ≤ x) (hq : QE x σ) : ∀ t : State, t.heap = H → ZQ X QN QE args s (.threw (cb X + x.toNat)) t := fun t ht => ⟨σ, by rw [ht]; exact hw.1, hw.2.F ht, Or.inr ⟨x, rfl, h0, hq⟩⟩
theorem z_out {x : Int} (K : MCx X p s m args meth c cc nL own ret) (hw : Wc X σ s.heap H locs) (h0 : 0 ≤ x) (hq : QE x σ) (hout : ∀ y ∈ c.exceptionTable.toList, covers y pc = false) :
    WT p l e R s m args below meth c H locs cells slots (MQT below (ZQ X QN QE) args s cells slots (zA X)) (F0 m pc ls rest) (cb X + x.toNat) := by
  intro T hT X0
  obtain ⟨h1, h2, h3, h4, h5⟩ := X0.leaveThrown (cb X + x.toNat) (g := F0 m pc ls rest) rfl rfl rfl hout (hlocks := K.lk)
  exact ⟨_, h1, .threw _, h2, h3, z_tend hw h0 hq _ (by show T.heap = H; exact hT), locs, ⟨Or.inr ⟨_, rfl⟩, h4, h5⟩, z_fr hw⟩
theorem z_athrow {x : Int} (K : MCx X p s m args meth c cc nL own ret) (hw : Wc X σ s.heap H locs) (h0 : 0 ≤ x) (hq : QE x σ) (hout : ∀ y ∈ c.exceptionTable.toList, covers y pc = false) (hd : decode cc pc = .ok (.athrow, 1)) :
    W p l e R s m args below meth c H locs cells slots (MQT below (ZQ X QN QE) args s cells slots (zA X)) (F0 m pc ls (jR X x :: rest)) := by
  intro T hT X0
  rw [jR_ref h0]
  obtain ⟨h1, h2, h3, h4, h5⟩ := X0.athrowLeaves K.x (g := F0 m pc ls (.ref (cb X + x.toNat) :: rest)) rfl rfl rfl hout rfl (by rw [K.b]; exact hd) (hlocks := K.lk)
  exact ⟨_, h1, .threw _, h2, h3, z_tend hw h0 hq _ (by show T.heap = H; exact hT), locs, ⟨Or.inr ⟨_, rfl⟩, h4, h5⟩, z_fr hw⟩
theorem cat_le : ∀ l : List Value, (l.map fun v => v.category).sum ≤ 2 * l.length
  | [] => Nat.le_refl 0
  | v :: l => by
    have := cat_le l
    have h2 : v.category ≤ 2 := by cases v <;> simp [Value.category]
    simp only [List.map_cons, List.sum_cons, List.length_cons]
    omega
/-- a call: it returns, and the walk goes on; it throws, and the exception goes on -/
theorem z_call8 {y : MethodName} {ws : List Cond} {rm : Room} {mc ms maxL : Nat} {vs stk : List Value} {ig : Instr} (K : MCx X p s m args meth c cc nL own ret) (hw : Wc X σ s.heap H locs) (hM : MetT l y ws rm (ZP X σ vs) (ZQ X QN QE) mc ms (zA X))
    (hI : ∀ T : State, T.heap = H → Stand p l e R s m args below meth c T locs cells slots → Inv p l e R s m args below meth c T locs cells slots (F0 m pc ls stk) rest y vs.toArray) (hL : LocW s y maxL ws)
    (hrc : rm.cells = mc ∧ rm.slots = ms) (hfr : rm.frames + 1 ≤ R.frames ∧ 8 + (maxL + 11) + rm.locals ≤ R.locals) (hl : ls.size = nL) (hd : decode cc pc = .ok (ig, 3)) (hst : (rest.map fun v => v.category).sum ≤ 8) (hf : cells + mc ≤ R.cells ∧ slots + ms ≤ R.slots)
    (kN : ∀ (v : Option Value) (σ' : St) (H1 : Heap) (locs1 : List Loc), QN v σ' → Wc X σ' s.heap H1 locs1 → W p l e R s m args below meth c H1 locs1 (cells + mc) (slots + ms) Q (F0 m (pc + 3) ls (v.toList ++ rest)))
    (kE : ∀ (x : Int) (σ' : St) (H1 : Heap) (locs1 : List Loc), 0 ≤ x → QE x σ' → Wc X σ' s.heap H1 locs1 → WT p l e R s m args below meth c H1 locs1 (cells + mc) (slots + ms) Q (F0 m pc ls rest) (cb X + x.toNat)) :
    W p l e R s m args below meth c H locs cells slots Q (F0 m pc ls stk) := by
  intro T hT X0
  have key : ∀ {st₀ t : State} {L : List Loc}, st₀.heap = T.heap → va_F (zA X) st₀ t → (∀ q ∈ L, zA X q.base) → va_S (zA X) s.heap t.heap (locs ++ L) := by
    intro st₀ t L h0 hF hL
    refine ⟨Nat.le_trans hw.2.1 (by have := hF.1; rw [h0, hT] at this; exact this), fun q h1 h2 => ?_, fun q hq => ?_⟩
    · rw [hF.2 q (by rw [h0, hT]; exact Nat.lt_of_lt_of_le h1 hw.2.1) h2, h0, hT]
      exact hw.2.2.1 q h1 h2
    · rcases List.mem_append.mp hq with h | h
      · exact hw.2.2.2 q h
      · exact hL q h
  have hrun := runT (a := vs.toArray) (g := F0 m pc ls stk) (rest := rest) X0 hM (hI T hT X0) hL (zp_blind X σ vs) (fun U hU hW => ⟨rfl, by rw [hU, hT]; exact hw.1, ZEnv.call hw.2 (by rw [hU, hT]) hW K.env⟩) hrc.1 hrc.2 hfr.1 hfr.2 rfl (hl.trans K.ml.symm) (by rw [K.b]; exact hd) (by show 2 * 0 + _ ≤ 8; omega) hf
  rcases hrun with ⟨v, st₀, t, T', L, h0, X', hLf, e1, ⟨σ', g1, g2, g3⟩, hgo⟩ | ⟨x, st₀, t, T', L, h0, X', hLf, e1, ⟨σ', g1, g2, g3⟩, hgo⟩
  · rcases g3 with ⟨v', hv, hq⟩ | ⟨a', hv, -⟩
    · cases hv
      obtain ⟨t2, a1, b1⟩ := kN v σ' T'.heap (locs ++ L) hq ⟨by rw [e1]; exact g1, by rw [e1]; exact key h0 g2 hLf⟩ T' rfl X'
      exact ⟨t2, hgo t2 a1, b1⟩
    · cases hv
  · rcases g3 with ⟨v', hv, -⟩ | ⟨a', hv, hp, hq⟩
    · cases hv
    · cases hv
      obtain ⟨t2, a1, b1⟩ := kE a' σ' T'.heap (locs ++ L) hp hq ⟨by rw [e1]; exact g1, by rw [e1]; exact key h0 g2 hLf⟩ T' rfl X'
      exact ⟨t2, hgo t2 a1, b1⟩
theorem z_call {y : MethodName} {ws : List Cond} {rm : Room} {mc ms maxL : Nat} {vs stk : List Value} {ig : Instr} (K : MCx X p s m args meth c cc nL own ret) (hw : Wc X σ s.heap H locs) (hM : MetT l y ws rm (ZP X σ vs) (ZQ X QN QE) mc ms (zA X))
    (hI : ∀ T : State, T.heap = H → Stand p l e R s m args below meth c T locs cells slots → Inv p l e R s m args below meth c T locs cells slots (F0 m pc ls stk) rest y vs.toArray) (hL : LocW s y maxL ws)
    (hrc : rm.cells = mc ∧ rm.slots = ms) (hfr : rm.frames + 1 ≤ R.frames ∧ 8 + (maxL + 11) + rm.locals ≤ R.locals) (hl : ls.size = nL) (hd : decode cc pc = .ok (ig, 3)) (hst : rest.length ≤ 4) (hf : cells + mc ≤ R.cells ∧ slots + ms ≤ R.slots)
    (kN : ∀ (v : Option Value) (σ' : St) (H1 : Heap) (locs1 : List Loc), QN v σ' → Wc X σ' s.heap H1 locs1 → W p l e R s m args below meth c H1 locs1 (cells + mc) (slots + ms) Q (F0 m (pc + 3) ls (v.toList ++ rest)))
    (kE : ∀ (x : Int) (σ' : St) (H1 : Heap) (locs1 : List Loc), 0 ≤ x → QE x σ' → Wc X σ' s.heap H1 locs1 → WT p l e R s m args below meth c H1 locs1 (cells + mc) (slots + ms) Q (F0 m pc ls rest) (cb X + x.toNat)) :
    W p l e R s m args below meth c H locs cells slots Q (F0 m pc ls stk) :=
  z_call8 K hw hM hI hL hrc hfr hl hd (by have := cat_le rest; omega) hf kN kE
/-! the callee's words -/
theorem locw {y : MethodName} {b : ByteArray} {L : Nat} {r : Option FieldType} (K : MCx X p s m args meth c cc nL own ret) (hc : Cond.code y b L r ∈ lw_all) (hi : Cond.initialized y.cls ∈ lw_all) : LocW s y L (ws_ y b L r) := by
  have h1 := pay_in K.ts (lw_meth hc)
  refine ⟨h1, fun a' U hW => word_at hW (Or.inl (by first | rfl | simp [Cond.onTables, Cond.keeps, Cond.steady])) (K.ts _ hi), fun U mk hW hn => ?_⟩
  obtain ⟨methY, cY, hmY, hcY, -, hlY, -⟩ := Cond.code_spec hn (h1 _ List.mem_cons_self #[] U hW)
  exact ⟨methY, cY, hmY, hcY, hlY⟩
theorem locwW {y : MethodName} {b : ByteArray} {L : Nat} {r : Option FieldType} {hh : List (Nat × Nat × Nat × Nat)} (K : MCx X p s m args meth c cc nL own ret) (hc : Cond.codeWith y b L r hh ∈ lw_all) (hi : Cond.initialized y.cls ∈ lw_all) : LocW s y L (wsW_ y b L r hh) := by
  have h1 := pay_in K.ts (lw_methW hc)
  refine ⟨h1, fun a' U hW => word_at hW (Or.inl (by first | rfl | simp [Cond.onTables, Cond.keeps, Cond.steady])) (K.ts _ hi), fun U mk hW hn => ?_⟩
  obtain ⟨m9, methY, cY, hn9, hmY, hcY, -, hlY, -⟩ := Cond.codeWith_spec (h1 _ List.mem_cons_self #[] U hW)
  cases hn.symm.trans hn9
  exact ⟨methY, cY, hmY, hcY, hlY⟩
/-- the receiver -/
theorem z_recv {a : Int} {t : Nat} {C : String} {T : u_T} {N : Nat} (K : MCx X p s m args meth c cc nL own ret) (hw : Wc X σ s.heap H locs) (ho : Ob σ a t) (hq : zcl[t - 1]? = some (C, T, N)) : ∃ cell : Cell, H[cb X + a.toNat]? = some cell ∧ cell.vm.isStatics = false ∧ s.vm.findClass C = some cell.cls := by
  obtain ⟨q, hq', cell, q1, q2, q3, q4⟩ := hw.1.1 a t ho
  cases hq'.symm.trans hq
  exact ⟨cell, q1, by rw [q3]; rfl, by rw [q2]; exact (K.env.1.1 (t - 1) _ hq).2.1⟩
theorem sg_of {y : MethodName} {b : ByteArray} {L : Nat} {r : Option FieldType} (K : MCx X p s m args meth c cc nL own ret) (hc : Cond.code y b L r ∈ lw_all) : ∃ mk methM, s.methodNamed? y = some mk ∧ s.vm.method? mk = some methM ∧ parseMethodDescriptor y.desc = some methM.sig := by
  obtain ⟨mk, hnamed⟩ := Cond.code_named (K.ts _ hc)
  obtain ⟨methM, cM, hmethM, -, -, -, -, -, -, hsigM⟩ := Cond.code_spec hnamed (K.ts _ hc)
  exact ⟨mk, methM, hnamed, hmethM, hsigM⟩
theorem sg_ofW {y : MethodName} {b : ByteArray} {L : Nat} {r : Option FieldType} {hh : List (Nat × Nat × Nat × Nat)} (K : MCx X p s m args meth c cc nL own ret) (hc : Cond.codeWith y b L r hh ∈ lw_all) : ∃ mk methM, s.methodNamed? y = some mk ∧ s.vm.method? mk = some methM ∧ parseMethodDescriptor y.desc = some methM.sig := by
  obtain ⟨mk, methM, cM, hnamed, hmethM, -, -, -, -, -, -, hsigM⟩ := Cond.codeWith_spec (K.ts _ hc)
  exact ⟨mk, methM, hnamed, hmethM, hsigM⟩
theorem sg_all {s : State} {y : MethodName} (h : ∃ mk methM, s.methodNamed? y = some mk ∧ s.vm.method? mk = some methM ∧ parseMethodDescriptor y.desc = some methM.sig) : ∀ mk methM, s.methodNamed? y = some mk → s.vm.method? mk = some methM → parseMethodDescriptor y.desc = some methM.sig := by
  intro mk methM h1 h2
  obtain ⟨mk', methM', h3, h4, h5⟩ := h
  cases h1.symm.trans h3
  cases h2.symm.trans h4
  exact h5
/-- the method's name, and how many arguments it takes -/
def yOk (y : MethodName) (n : Nat) : Bool := decide (y.cls ≠ "java/lang/invoke/MethodHandle") && decide (y.cls ≠ "java/lang/invoke/VarHandle") && decide ((parseMethodDescriptor y.desc).map (fun d => d.parameters.length) = some n)
theorem yOk_h {y : MethodName} {n : Nat} (h : yOk y n = true) : y.cls ≠ "java/lang/invoke/MethodHandle" ∧ y.cls ≠ "java/lang/invoke/VarHandle" := by
  simp only [yOk, Bool.and_eq_true, decide_eq_true_eq] at h
  exact h.1
theorem yOk_n {y : MethodName} {n : Nat} (h : yOk y n = true) {As : List Value} (hn : As.length = n) : ∀ sig, parseMethodDescriptor y.desc = some sig → As.length = sig.parameters.length := by
  simp only [yOk, Bool.and_eq_true, decide_eq_true_eq] at h
  intro sig hs
  have h2 := h.2
  rw [hs] at h2
  rw [hn]
  exact (Option.some.inj h2).symm
theorem i_V {y : MethodName} {index t n : Nat} {a : Int} {C : String} {T : u_T} {N : Nat} {As stk : List Value} (K : MCx X p s m args meth c cc nL own ret) (hw : Wc X σ s.heap H locs) (ho : Ob σ a t) (hq : zcl[t - 1]? = some (C, T, N)) (hy : yOk y n = true)
    (q1 : Cond.methodLink own index y ∈ lw_all) (q2 : Cond.instanceMethod y ∈ lw_all) (q3 : Cond.selects C y y ∈ lw_all) (hsg : ∃ mk methM, s.methodNamed? y = some mk ∧ s.vm.method? mk = some methM ∧ parseMethodDescriptor y.desc = some methM.sig)
    (hn : As.length = n) (hstk : stk = As.reverse ++ jR X a :: rest) (hd : decode cc pc = .ok (.invokevirtual index, 3)) :
    ∀ T : State, T.heap = H → Stand p l e R s m args below meth c T locs cells slots → Inv p l e R s m args below meth c T locs cells slots (F0 m pc ls stk) rest y (jR X a :: As).toArray := by
  intro T hT X0
  obtain ⟨cell, c1, c2, c3⟩ := z_recv K hw ho hq
  rw [jR_ref (hw.1.pos ho.ne0).1] at hstk ⊢
  exact inv_V X0 K.x K.o (K.ts _ q1) (K.ts _ q2) (K.ts _ q3) (sg_all hsg) (yOk_h hy) (by rw [hT]; exact c1) c2 c3 rfl (yOk_n hy hn) hstk (by rw [K.b]; exact hd)
theorem i_VN {y : MethodName} {index t n : Nat} {a : Int} {C host : String} {T : u_T} {N : Nat} {As stk : List Value} (K : MCx X p s m args meth c cc nL own ret) (hw : Wc X σ s.heap H locs) (ho : Ob σ a t) (hq : zcl[t - 1]? = some (C, T, N)) (hy : yOk y n = true)
    (q1 : Cond.methodLinkNest own index y host ∈ lw_tbl) (q2 : Cond.instanceMethod y ∈ lw_all) (q3 : Cond.selects C y y ∈ lw_all) (hsg : ∃ mk methM, s.methodNamed? y = some mk ∧ s.vm.method? mk = some methM ∧ parseMethodDescriptor y.desc = some methM.sig)
    (hn : As.length = n) (hstk : stk = As.reverse ++ jR X a :: rest) (hd : decode cc pc = .ok (.invokevirtual index, 3)) :
    ∀ T : State, T.heap = H → Stand p l e R s m args below meth c T locs cells slots → Inv p l e R s m args below meth c T locs cells slots (F0 m pc ls stk) rest y (jR X a :: As).toArray := by
  intro T hT X0
  obtain ⟨cell, c1, c2, c3⟩ := z_recv K hw ho hq
  rw [jR_ref (hw.1.pos ho.ne0).1] at hstk ⊢
  exact inv_VN X0 K.x K.o (K.nst (lw_n q1 rfl)) (K.ts _ q2) (K.ts _ q3) (sg_all hsg) (yOk_h hy) (by rw [hT]; exact c1) c2 c3 rfl (yOk_n hy hn) hstk (by rw [K.b]; exact hd)
theorem i_S {y : MethodName} {index n : Nat} {As stk : List Value} (K : MCx X p s m args meth c cc nL own ret) (hy : yOk y n = true)
    (q1 : Cond.methodLink own index y ∈ lw_all) (q2 : Cond.static y ∈ lw_all) (q3 : Cond.initialized y.cls ∈ lw_all) (hsg : ∃ mk methM, s.methodNamed? y = some mk ∧ s.vm.method? mk = some methM ∧ parseMethodDescriptor y.desc = some methM.sig)
    (hn : As.length = n) (hstk : stk = As.reverse ++ rest) (hd : decode cc pc = .ok (.invokestatic index, 3)) :
    ∀ T : State, T.heap = H → Stand p l e R s m args below meth c T locs cells slots → Inv p l e R s m args below meth c T locs cells slots (F0 m pc ls stk) rest y As.toArray := by
  intro T hT X0
  exact inv_S X0 K.x K.o (K.ts _ q1) (K.ts _ q2) (K.ts _ q3) hsg (yOk_h hy) rfl (yOk_n hy hn) hstk (by rw [K.b]; exact hd)
theorem i_SN {y : MethodName} {index n : Nat} {host : String} {As stk : List Value} (K : MCx X p s m args meth c cc nL own ret) (hy : yOk y n = true)
    (q1 : Cond.methodLinkNest own index y host ∈ lw_tbl) (q2 : Cond.static y ∈ lw_all) (q3 : Cond.initialized y.cls ∈ lw_all) (hsg : ∃ mk methM, s.methodNamed? y = some mk ∧ s.vm.method? mk = some methM ∧ parseMethodDescriptor y.desc = some methM.sig)
    (hn : As.length = n) (hstk : stk = As.reverse ++ rest) (hd : decode cc pc = .ok (.invokestatic index, 3)) :
    ∀ T : State, T.heap = H → Stand p l e R s m args below meth c T locs cells slots → Inv p l e R s m args below meth c T locs cells slots (F0 m pc ls stk) rest y As.toArray := by
  intro T hT X0
  exact inv_SN X0 K.x K.o (K.nst (lw_n q1 rfl)) (K.ts _ q2) (K.ts _ q3) hsg (yOk_h hy) rfl (yOk_n hy hn) hstk (by rw [K.b]; exact hd)
end ZE
