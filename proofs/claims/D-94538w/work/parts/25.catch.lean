/-! HANDLERS: a catch type that isn't resolved yet -/
set_option maxRecDepth 100000
theorem fh_cold {e : Env} {s : State} {f : JFrame} {a : Addr} {E : CtlPost} {d : Bool} {acts : List Action} {x : ExceptionTableEntry} {t : List ExceptionTableEntry} {c : ClassId} {cell : Cell} {vm' : Vm} {Q : Handler → Pre} (hx : covers x f.pc = true) (h0 : x.catchType ≠ 0)
    (hg : (Jvm.resolveClass f.method.cls x.catchType).Gives e.toSetting s.vm (.ok c) vm') (hcell : s.heap[a]? = some cell) (hobj : ∀ k, cell.vm ≠ .statics k) (hk : ∃ k, vm'.classes[cell.cls]? = some k) (hc : ∃ k, vm'.classes[c]? = some k) (hfit : vm'.assignable cell.cls c = true) (hsz : vm'.classes.size ≤ s.vm.classes.size := by no_record) :
    wp (findHandler.go f a (x :: t)) Q E e d acts s ↔ Q (.found x.handlerPc) d acts (s.setVm vm') := by
  simp only [covers] at hx
  obtain ⟨h1, h2⟩ := hg.op (op := .resolveClass f.method.cls x.catchType) rfl
  simp [findHandler.go, hx, h0, h1, h2, hcell, hobj, hk, hc, hfit, VmOp.dirties, VmOp.acts, hsz]
/-- what the search gives, and the tables that it leaves -/
def FindsC (e : Env) (s : State) (f : JFrame) (a : Addr) (h : Handler) (vm' : Vm) : Prop :=
  ∀ (Q : Handler → Pre) (E : CtlPost) (d : Bool) (acts : List Action), wp (findHandler f a) Q E e d acts s ↔ Q h d acts (s.setVm vm')
theorem st_catch {e : Env} {s : State} {a : Addr} {f : JFrame} {r : List Frame} {pc : Nat} {vm' : Vm} (hfind : FindsC e s f a (.found pc) vm') :
    (stepThrowing e s a (.java f :: r)).Is ((s.setVm vm').setFrames (.java { f with pc := pc, stack := [.ref a] } :: r)) [] := by
  simp only [stepThrowing, searchFrame, vmDo]
  generalize hr : Sem.go _ e false [] s = res
  obtain ⟨as, rfl, ha⟩ := Sem.eq_ok_of hr (a := Handler.found pc) (s' := s.setVm vm') (acts' := []) (by simp [hfind _ _ _ _])
  exact ⟨rfl, ha⟩
theorem stp_caught {tb : Tables} {e : Env} {s target : State} {g : JFrame} {c : Code} {below : List Frame} {a : Addr} {vm' : Vm} (h : At s g.method c below) {pc : Nat} (hfind : FindsC e ((s.setTop g).pushFrame (.throwing a)) g a (.found pc) vm')
    (hrest : Steps tb e below ((s.setVm vm').setTop { g with pc := pc, stack := [.ref a] }) target) :
    Steps tb e below ((s.setTop g).pushFrame (.throwing a)) target := by
  obtain ⟨hgo, hw⟩ := h.throwing a
  refine Steps.head hgo hw ?_
  rw [stepThread_throwing (frames_entered h.top _), (st_catch (s := (s.setTop g).pushFrame (.throwing a)) hfind).1]
  obtain ⟨g₀, hg⟩ := Option.isSome_iff_exists.mp h.top
  obtain ⟨r, hr⟩ := State.topJava?_eq_some.mp hg
  have hr' : (s.setVm vm').frames = .java g₀ :: r := hr
  rw [State.setTop_of_frames _ hr'] at hrest
  have e1 : (((s.setTop g).pushFrame (.throwing a)).setVm vm').setFrames (.java { g with pc := pc, stack := [.ref a] } :: s.frames.tail) = (s.setVm vm').setFrames (.java { g with pc := pc, stack := [.ref a] } :: r) := by
    rw [State.pushFrame, State.setTop_of_frames _ hr, State.setFrames_setFrames, hr]
    show (((s.setFrames _).setVm vm').setFrames _) = _
    exact State.setFrames_setFrames (s.setVm vm') _ _
  rw [e1]
  exact hrest
section ZK
variable {X : Cxt} {p : Program} {l : Launch} {e : Env} {R : Room} {s : State} {m : MethodId} {args : Array Value} {below : List Frame} {meth : Method} {c : Code} {H : Heap} {locs : List Loc} {cells slots : Nat} {Q : State → Prop}
variable {cc : ByteArray} {nL : Nat} {own : String} {ret : Option FieldType} {pc : Nat} {ls : Array Slot} {rest : List Value} {σ : St}
theorem z_catch {x : Int} {t a1 b1 h1 idx : Nat} {C Cn : String} {T : u_T} {N : Nat} (K : MCx X p s m args meth c cc nL own ret) (hw : Wc X σ s.heap H locs) (ho : Ob σ x t) (hq : zcl[t - 1]? = some (C, T, N))
    (hex : c.exceptionTable.toList.map (fun h => (h.startPc, h.endPc, h.handlerPc, h.catchType)) = [(a1, b1, h1, idx)]) (hcov : (decide (a1 ≤ pc) && decide (pc < b1)) = true) (hi0 : idx ≠ 0) (q1 : Cond.classLink own idx Cn ∈ lw_all) (q2 : Cond.castable C Cn ∈ lw_tbl)
    (kk : W p l e R s m args below meth c H locs cells slots Q (F0 m h1 ls [jR X x])) : WT p l e R s m args below meth c H locs cells slots Q (F0 m pc ls rest) (cb X + x.toNat) := by
  intro T hT X0
  obtain ⟨cell, c1, c2, c3⟩ := z_recv K hw ho hq
  have hpl : e.platform.magicAccessors = ({} : Platform).magicAccessors := by rw [X0.admits.platform]
  obtain ⟨c', hc', hcl⟩ := Cond.classLink_spec K.o (K.ts _ q1) e.platform hpl
  obtain ⟨dk, _, _, kt, hd, _, _, _, _, hkt, _, hopen⟩ := hcl.here
  obtain ⟨x3, x4, y3, y4, y5⟩ := Cond.castable_spec (K.nst (args := args) (lw_n q2 rfl))
  cases y3.symm.trans c3
  cases y4.symm.trans hc'
  obtain ⟨ks, hks⟩ := Vm.classAt_of_assignable y5 ⟨kt, hkt⟩
  have hcl₀ := X0.warmed.classLinks hcl
  have hW' : s.WarmedH (T.vm.noted m.cls idx (.cls c')) := X0.warmed.noted hd hopen (State.rightAt_cls hcl)
  obtain ⟨ks', hks', -⟩ := hW'.alike.2.2 _ _ hks
  obtain ⟨kt', hkt', -⟩ := hW'.alike.2.2 _ _ hkt
  have X1 := X0.noted hW'
  obtain ⟨en, hen⟩ : ∃ y, c.exceptionTable.toList = [y] ∧ y.startPc = a1 ∧ y.endPc = b1 ∧ y.handlerPc = h1 ∧ y.catchType = idx := by
    cases hl : c.exceptionTable.toList with
    | nil => rw [hl] at hex; cases hex
    | cons y r =>
      rw [hl] at hex
      cases r with
      | nil =>
        simp only [List.map_cons, List.map_nil, List.cons.injEq, Prod.mk.injEq, and_true] at hex
        exact ⟨y, rfl, hex⟩
      | cons z r => simp at hex
  obtain ⟨g0, g1, g2, g3, g4⟩ := hen
  have hfind : FindsC e ((T.setTop (F0 m pc ls rest)).pushFrame (.throwing (cb X + x.toNat))) (F0 m pc ls rest) (cb X + x.toNat) (.found h1) (T.vm.noted m.cls idx (.cls c')) := by
    intro Q E d acts
    rw [W.findHandler_eq (meth := meth) (code := c) (by rw [Stand.throwing_vm]; exact X0.method') X0.code, g0, ← g3]
    refine fh_cold (c := c') (cell := cell) ?_ (by rw [g4]; exact hi0) ?_ (by rw [Stand.throwing_heap, hT]; exact c1) (VmData.noStatics_of c2) ⟨ks', hks'⟩ ⟨kt', hkt'⟩ (by rw [hW'.alike.assignable]; exact y5) ?_
    · show (decide (en.startPc ≤ pc) && decide (pc < en.endPc)) = true
      rw [g1, g2]
      exact hcov
    · rw [Stand.throwing_vm, g4]
      exact resolveClass_links e.toSetting hcl₀
    · rw [Stand.throwing_vm, Vm.size_noted]
      exact Nat.le_refl _
  obtain ⟨t2, a2, b2⟩ := kk _ (by exact hT) X1
  refine ⟨t2, stp_caught (s := T) (g := F0 m pc ls rest) X0.here hfind ?_, b2⟩
  rw [jR_ref (hw.1.pos ho.ne0).1] at a2
  exact a2
end ZK
