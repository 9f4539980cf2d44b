/-! ROWS over the abstract store -/
set_option maxRecDepth 100000
def Wc (X : Cxt) (σ : St) (H0 H : Heap) (locs : List Loc) : Prop := Sim X σ H ∧ va_S (zA X) H0 H locs
def MCx (X : Cxt) (p : Program) (s : State) (m : MethodId) (args : Array Value) (meth : Method) (c : Code) (cc : ByteArray) (nL : Nat) (own : String) (ret : Option FieldType) : Prop :=
  p.tables.exec = Jvm.exec ∧ c.code = cc ∧ c.maxLocals = nL ∧ s.vm.findClass own = some m.cls ∧ (∀ w ∈ lw_all, w.before args s = true) ∧ meth.sig.returnType = ret ∧ meth.locks = false ∧ ZEnv X s ∧ cb X ≤ s.heap.size
theorem ob {σ : St} {a : Int} {t : Nat} (h : tg σ a = (t : Int)) (h0 : 0 < t ∧ t ≤ 18 := by decide) : Ob σ a t := ⟨h0.1, h0.2, Or.inl h⟩
theorem obm {σ : St} {a : Int} {t : Nat} (h : tg σ a = -(t : Int)) (h0 : 0 < t ∧ t ≤ 18 := by decide) : Ob σ a t := ⟨h0.1, h0.2, Or.inr h⟩
section ZR
variable {X : Cxt} {p : Program} {l : Launch} {e : Env} {R : Room} {s : State} {m : MethodId} {args : Array Value} {below : List Frame} {meth : Method} {c : Code} {H : Heap} {locs : List Loc} {cells slots : Nat} {Q : State → Prop}
variable {cc : ByteArray} {nL : Nat} {own : String} {ret : Option FieldType} {pc : Nat} {ls : Array Slot} {rest : List Value} {σ : St}
theorem MCx.x (K : MCx X p s m args meth c cc nL own ret) : p.tables.exec = Jvm.exec := K.1
theorem MCx.b (K : MCx X p s m args meth c cc nL own ret) : c.code = cc := K.2.1
theorem MCx.ml (K : MCx X p s m args meth c cc nL own ret) : c.maxLocals = nL := K.2.2.1
theorem MCx.o (K : MCx X p s m args meth c cc nL own ret) : s.vm.findClass own = some m.cls := K.2.2.2.1
theorem MCx.ts (K : MCx X p s m args meth c cc nL own ret) : ∀ w ∈ lw_all, w.before args s = true := K.2.2.2.2.1
theorem MCx.r (K : MCx X p s m args meth c cc nL own ret) : meth.sig.returnType = ret := K.2.2.2.2.2.1
theorem MCx.lk (K : MCx X p s m args meth c cc nL own ret) : meth.locks = false := K.2.2.2.2.2.2.1
theorem MCx.env (K : MCx X p s m args meth c cc nL own ret) : ZEnv X s := K.2.2.2.2.2.2.2.1
theorem MCx.sz (K : MCx X p s m args meth c cc nL own ret) : cb X ≤ s.heap.size := K.2.2.2.2.2.2.2.2
theorem MCx.nst (K : MCx X p s m args meth c cc nL own ret) {w : Cond} (hw : w ∈ lw_nst) : w.before args s = true := K.env.2.1.use hw
/-- a field's facts -/
theorem z_fld (K : MCx X p s m args meth c cc nL own ret) {t k : Nat} {C : String} {T : u_T} {N : Nat} (h0 : 0 < t) (hq : zcl[t - 1]? = some (C, T, N)) (hk : k < N) :
    ∃ cf kfd fi f kC, s.fieldFound? (T k).1 (T k).2.1 (T k).2.2.1 = some (cf, kfd, fi, f) ∧ f.slot = (cD X).2 (t - 1) k ∧ f.isStatic = false ∧ s.vm.findClass C = some ((cD X).1 (t - 1)) ∧ s.vm.classes[(cD X).1 (t - 1)]? = some kC ∧ kC.kind = .ordinary ∧ ((Cond.lays C (T k).1 (T k).2.1 (T k).2.2.1).before args s = true ∨ (Cond.laysFinal C (T k).1 (T k).2.1 (T k).2.2.1).before args s = true) ∧ parseFieldDescriptor (T k).2.2.1 = some (zty t k) ∧ (u_lay C T k).before args s = true := by
  obtain ⟨hin, hty, -⟩ := zcls _ _ hq
  obtain ⟨hS, hfc, kC, hkC, hkind⟩ := K.env.1.1 (t - 1) _ hq
  obtain ⟨cf, kfd, fi, f, hi, hsl⟩ := hS k hk
  have hty' := hty k hk
  rw [show t - 1 + 1 = t by omega] at hty'
  exact ⟨cf, kfd, fi, f, kC, hi, hsl, (u_facts hfc hkC (u_lays K.ts hin hk) hi).1, hfc, hkC, hkind, u_lays K.ts hin hk, hty', K.ts _ (hin _ (u_in_lay hk))⟩
theorem z_apart (K : MCx X p s m args meth c cc nL own ret) {t : Nat} {C : String} {T : u_T} {N : Nat} (h0 : 0 < t) (hq : zcl[t - 1]? = some (C, T, N)) : ∀ x y, x < N → y < N → x ≠ y → (cD X).2 (t - 1) x ≠ (cD X).2 (t - 1) y := by
  intro x y hx hy hne
  obtain ⟨cf, kfd, fi, f, kC, hi, hsl, -, -, -, -, hl, -⟩ := z_fld K h0 hq hx
  obtain ⟨cf', kfd', fi', f', kC', hi', hsl', -, -, -, -, hl', -⟩ := z_fld K h0 hq hy
  rw [← hsl, ← hsl']
  refine z_apart0 hl hl' hi hi' ?_
  have nm : ∀ {O f d : String} {cf kfd fi fd}, ((Cond.lays C O f d).before args s = true ∨ (Cond.laysFinal C O f d).before args s = true) → s.fieldFound? O f d = some (cf, kfd, fi, fd) → kfd.name = O := by
    intro O f d cf kfd fi fd hl hi
    have k1 : s.vm.findClass O = some cf := by
      rcases hl with h | h
      · simp only [Cond.before, Cond.holds, Cond.value] at h
        cases hc : s.vm.findClass C with
        | none => simp [hc] at h
        | some c0 =>
          cases hk : s.vm.classes[c0]? with
          | none => simp [hc, hi, hk] at h
          | some k0 =>
            simp [hc, hi, hk] at h
            exact h.1.1.2
      · obtain ⟨_, _, c', _, _, _, -, -, hf', -, -, -, hown2, -⟩ := Cond.laysFinal_spec h
        cases hi.symm.trans hf'
        exact hown2
    obtain ⟨k2, h2, h3⟩ := Vm.findClass_spec k1
    have h4 := (State.fieldFound?_spec hi).1
    cases h2.symm.trans h4
    exact h3
  obtain ⟨-, hty, hap⟩ := zcls _ _ hq
  rcases hap x hx y hy hne with h | h
  · left
    rw [nm hl hi, nm hl' hi']
    exact h
  · right
    rw [(State.fieldFound?_type hi (hty x hx)).1, (State.fieldFound?_type hi' (hty y hy)).1]
    exact h
end ZR
