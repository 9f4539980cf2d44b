/-! CALLS of methods that change nothing; small facts for the generator -/
set_option maxRecDepth 100000
theorem jI_cat (z : Int) : (jI z).category = 1 := rfl
theorem jL_cat (z : Int) : (jL z).category = 2 := rfl
theorem zr_ok2 {d D L : Nat} (h1 : d + 1 ≤ D) (h2 : 19 + L + 40 * d ≤ 40 * D) : d + 1 ≤ (zrm D 0 0).frames ∧ 8 + (L + 11) + 40 * d ≤ (zrm D 0 0).locals := ⟨h1, by show 8 + (L + 11) + 40 * d ≤ 40 * D; omega⟩
theorem rng_L {z : Int} (h : rng z) : rngL z := by unfold rng at h; unfold rngL; omega
theorem byte_r {z : Int} (h : -128 ≤ z ∧ z ≤ 127) : rng z := by unfold rng; omega
theorem zi2b_b (z : Int) : -128 ≤ zi2b z ∧ zi2b z ≤ 127 := by
  have e : zi2b z = ((Int32.ofInt z).toInt8).toInt := Int8.toInt_toInt32 _
  rw [e]
  have h1 := Int8.le_toInt (Int32.ofInt z).toInt8
  have h2 := Int8.toInt_lt (Int32.ofInt z).toInt8
  omega
theorem kl_le0 : ∀ l ∈ zfl, ∀ q ∈ l, q.2.1 ≤ 3000 := by decide
theorem kl_le3 (t k : Nat) : kl t k ≤ 3000 := by
  unfold kl zf
  rw [List.getD_eq_getElem?_getD]
  cases h : (zfl.getD (t - 1) [])[k]? with
  | none => exact Nat.zero_le _
  | some q =>
    have h1 := List.mem_of_getElem? h
    rw [List.getD_eq_getElem?_getD] at h1
    cases h2 : zfl[t - 1]? with
    | none => rw [h2] at h1; exact absurd h1 List.not_mem_nil
    | some l =>
      rw [h2] at h1
      exact kl_le0 l (List.mem_of_getElem? h2) q h1
theorem kl_le (t k : Nat) : ((kl t k : Nat) : Int) ≤ 100000 := by have := kl_le3 t k; omega
theorem kl_rng (t k : Nat) : rng ((kl t k : Nat) : Int) := by have := kl_le3 t k; unfold rng; omega
section ZF
variable {X : Cxt} {p : Program} {l : Launch} {e : Env} {R : Room} {s : State} {m : MethodId} {args : Array Value} {below : List Frame} {meth : Method} {c : Code} {H : Heap} {locs : List Loc} {cells slots : Nat} {Q : State → Prop}
variable {cc : ByteArray} {nL : Nat} {own : String} {ret : Option FieldType} {pc : Nat} {ls : Array Slot} {rest : List Value} {σ : St}
variable {y : MethodName} {ws : List Cond} {d mc ms maxL : Nat} {vs stk : List Value} {ig : Instr}
theorem zr_i {Q' : Int → Prop} (K : MCx X p s m args meth c cc nL own ret) (hw : Wc X σ s.heap H locs) (hM : MetT l y ws (zrm d 0 0) (ZP X σ vs) (ZQ X (qI (fun z σ' => σ' = σ ∧ Q' z)) (fun _ _ => False)) 0 0 (zA X))
    (hI : ∀ T : State, T.heap = H → Stand p l e R s m args below meth c T locs cells slots → Inv p l e R s m args below meth c T locs cells slots (F0 m pc ls stk) rest y vs.toArray) (hL : LocW s y maxL ws)
    (hfr : d + 1 ≤ R.frames ∧ 8 + (maxL + 11) + 40 * d ≤ R.locals) (hl : ls.size = nL) (hd : decode cc pc = .ok (ig, 3)) (hst : rest.length ≤ 4) (hc : cells ≤ R.cells ∧ slots ≤ R.slots)
    (kN : ∀ (z : Int) (H1 : Heap) (locs1 : List Loc), rng z → Q' z → Wc X σ s.heap H1 locs1 → W p l e R s m args below meth c H1 locs1 cells slots Q (F0 m (pc + 3) ls (jI z :: rest))) :
    W p l e R s m args below meth c H locs cells slots Q (F0 m pc ls stk) :=
  zc_i K hw hM hI hL hfr hl hd hst hc (fun z σ' H1 locs1 hr hq hw1 => by obtain ⟨rfl, hq⟩ := hq; exact kN z H1 locs1 hr hq hw1)
theorem zr_z {Q' : Int → Prop} (K : MCx X p s m args meth c cc nL own ret) (hw : Wc X σ s.heap H locs) (hM : MetT l y ws (zrm d 0 0) (ZP X σ vs) (ZQ X (qZ (fun z σ' => σ' = σ ∧ Q' z)) (fun _ _ => False)) 0 0 (zA X))
    (hI : ∀ T : State, T.heap = H → Stand p l e R s m args below meth c T locs cells slots → Inv p l e R s m args below meth c T locs cells slots (F0 m pc ls stk) rest y vs.toArray) (hL : LocW s y maxL ws)
    (hfr : d + 1 ≤ R.frames ∧ 8 + (maxL + 11) + 40 * d ≤ R.locals) (hl : ls.size = nL) (hd : decode cc pc = .ok (ig, 3)) (hst : rest.length ≤ 4) (hc : cells ≤ R.cells ∧ slots ≤ R.slots)
    (kN : ∀ (z : Int) (H1 : Heap) (locs1 : List Loc), (0 ≤ z ∧ z ≤ 1) → Q' z → Wc X σ s.heap H1 locs1 → W p l e R s m args below meth c H1 locs1 cells slots Q (F0 m (pc + 3) ls (jI z :: rest))) :
    W p l e R s m args below meth c H locs cells slots Q (F0 m pc ls stk) :=
  zc_z K hw hM hI hL hfr hl hd hst hc (fun z σ' H1 locs1 hr hq hw1 => by obtain ⟨rfl, hq⟩ := hq; exact kN z H1 locs1 hr hq hw1)
theorem zr_l {Q' : Int → Prop} (K : MCx X p s m args meth c cc nL own ret) (hw : Wc X σ s.heap H locs) (hM : MetT l y ws (zrm d 0 0) (ZP X σ vs) (ZQ X (qL (fun z σ' => σ' = σ ∧ Q' z)) (fun _ _ => False)) 0 0 (zA X))
    (hI : ∀ T : State, T.heap = H → Stand p l e R s m args below meth c T locs cells slots → Inv p l e R s m args below meth c T locs cells slots (F0 m pc ls stk) rest y vs.toArray) (hL : LocW s y maxL ws)
    (hfr : d + 1 ≤ R.frames ∧ 8 + (maxL + 11) + 40 * d ≤ R.locals) (hl : ls.size = nL) (hd : decode cc pc = .ok (ig, 3)) (hst : rest.length ≤ 4) (hc : cells ≤ R.cells ∧ slots ≤ R.slots)
    (kN : ∀ (z : Int) (H1 : Heap) (locs1 : List Loc), rngL z → Q' z → Wc X σ s.heap H1 locs1 → W p l e R s m args below meth c H1 locs1 cells slots Q (F0 m (pc + 3) ls (jL z :: rest))) :
    W p l e R s m args below meth c H locs cells slots Q (F0 m pc ls stk) :=
  zc_l K hw hM hI hL hfr hl hd hst hc (fun z σ' H1 locs1 hr hq hw1 => by obtain ⟨rfl, hq⟩ := hq; exact kN z H1 locs1 hr hq hw1)
theorem zr_r {Q' : Int → Prop} {r : Nat} (K : MCx X p s m args meth c cc nL own ret) (hw : Wc X σ s.heap H locs) (hM : MetT l y ws (zrm d 0 0) (ZP X σ vs) (ZQ X (qR X r (fun z σ' => σ' = σ ∧ Q' z)) (fun _ _ => False)) 0 0 (zA X))
    (hI : ∀ T : State, T.heap = H → Stand p l e R s m args below meth c T locs cells slots → Inv p l e R s m args below meth c T locs cells slots (F0 m pc ls stk) rest y vs.toArray) (hL : LocW s y maxL ws)
    (hfr : d + 1 ≤ R.frames ∧ 8 + (maxL + 11) + 40 * d ≤ R.locals) (hl : ls.size = nL) (hd : decode cc pc = .ok (ig, 3)) (hst : rest.length ≤ 4) (hc : cells ≤ R.cells ∧ slots ≤ R.slots)
    (kN : ∀ (z : Int) (H1 : Heap) (locs1 : List Loc), (z = -1 ∨ okR σ r z) → Q' z → Wc X σ s.heap H1 locs1 → W p l e R s m args below meth c H1 locs1 cells slots Q (F0 m (pc + 3) ls (jR X z :: rest))) :
    W p l e R s m args below meth c H locs cells slots Q (F0 m pc ls stk) :=
  zc_r K hw hM hI hL hfr hl hd hst hc (fun z σ' H1 locs1 hr hq hw1 => by obtain ⟨rfl, hq⟩ := hq; exact kN z H1 locs1 hr hq hw1)
end ZF
section ZL
variable {X : Cxt} {p : Program} {l : Launch} {e : Env} {R : Room} {s : State} {m : MethodId} {args : Array Value} {below : List Frame} {meth : Method} {c : Code} {H : Heap} {locs : List Loc} {cells slots : Nat} {Q : State → Prop}
variable {cc : ByteArray} {nL : Nat} {own : String} {ret : Option FieldType} {pc : Nat} {ls : Array Slot} {rest : List Value}
theorem z_ldcw (K : MCx X p s m args meth c cc nL own ret) {index : Nat} {v : Int32} {z : Int} (hq : Jvm.Cond.constant own index v ∈ lw_all) (hz : v = Int32.ofInt z) (hd : decode cc pc = .ok (.ldc_w index, 3)) (k : W p l e R s m args below meth c H locs cells slots Q (F0 m (pc + 3) ls (jI z :: rest))) : W p l e R s m args below meth c H locs cells slots Q (F0 m pc ls rest) := lv_ldcw K.x K.b K.o (K.ts _ hq) hd (by rw [hz]; exact k)
end ZL
