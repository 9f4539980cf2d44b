/-! CALLS as the generator prints them: by the kind of answer; without and with a throw -/
set_option maxRecDepth 100000
theorem tg_e {σ σ1 : St} {a j v x : Int} {f : Nat} (e : σ1 = st σ a f j v) (h : f ≠ 99) : tg σ1 x = tg σ x := by rw [e]; exact tg_st h
theorem ptr_e {σ σ1 : St} {a j v x : Int} {f k : Nat} (e : σ1 = st σ a f j v) (h : 0 ≤ j) : σ x k (-1) = σ1 x k (-1) := by rw [e, st_m1 h]
theorem ptr_k {ws : List (Int × Nat)} {σ σ1 : St} {x t : Int} {k : Nat} (h : Kp ws σ σ1) (ht : tg σ x = t) (h0 : 0 < t) : σ x k (-1) = σ1 x k (-1) := (h.2 x k (by rw [ht]; exact h0)).symm
theorem kp_e {ws : List (Int × Nat)} {σ σ' σ1 : St} {a j v : Int} {f : Nat} {t : Int} (e : σ1 = st σ' a f j v) (hk : Kp ws σ σ') (hw : wsOk ws = true) (hj : 0 ≤ j) (ht : tg σ' a = t) (hm : (t, f) ∈ ws) : Kp ws σ σ1 := by rw [e]; exact kp_st hk hw hj ht hm
theorem wc_e {X : Cxt} {σ σ1 : St} {H0 H : Heap} {locs : List Loc} (e : σ1 = σ) (hw : Wc X σ H0 H locs) : Wc X σ1 H0 H locs := by rw [e]; exact hw
section ZD
variable {X : Cxt} {p : Program} {l : Launch} {e : Env} {R : Room} {s : State} {m : MethodId} {args : Array Value} {below : List Frame} {meth : Method} {c : Code} {H : Heap} {locs : List Loc} {cells slots : Nat} {Q : State → Prop}
variable {cc : ByteArray} {nL : Nat} {own : String} {ret : Option FieldType} {pc : Nat} {ls : Array Slot} {rest : List Value} {σ : St}
variable {y : MethodName} {ws : List Cond} {d mc ms maxL : Nat} {vs stk : List Value} {ig : Instr}
theorem zc_i {Q' : Int → St → Prop} (K : MCx X p s m args meth c cc nL own ret) (hw : Wc X σ s.heap H locs) (hM : MetT l y ws (zrm d 0 0) (ZP X σ vs) (ZQ X (qI Q') (fun _ _ => False)) 0 0 (zA X))
    (hI : ∀ T : State, T.heap = H → Stand p l e R s m args below meth c T locs cells slots → Inv p l e R s m args below meth c T locs cells slots (F0 m pc ls stk) rest y vs.toArray) (hL : LocW s y maxL ws)
    (hfr : d + 1 ≤ R.frames ∧ 8 + (maxL + 11) + 40 * d ≤ R.locals) (hl : ls.size = nL) (hd : decode cc pc = .ok (ig, 3)) (hst : rest.length ≤ 4) (hc : cells ≤ R.cells ∧ slots ≤ R.slots)
    (kN : ∀ (z : Int) (σ' : St) (H1 : Heap) (locs1 : List Loc), rng z → Q' z σ' → Wc X σ' s.heap H1 locs1 → W p l e R s m args below meth c H1 locs1 cells slots Q (F0 m (pc + 3) ls (jI z :: rest))) :
    W p l e R s m args below meth c H locs cells slots Q (F0 m pc ls stk) :=
  z_call K hw hM hI hL ⟨rfl, rfl⟩ hfr hl hd hst hc (fun v σ' H1 locs1 hq hw1 => by obtain ⟨z, rfl, hr, hq⟩ := hq; exact kN z σ' H1 locs1 hr hq hw1) (fun _ _ _ _ _ h _ => h.elim)
theorem zc_z {Q' : Int → St → Prop} (K : MCx X p s m args meth c cc nL own ret) (hw : Wc X σ s.heap H locs) (hM : MetT l y ws (zrm d 0 0) (ZP X σ vs) (ZQ X (qZ Q') (fun _ _ => False)) 0 0 (zA X))
    (hI : ∀ T : State, T.heap = H → Stand p l e R s m args below meth c T locs cells slots → Inv p l e R s m args below meth c T locs cells slots (F0 m pc ls stk) rest y vs.toArray) (hL : LocW s y maxL ws)
    (hfr : d + 1 ≤ R.frames ∧ 8 + (maxL + 11) + 40 * d ≤ R.locals) (hl : ls.size = nL) (hd : decode cc pc = .ok (ig, 3)) (hst : rest.length ≤ 4) (hc : cells ≤ R.cells ∧ slots ≤ R.slots)
    (kN : ∀ (z : Int) (σ' : St) (H1 : Heap) (locs1 : List Loc), (0 ≤ z ∧ z ≤ 1) → Q' z σ' → Wc X σ' s.heap H1 locs1 → W p l e R s m args below meth c H1 locs1 cells slots Q (F0 m (pc + 3) ls (jI z :: rest))) :
    W p l e R s m args below meth c H locs cells slots Q (F0 m pc ls stk) :=
  z_call K hw hM hI hL ⟨rfl, rfl⟩ hfr hl hd hst hc (fun v σ' H1 locs1 hq hw1 => by obtain ⟨z, rfl, hr, hq⟩ := hq; exact kN z σ' H1 locs1 hr hq hw1) (fun _ _ _ _ _ h _ => h.elim)
theorem zc_l {Q' : Int → St → Prop} (K : MCx X p s m args meth c cc nL own ret) (hw : Wc X σ s.heap H locs) (hM : MetT l y ws (zrm d 0 0) (ZP X σ vs) (ZQ X (qL Q') (fun _ _ => False)) 0 0 (zA X))
    (hI : ∀ T : State, T.heap = H → Stand p l e R s m args below meth c T locs cells slots → Inv p l e R s m args below meth c T locs cells slots (F0 m pc ls stk) rest y vs.toArray) (hL : LocW s y maxL ws)
    (hfr : d + 1 ≤ R.frames ∧ 8 + (maxL + 11) + 40 * d ≤ R.locals) (hl : ls.size = nL) (hd : decode cc pc = .ok (ig, 3)) (hst : rest.length ≤ 4) (hc : cells ≤ R.cells ∧ slots ≤ R.slots)
    (kN : ∀ (z : Int) (σ' : St) (H1 : Heap) (locs1 : List Loc), rngL z → Q' z σ' → Wc X σ' s.heap H1 locs1 → W p l e R s m args below meth c H1 locs1 cells slots Q (F0 m (pc + 3) ls (jL z :: rest))) :
    W p l e R s m args below meth c H locs cells slots Q (F0 m pc ls stk) :=
  z_call K hw hM hI hL ⟨rfl, rfl⟩ hfr hl hd hst hc (fun v σ' H1 locs1 hq hw1 => by obtain ⟨z, rfl, hr, hq⟩ := hq; exact kN z σ' H1 locs1 hr hq hw1) (fun _ _ _ _ _ h _ => h.elim)
theorem zc_r {Q' : Int → St → Prop} {r : Nat} (K : MCx X p s m args meth c cc nL own ret) (hw : Wc X σ s.heap H locs) (hM : MetT l y ws (zrm d 0 0) (ZP X σ vs) (ZQ X (qR X r Q') (fun _ _ => False)) 0 0 (zA X))
    (hI : ∀ T : State, T.heap = H → Stand p l e R s m args below meth c T locs cells slots → Inv p l e R s m args below meth c T locs cells slots (F0 m pc ls stk) rest y vs.toArray) (hL : LocW s y maxL ws)
    (hfr : d + 1 ≤ R.frames ∧ 8 + (maxL + 11) + 40 * d ≤ R.locals) (hl : ls.size = nL) (hd : decode cc pc = .ok (ig, 3)) (hst : rest.length ≤ 4) (hc : cells ≤ R.cells ∧ slots ≤ R.slots)
    (kN : ∀ (z : Int) (σ' : St) (H1 : Heap) (locs1 : List Loc), (z = -1 ∨ okR σ' r z) → Q' z σ' → Wc X σ' s.heap H1 locs1 → W p l e R s m args below meth c H1 locs1 cells slots Q (F0 m (pc + 3) ls (jR X z :: rest))) :
    W p l e R s m args below meth c H locs cells slots Q (F0 m pc ls stk) :=
  z_call K hw hM hI hL ⟨rfl, rfl⟩ hfr hl hd hst hc (fun v σ' H1 locs1 hq hw1 => by obtain ⟨z, rfl, hr, hq⟩ := hq; exact kN z σ' H1 locs1 hr hq hw1) (fun _ _ _ _ _ h _ => h.elim)
theorem zc_v {Q' : St → Prop} (K : MCx X p s m args meth c cc nL own ret) (hw : Wc X σ s.heap H locs) (hM : MetT l y ws (zrm d 0 0) (ZP X σ vs) (ZQ X (qV Q') (fun _ _ => False)) 0 0 (zA X))
    (hI : ∀ T : State, T.heap = H → Stand p l e R s m args below meth c T locs cells slots → Inv p l e R s m args below meth c T locs cells slots (F0 m pc ls stk) rest y vs.toArray) (hL : LocW s y maxL ws)
    (hfr : d + 1 ≤ R.frames ∧ 8 + (maxL + 11) + 40 * d ≤ R.locals) (hl : ls.size = nL) (hd : decode cc pc = .ok (ig, 3)) (hst : rest.length ≤ 4) (hc : cells ≤ R.cells ∧ slots ≤ R.slots)
    (kN : ∀ (σ' : St) (H1 : Heap) (locs1 : List Loc), Q' σ' → Wc X σ' s.heap H1 locs1 → W p l e R s m args below meth c H1 locs1 cells slots Q (F0 m (pc + 3) ls (rest))) :
    W p l e R s m args below meth c H locs cells slots Q (F0 m pc ls stk) :=
  z_call K hw hM hI hL ⟨rfl, rfl⟩ hfr hl hd hst hc (fun v σ' H1 locs1 hq hw1 => by obtain ⟨rfl, hq⟩ := hq; exact kN σ' H1 locs1 hq hw1) (fun _ _ _ _ _ h _ => h.elim)
theorem zc_ai {Q' : Int → St → Prop} (K : MCx X p s m args meth c cc nL own ret) (hw : Wc X σ s.heap H locs) (hM : MetT l y ws (zrm d mc ms) (ZP X σ vs) (ZQ X (qI Q') (fun _ _ => False)) mc ms (zA X))
    (hI : ∀ T : State, T.heap = H → Stand p l e R s m args below meth c T locs cells slots → Inv p l e R s m args below meth c T locs cells slots (F0 m pc ls stk) rest y vs.toArray) (hL : LocW s y maxL ws)
    (hfr : d + 1 ≤ R.frames ∧ 8 + (maxL + 11) + 40 * d ≤ R.locals) (hl : ls.size = nL) (hd : decode cc pc = .ok (ig, 3)) (hst : rest.length ≤ 4) (hc : cells + mc ≤ R.cells ∧ slots + ms ≤ R.slots)
    (kN : ∀ (z : Int) (σ' : St) (H1 : Heap) (locs1 : List Loc), rng z → Q' z σ' → Wc X σ' s.heap H1 locs1 → W p l e R s m args below meth c H1 locs1 (cells + mc) (slots + ms) Q (F0 m (pc + 3) ls (jI z :: rest))) :
    W p l e R s m args below meth c H locs cells slots Q (F0 m pc ls stk) :=
  z_call K hw hM hI hL ⟨rfl, rfl⟩ hfr hl hd hst hc (fun v σ' H1 locs1 hq hw1 => by obtain ⟨z, rfl, hr, hq⟩ := hq; exact kN z σ' H1 locs1 hr hq hw1) (fun _ _ _ _ _ h _ => h.elim)
theorem zc_az {Q' : Int → St → Prop} (K : MCx X p s m args meth c cc nL own ret) (hw : Wc X σ s.heap H locs) (hM : MetT l y ws (zrm d mc ms) (ZP X σ vs) (ZQ X (qZ Q') (fun _ _ => False)) mc ms (zA X))
    (hI : ∀ T : State, T.heap = H → Stand p l e R s m args below meth c T locs cells slots → Inv p l e R s m args below meth c T locs cells slots (F0 m pc ls stk) rest y vs.toArray) (hL : LocW s y maxL ws)
    (hfr : d + 1 ≤ R.frames ∧ 8 + (maxL + 11) + 40 * d ≤ R.locals) (hl : ls.size = nL) (hd : decode cc pc = .ok (ig, 3)) (hst : rest.length ≤ 4) (hc : cells + mc ≤ R.cells ∧ slots + ms ≤ R.slots)
    (kN : ∀ (z : Int) (σ' : St) (H1 : Heap) (locs1 : List Loc), (0 ≤ z ∧ z ≤ 1) → Q' z σ' → Wc X σ' s.heap H1 locs1 → W p l e R s m args below meth c H1 locs1 (cells + mc) (slots + ms) Q (F0 m (pc + 3) ls (jI z :: rest))) :
    W p l e R s m args below meth c H locs cells slots Q (F0 m pc ls stk) :=
  z_call K hw hM hI hL ⟨rfl, rfl⟩ hfr hl hd hst hc (fun v σ' H1 locs1 hq hw1 => by obtain ⟨z, rfl, hr, hq⟩ := hq; exact kN z σ' H1 locs1 hr hq hw1) (fun _ _ _ _ _ h _ => h.elim)
theorem zc_al {Q' : Int → St → Prop} (K : MCx X p s m args meth c cc nL own ret) (hw : Wc X σ s.heap H locs) (hM : MetT l y ws (zrm d mc ms) (ZP X σ vs) (ZQ X (qL Q') (fun _ _ => False)) mc ms (zA X))
    (hI : ∀ T : State, T.heap = H → Stand p l e R s m args below meth c T locs cells slots → Inv p l e R s m args below meth c T locs cells slots (F0 m pc ls stk) rest y vs.toArray) (hL : LocW s y maxL ws)
    (hfr : d + 1 ≤ R.frames ∧ 8 + (maxL + 11) + 40 * d ≤ R.locals) (hl : ls.size = nL) (hd : decode cc pc = .ok (ig, 3)) (hst : rest.length ≤ 4) (hc : cells + mc ≤ R.cells ∧ slots + ms ≤ R.slots)
    (kN : ∀ (z : Int) (σ' : St) (H1 : Heap) (locs1 : List Loc), rngL z → Q' z σ' → Wc X σ' s.heap H1 locs1 → W p l e R s m args below meth c H1 locs1 (cells + mc) (slots + ms) Q (F0 m (pc + 3) ls (jL z :: rest))) :
    W p l e R s m args below meth c H locs cells slots Q (F0 m pc ls stk) :=
  z_call K hw hM hI hL ⟨rfl, rfl⟩ hfr hl hd hst hc (fun v σ' H1 locs1 hq hw1 => by obtain ⟨z, rfl, hr, hq⟩ := hq; exact kN z σ' H1 locs1 hr hq hw1) (fun _ _ _ _ _ h _ => h.elim)
theorem zc_ar {Q' : Int → St → Prop} {r : Nat} (K : MCx X p s m args meth c cc nL own ret) (hw : Wc X σ s.heap H locs) (hM : MetT l y ws (zrm d mc ms) (ZP X σ vs) (ZQ X (qR X r Q') (fun _ _ => False)) mc ms (zA X))
    (hI : ∀ T : State, T.heap = H → Stand p l e R s m args below meth c T locs cells slots → Inv p l e R s m args below meth c T locs cells slots (F0 m pc ls stk) rest y vs.toArray) (hL : LocW s y maxL ws)
    (hfr : d + 1 ≤ R.frames ∧ 8 + (maxL + 11) + 40 * d ≤ R.locals) (hl : ls.size = nL) (hd : decode cc pc = .ok (ig, 3)) (hst : rest.length ≤ 4) (hc : cells + mc ≤ R.cells ∧ slots + ms ≤ R.slots)
    (kN : ∀ (z : Int) (σ' : St) (H1 : Heap) (locs1 : List Loc), (z = -1 ∨ okR σ' r z) → Q' z σ' → Wc X σ' s.heap H1 locs1 → W p l e R s m args below meth c H1 locs1 (cells + mc) (slots + ms) Q (F0 m (pc + 3) ls (jR X z :: rest))) :
    W p l e R s m args below meth c H locs cells slots Q (F0 m pc ls stk) :=
  z_call K hw hM hI hL ⟨rfl, rfl⟩ hfr hl hd hst hc (fun v σ' H1 locs1 hq hw1 => by obtain ⟨z, rfl, hr, hq⟩ := hq; exact kN z σ' H1 locs1 hr hq hw1) (fun _ _ _ _ _ h _ => h.elim)
theorem zc_av {Q' : St → Prop} (K : MCx X p s m args meth c cc nL own ret) (hw : Wc X σ s.heap H locs) (hM : MetT l y ws (zrm d mc ms) (ZP X σ vs) (ZQ X (qV Q') (fun _ _ => False)) mc ms (zA X))
    (hI : ∀ T : State, T.heap = H → Stand p l e R s m args below meth c T locs cells slots → Inv p l e R s m args below meth c T locs cells slots (F0 m pc ls stk) rest y vs.toArray) (hL : LocW s y maxL ws)
    (hfr : d + 1 ≤ R.frames ∧ 8 + (maxL + 11) + 40 * d ≤ R.locals) (hl : ls.size = nL) (hd : decode cc pc = .ok (ig, 3)) (hst : rest.length ≤ 4) (hc : cells + mc ≤ R.cells ∧ slots + ms ≤ R.slots)
    (kN : ∀ (σ' : St) (H1 : Heap) (locs1 : List Loc), Q' σ' → Wc X σ' s.heap H1 locs1 → W p l e R s m args below meth c H1 locs1 (cells + mc) (slots + ms) Q (F0 m (pc + 3) ls (rest))) :
    W p l e R s m args below meth c H locs cells slots Q (F0 m pc ls stk) :=
  z_call K hw hM hI hL ⟨rfl, rfl⟩ hfr hl hd hst hc (fun v σ' H1 locs1 hq hw1 => by obtain ⟨rfl, hq⟩ := hq; exact kN σ' H1 locs1 hq hw1) (fun _ _ _ _ _ h _ => h.elim)
theorem zt_i {Q' : Int → St → Prop} {QE : Int → St → Prop} (K : MCx X p s m args meth c cc nL own ret) (hw : Wc X σ s.heap H locs) (hM : MetT l y ws (zrm d 0 0) (ZP X σ vs) (ZQ X (qI Q') QE) 0 0 (zA X))
    (hI : ∀ T : State, T.heap = H → Stand p l e R s m args below meth c T locs cells slots → Inv p l e R s m args below meth c T locs cells slots (F0 m pc ls stk) rest y vs.toArray) (hL : LocW s y maxL ws)
    (hfr : d + 1 ≤ R.frames ∧ 8 + (maxL + 11) + 40 * d ≤ R.locals) (hl : ls.size = nL) (hd : decode cc pc = .ok (ig, 3)) (hst : rest.length ≤ 4) (hc : cells ≤ R.cells ∧ slots ≤ R.slots)
    (kN : ∀ (z : Int) (σ' : St) (H1 : Heap) (locs1 : List Loc), rng z → Q' z σ' → Wc X σ' s.heap H1 locs1 → W p l e R s m args below meth c H1 locs1 cells slots Q (F0 m (pc + 3) ls (jI z :: rest)))
    (kE : ∀ (x : Int) (σ' : St) (H1 : Heap) (locs1 : List Loc), 0 ≤ x → QE x σ' → Wc X σ' s.heap H1 locs1 → WT p l e R s m args below meth c H1 locs1 cells slots Q (F0 m pc ls rest) (cb X + x.toNat)) :
    W p l e R s m args below meth c H locs cells slots Q (F0 m pc ls stk) :=
  z_call K hw hM hI hL ⟨rfl, rfl⟩ hfr hl hd hst hc (fun v σ' H1 locs1 hq hw1 => by obtain ⟨z, rfl, hr, hq⟩ := hq; exact kN z σ' H1 locs1 hr hq hw1) kE
theorem zt_z {Q' : Int → St → Prop} {QE : Int → St → Prop} (K : MCx X p s m args meth c cc nL own ret) (hw : Wc X σ s.heap H locs) (hM : MetT l y ws (zrm d 0 0) (ZP X σ vs) (ZQ X (qZ Q') QE) 0 0 (zA X))
    (hI : ∀ T : State, T.heap = H → Stand p l e R s m args below meth c T locs cells slots → Inv p l e R s m args below meth c T locs cells slots (F0 m pc ls stk) rest y vs.toArray) (hL : LocW s y maxL ws)
    (hfr : d + 1 ≤ R.frames ∧ 8 + (maxL + 11) + 40 * d ≤ R.locals) (hl : ls.size = nL) (hd : decode cc pc = .ok (ig, 3)) (hst : rest.length ≤ 4) (hc : cells ≤ R.cells ∧ slots ≤ R.slots)
    (kN : ∀ (z : Int) (σ' : St) (H1 : Heap) (locs1 : List Loc), (0 ≤ z ∧ z ≤ 1) → Q' z σ' → Wc X σ' s.heap H1 locs1 → W p l e R s m args below meth c H1 locs1 cells slots Q (F0 m (pc + 3) ls (jI z :: rest)))
    (kE : ∀ (x : Int) (σ' : St) (H1 : Heap) (locs1 : List Loc), 0 ≤ x → QE x σ' → Wc X σ' s.heap H1 locs1 → WT p l e R s m args below meth c H1 locs1 cells slots Q (F0 m pc ls rest) (cb X + x.toNat)) :
    W p l e R s m args below meth c H locs cells slots Q (F0 m pc ls stk) :=
  z_call K hw hM hI hL ⟨rfl, rfl⟩ hfr hl hd hst hc (fun v σ' H1 locs1 hq hw1 => by obtain ⟨z, rfl, hr, hq⟩ := hq; exact kN z σ' H1 locs1 hr hq hw1) kE
theorem zt_l {Q' : Int → St → Prop} {QE : Int → St → Prop} (K : MCx X p s m args meth c cc nL own ret) (hw : Wc X σ s.heap H locs) (hM : MetT l y ws (zrm d 0 0) (ZP X σ vs) (ZQ X (qL Q') QE) 0 0 (zA X))
    (hI : ∀ T : State, T.heap = H → Stand p l e R s m args below meth c T locs cells slots → Inv p l e R s m args below meth c T locs cells slots (F0 m pc ls stk) rest y vs.toArray) (hL : LocW s y maxL ws)
    (hfr : d + 1 ≤ R.frames ∧ 8 + (maxL + 11) + 40 * d ≤ R.locals) (hl : ls.size = nL) (hd : decode cc pc = .ok (ig, 3)) (hst : rest.length ≤ 4) (hc : cells ≤ R.cells ∧ slots ≤ R.slots)
    (kN : ∀ (z : Int) (σ' : St) (H1 : Heap) (locs1 : List Loc), rngL z → Q' z σ' → Wc X σ' s.heap H1 locs1 → W p l e R s m args below meth c H1 locs1 cells slots Q (F0 m (pc + 3) ls (jL z :: rest)))
    (kE : ∀ (x : Int) (σ' : St) (H1 : Heap) (locs1 : List Loc), 0 ≤ x → QE x σ' → Wc X σ' s.heap H1 locs1 → WT p l e R s m args below meth c H1 locs1 cells slots Q (F0 m pc ls rest) (cb X + x.toNat)) :
    W p l e R s m args below meth c H locs cells slots Q (F0 m pc ls stk) :=
  z_call K hw hM hI hL ⟨rfl, rfl⟩ hfr hl hd hst hc (fun v σ' H1 locs1 hq hw1 => by obtain ⟨z, rfl, hr, hq⟩ := hq; exact kN z σ' H1 locs1 hr hq hw1) kE
theorem zt_r {Q' : Int → St → Prop} {QE : Int → St → Prop} {r : Nat} (K : MCx X p s m args meth c cc nL own ret) (hw : Wc X σ s.heap H locs) (hM : MetT l y ws (zrm d 0 0) (ZP X σ vs) (ZQ X (qR X r Q') QE) 0 0 (zA X))
    (hI : ∀ T : State, T.heap = H → Stand p l e R s m args below meth c T locs cells slots → Inv p l e R s m args below meth c T locs cells slots (F0 m pc ls stk) rest y vs.toArray) (hL : LocW s y maxL ws)
    (hfr : d + 1 ≤ R.frames ∧ 8 + (maxL + 11) + 40 * d ≤ R.locals) (hl : ls.size = nL) (hd : decode cc pc = .ok (ig, 3)) (hst : rest.length ≤ 4) (hc : cells ≤ R.cells ∧ slots ≤ R.slots)
    (kN : ∀ (z : Int) (σ' : St) (H1 : Heap) (locs1 : List Loc), (z = -1 ∨ okR σ' r z) → Q' z σ' → Wc X σ' s.heap H1 locs1 → W p l e R s m args below meth c H1 locs1 cells slots Q (F0 m (pc + 3) ls (jR X z :: rest)))
    (kE : ∀ (x : Int) (σ' : St) (H1 : Heap) (locs1 : List Loc), 0 ≤ x → QE x σ' → Wc X σ' s.heap H1 locs1 → WT p l e R s m args below meth c H1 locs1 cells slots Q (F0 m pc ls rest) (cb X + x.toNat)) :
    W p l e R s m args below meth c H locs cells slots Q (F0 m pc ls stk) :=
  z_call K hw hM hI hL ⟨rfl, rfl⟩ hfr hl hd hst hc (fun v σ' H1 locs1 hq hw1 => by obtain ⟨z, rfl, hr, hq⟩ := hq; exact kN z σ' H1 locs1 hr hq hw1) kE
theorem zt_v {Q' : St → Prop} {QE : Int → St → Prop} (K : MCx X p s m args meth c cc nL own ret) (hw : Wc X σ s.heap H locs) (hM : MetT l y ws (zrm d 0 0) (ZP X σ vs) (ZQ X (qV Q') QE) 0 0 (zA X))
    (hI : ∀ T : State, T.heap = H → Stand p l e R s m args below meth c T locs cells slots → Inv p l e R s m args below meth c T locs cells slots (F0 m pc ls stk) rest y vs.toArray) (hL : LocW s y maxL ws)
    (hfr : d + 1 ≤ R.frames ∧ 8 + (maxL + 11) + 40 * d ≤ R.locals) (hl : ls.size = nL) (hd : decode cc pc = .ok (ig, 3)) (hst : rest.length ≤ 4) (hc : cells ≤ R.cells ∧ slots ≤ R.slots)
    (kN : ∀ (σ' : St) (H1 : Heap) (locs1 : List Loc), Q' σ' → Wc X σ' s.heap H1 locs1 → W p l e R s m args below meth c H1 locs1 cells slots Q (F0 m (pc + 3) ls (rest)))
    (kE : ∀ (x : Int) (σ' : St) (H1 : Heap) (locs1 : List Loc), 0 ≤ x → QE x σ' → Wc X σ' s.heap H1 locs1 → WT p l e R s m args below meth c H1 locs1 cells slots Q (F0 m pc ls rest) (cb X + x.toNat)) :
    W p l e R s m args below meth c H locs cells slots Q (F0 m pc ls stk) :=
  z_call K hw hM hI hL ⟨rfl, rfl⟩ hfr hl hd hst hc (fun v σ' H1 locs1 hq hw1 => by obtain ⟨rfl, hq⟩ := hq; exact kN σ' H1 locs1 hq hw1) kE
theorem zt_ai {Q' : Int → St → Prop} {QE : Int → St → Prop} (K : MCx X p s m args meth c cc nL own ret) (hw : Wc X σ s.heap H locs) (hM : MetT l y ws (zrm d mc ms) (ZP X σ vs) (ZQ X (qI Q') QE) mc ms (zA X))
    (hI : ∀ T : State, T.heap = H → Stand p l e R s m args below meth c T locs cells slots → Inv p l e R s m args below meth c T locs cells slots (F0 m pc ls stk) rest y vs.toArray) (hL : LocW s y maxL ws)
    (hfr : d + 1 ≤ R.frames ∧ 8 + (maxL + 11) + 40 * d ≤ R.locals) (hl : ls.size = nL) (hd : decode cc pc = .ok (ig, 3)) (hst : rest.length ≤ 4) (hc : cells + mc ≤ R.cells ∧ slots + ms ≤ R.slots)
    (kN : ∀ (z : Int) (σ' : St) (H1 : Heap) (locs1 : List Loc), rng z → Q' z σ' → Wc X σ' s.heap H1 locs1 → W p l e R s m args below meth c H1 locs1 (cells + mc) (slots + ms) Q (F0 m (pc + 3) ls (jI z :: rest)))
    (kE : ∀ (x : Int) (σ' : St) (H1 : Heap) (locs1 : List Loc), 0 ≤ x → QE x σ' → Wc X σ' s.heap H1 locs1 → WT p l e R s m args below meth c H1 locs1 (cells + mc) (slots + ms) Q (F0 m pc ls rest) (cb X + x.toNat)) :
    W p l e R s m args below meth c H locs cells slots Q (F0 m pc ls stk) :=
  z_call K hw hM hI hL ⟨rfl, rfl⟩ hfr hl hd hst hc (fun v σ' H1 locs1 hq hw1 => by obtain ⟨z, rfl, hr, hq⟩ := hq; exact kN z σ' H1 locs1 hr hq hw1) kE
theorem zt_az {Q' : Int → St → Prop} {QE : Int → St → Prop} (K : MCx X p s m args meth c cc nL own ret) (hw : Wc X σ s.heap H locs) (hM : MetT l y ws (zrm d mc ms) (ZP X σ vs) (ZQ X (qZ Q') QE) mc ms (zA X))
    (hI : ∀ T : State, T.heap = H → Stand p l e R s m args below meth c T locs cells slots → Inv p l e R s m args below meth c T locs cells slots (F0 m pc ls stk) rest y vs.toArray) (hL : LocW s y maxL ws)
    (hfr : d + 1 ≤ R.frames ∧ 8 + (maxL + 11) + 40 * d ≤ R.locals) (hl : ls.size = nL) (hd : decode cc pc = .ok (ig, 3)) (hst : rest.length ≤ 4) (hc : cells + mc ≤ R.cells ∧ slots + ms ≤ R.slots)
    (kN : ∀ (z : Int) (σ' : St) (H1 : Heap) (locs1 : List Loc), (0 ≤ z ∧ z ≤ 1) → Q' z σ' → Wc X σ' s.heap H1 locs1 → W p l e R s m args below meth c H1 locs1 (cells + mc) (slots + ms) Q (F0 m (pc + 3) ls (jI z :: rest)))
    (kE : ∀ (x : Int) (σ' : St) (H1 : Heap) (locs1 : List Loc), 0 ≤ x → QE x σ' → Wc X σ' s.heap H1 locs1 → WT p l e R s m args below meth c H1 locs1 (cells + mc) (slots + ms) Q (F0 m pc ls rest) (cb X + x.toNat)) :
    W p l e R s m args below meth c H locs cells slots Q (F0 m pc ls stk) :=
  z_call K hw hM hI hL ⟨rfl, rfl⟩ hfr hl hd hst hc (fun v σ' H1 locs1 hq hw1 => by obtain ⟨z, rfl, hr, hq⟩ := hq; exact kN z σ' H1 locs1 hr hq hw1) kE
theorem zt_al {Q' : Int → St → Prop} {QE : Int → St → Prop} (K : MCx X p s m args meth c cc nL own ret) (hw : Wc X σ s.heap H locs) (hM : MetT l y ws (zrm d mc ms) (ZP X σ vs) (ZQ X (qL Q') QE) mc ms (zA X))
    (hI : ∀ T : State, T.heap = H → Stand p l e R s m args below meth c T locs cells slots → Inv p l e R s m args below meth c T locs cells slots (F0 m pc ls stk) rest y vs.toArray) (hL : LocW s y maxL ws)
    (hfr : d + 1 ≤ R.frames ∧ 8 + (maxL + 11) + 40 * d ≤ R.locals) (hl : ls.size = nL) (hd : decode cc pc = .ok (ig, 3)) (hst : rest.length ≤ 4) (hc : cells + mc ≤ R.cells ∧ slots + ms ≤ R.slots)
    (kN : ∀ (z : Int) (σ' : St) (H1 : Heap) (locs1 : List Loc), rngL z → Q' z σ' → Wc X σ' s.heap H1 locs1 → W p l e R s m args below meth c H1 locs1 (cells + mc) (slots + ms) Q (F0 m (pc + 3) ls (jL z :: rest)))
    (kE : ∀ (x : Int) (σ' : St) (H1 : Heap) (locs1 : List Loc), 0 ≤ x → QE x σ' → Wc X σ' s.heap H1 locs1 → WT p l e R s m args below meth c H1 locs1 (cells + mc) (slots + ms) Q (F0 m pc ls rest) (cb X + x.toNat)) :
    W p l e R s m args below meth c H locs cells slots Q (F0 m pc ls stk) :=
  z_call K hw hM hI hL ⟨rfl, rfl⟩ hfr hl hd hst hc (fun v σ' H1 locs1 hq hw1 => by obtain ⟨z, rfl, hr, hq⟩ := hq; exact kN z σ' H1 locs1 hr hq hw1) kE
theorem zt_ar {Q' : Int → St → Prop} {QE : Int → St → Prop} {r : Nat} (K : MCx X p s m args meth c cc nL own ret) (hw : Wc X σ s.heap H locs) (hM : MetT l y ws (zrm d mc ms) (ZP X σ vs) (ZQ X (qR X r Q') QE) mc ms (zA X))
    (hI : ∀ T : State, T.heap = H → Stand p l e R s m args below meth c T locs cells slots → Inv p l e R s m args below meth c T locs cells slots (F0 m pc ls stk) rest y vs.toArray) (hL : LocW s y maxL ws)
    (hfr : d + 1 ≤ R.frames ∧ 8 + (maxL + 11) + 40 * d ≤ R.locals) (hl : ls.size = nL) (hd : decode cc pc = .ok (ig, 3)) (hst : rest.length ≤ 4) (hc : cells + mc ≤ R.cells ∧ slots + ms ≤ R.slots)
    (kN : ∀ (z : Int) (σ' : St) (H1 : Heap) (locs1 : List Loc), (z = -1 ∨ okR σ' r z) → Q' z σ' → Wc X σ' s.heap H1 locs1 → W p l e R s m args below meth c H1 locs1 (cells + mc) (slots + ms) Q (F0 m (pc + 3) ls (jR X z :: rest)))
    (kE : ∀ (x : Int) (σ' : St) (H1 : Heap) (locs1 : List Loc), 0 ≤ x → QE x σ' → Wc X σ' s.heap H1 locs1 → WT p l e R s m args below meth c H1 locs1 (cells + mc) (slots + ms) Q (F0 m pc ls rest) (cb X + x.toNat)) :
    W p l e R s m args below meth c H locs cells slots Q (F0 m pc ls stk) :=
  z_call K hw hM hI hL ⟨rfl, rfl⟩ hfr hl hd hst hc (fun v σ' H1 locs1 hq hw1 => by obtain ⟨z, rfl, hr, hq⟩ := hq; exact kN z σ' H1 locs1 hr hq hw1) kE
theorem zt_av {Q' : St → Prop} {QE : Int → St → Prop} (K : MCx X p s m args meth c cc nL own ret) (hw : Wc X σ s.heap H locs) (hM : MetT l y ws (zrm d mc ms) (ZP X σ vs) (ZQ X (qV Q') QE) mc ms (zA X))
    (hI : ∀ T : State, T.heap = H → Stand p l e R s m args below meth c T locs cells slots → Inv p l e R s m args below meth c T locs cells slots (F0 m pc ls stk) rest y vs.toArray) (hL : LocW s y maxL ws)
    (hfr : d + 1 ≤ R.frames ∧ 8 + (maxL + 11) + 40 * d ≤ R.locals) (hl : ls.size = nL) (hd : decode cc pc = .ok (ig, 3)) (hst : rest.length ≤ 4) (hc : cells + mc ≤ R.cells ∧ slots + ms ≤ R.slots)
    (kN : ∀ (σ' : St) (H1 : Heap) (locs1 : List Loc), Q' σ' → Wc X σ' s.heap H1 locs1 → W p l e R s m args below meth c H1 locs1 (cells + mc) (slots + ms) Q (F0 m (pc + 3) ls (rest)))
    (kE : ∀ (x : Int) (σ' : St) (H1 : Heap) (locs1 : List Loc), 0 ≤ x → QE x σ' → Wc X σ' s.heap H1 locs1 → WT p l e R s m args below meth c H1 locs1 (cells + mc) (slots + ms) Q (F0 m pc ls rest) (cb X + x.toNat)) :
    W p l e R s m args below meth c H locs cells slots Q (F0 m pc ls stk) :=
  z_call K hw hM hI hL ⟨rfl, rfl⟩ hfr hl hd hst hc (fun v σ' H1 locs1 hq hw1 => by obtain ⟨rfl, hq⟩ := hq; exact kN σ' H1 locs1 hq hw1) kE
end ZD
