/-! ROWS: fields and arrays -/
set_option maxRecDepth 100000
section ZC
variable {X : Cxt} {p : Program} {l : Launch} {e : Env} {R : Room} {s : State} {m : MethodId} {args : Array Value} {below : List Frame} {meth : Method} {c : Code} {H : Heap} {locs : List Loc} {cells slots : Nat} {Q : State → Prop}
variable {cc : ByteArray} {nL : Nat} {own : String} {ret : Option FieldType} {pc : Nat} {ls : Array Slot} {rest : List Value} {σ : St} {a : Int} {t k : Nat} {C : String} {T : u_T} {N : Nat} {ref host : String} {index : Nat}
theorem z_get (K : MCx X p s m args meth c cc nL own ret) (hw : Wc X σ s.heap H locs) (ho : Ob σ a t) (hq : zcl[t - 1]? = some (C, T, N)) (hk : k < N)
    (hl : Cond.fieldLink own index ref (T k).2.1 (T k).2.2.1 ∈ lw_all) (hsame : ∀ x, s.fieldFound? (T k).1 (T k).2.1 (T k).2.2.1 = some x → s.fieldFound? ref (T k).2.1 (T k).2.2.1 = some x) (hd : decode cc pc = .ok (.getfield index, 3)) {v : Value} (hv : zval X σ a t k = v)
    (kk : W p l e R s m args below meth c H locs cells slots Q (F0 m (pc + 3) ls (v :: rest))) : W p l e R s m args below meth c H locs cells slots Q (F0 m pc ls (jR X a :: rest)) := by
  obtain ⟨q, hq', cell, q1, q2, q3, q4⟩ := hw.1.1 a t ho
  cases hq'.symm.trans hq
  obtain ⟨cf, kfd, fi, f, kC, hi, hsl, hst, -⟩ := z_fld K ho.1 hq hk
  rw [jR_ref (hw.1.pos ho.ne0).1]
  refine W.getf K.x K.b K.o (K.ts _ hl) (hsame _ hi) hst q1 (by rw [q3]; exact fun h => by cases h) (v := v) ?_ rfl rfl hd kk
  rw [hsl, q4 k hk, hv]
theorem z_getN (K : MCx X p s m args meth c cc nL own ret) (hw : Wc X σ s.heap H locs) (ho : Ob σ a t) (hq : zcl[t - 1]? = some (C, T, N)) (hk : k < N)
    (hl : Cond.fieldLinkNest own index ref (T k).2.1 (T k).2.2.1 host ∈ lw_tbl) (hsame : ∀ x, s.fieldFound? (T k).1 (T k).2.1 (T k).2.2.1 = some x → s.fieldFound? ref (T k).2.1 (T k).2.2.1 = some x) (hd : decode cc pc = .ok (.getfield index, 3)) {v : Value} (hv : zval X σ a t k = v)
    (kk : W p l e R s m args below meth c H locs cells slots Q (F0 m (pc + 3) ls (v :: rest))) : W p l e R s m args below meth c H locs cells slots Q (F0 m pc ls (jR X a :: rest)) := by
  obtain ⟨q, hq', cell, q1, q2, q3, q4⟩ := hw.1.1 a t ho
  cases hq'.symm.trans hq
  obtain ⟨cf, kfd, fi, f, kC, hi, hsl, hst, -⟩ := z_fld K ho.1 hq hk
  rw [jR_ref (hw.1.pos ho.ne0).1]
  refine va_Wgetf K.x K.b K.o (K.nst (lw_n hl rfl)) (hsame _ hi) hst q1 (by rw [q3]; exact fun h => by cases h) (v := v) ?_ rfl rfl hd kk
  rw [hsl, q4 k hk, hv]
theorem zval_i {a : Int} (h : kf t k = 0) : zval X σ a t k = jI (σ a k 0) := by unfold zval; rw [h]; rfl
theorem zval_z {a : Int} (h : kf t k = 1) : zval X σ a t k = jI (σ a k 0) := by unfold zval; rw [h]; rfl
theorem zval_l {a : Int} (h : kf t k = 2) : zval X σ a t k = jL (σ a k 0) := by unfold zval; rw [h]; rfl
theorem zval_r {a : Int} (h : kf t k = 3) : zval X σ a t k = jR X (σ a k 0) := by unfold zval; rw [h]; rfl
theorem zval_p {κ : Nat} {a : Int} (h : kf t k = 10 + κ) : zval X σ a t k = jR X (σ a k (-1)) := by unfold zval; rw [h, Nat.add_comm]; rfl
theorem z_rI (hw : Wc X σ s.heap H locs) (ho : Ob σ a t) (h : kf t k = 0) : rng (σ a k 0) := (hw.1.2.2.2.1 a t k ho).1 h
theorem z_rZ (hw : Wc X σ s.heap H locs) (ho : Ob σ a t) (h : kf t k = 1) : 0 ≤ σ a k 0 ∧ σ a k 0 ≤ 1 := (hw.1.2.2.2.1 a t k ho).2.1 h
theorem z_rL (hw : Wc X σ s.heap H locs) (ho : Ob σ a t) (h : kf t k = 2) : rngL (σ a k 0) := (hw.1.2.2.2.1 a t k ho).2.2 h
/-- a reference that is never null -/
theorem z_tg (hw : Wc X σ s.heap H locs) (ht : tg σ a = (t : Int)) (h0 : 0 < t ∧ t ≤ 18) (h : kf t k = 3) (hn : kn t k = 1) {r : Nat} (hr : kt t k = r) (h1 : r ≠ 0) (h2 : r ≠ 100) : tg σ (σ a k 0) = (r : Int) := by
  rcases (hw.1.2.2.2.2.1 a t k h0.1 h0.2 ht).1 h with h3 | h3
  · omega
  · rw [hr] at h3
    unfold okR at h3
    rw [if_neg h1, if_neg h2] at h3
    exact h3
theorem z_ok (hw : Wc X σ s.heap H locs) (ht : tg σ a = (t : Int)) (h0 : 0 < t ∧ t ≤ 18) (h : kf t k = 3) {r : Nat} (hr : kt t k = r) : σ a k 0 = -1 ∨ okR σ r (σ a k 0) := by
  rcases (hw.1.2.2.2.2.1 a t k h0.1 h0.2 ht).1 h with h3 | h3
  · exact Or.inl h3.1
  · rw [hr] at h3
    exact Or.inr h3
theorem okR_tg {r : Nat} {z : Int} (h1 : r ≠ 0) (h2 : r ≠ 100) (h : okR σ r z) : tg σ z = (r : Int) := by
  unfold okR at h
  rw [if_neg h1, if_neg h2] at h
  exact h
theorem tg_okR {r : Nat} {z : Int} (h1 : r ≠ 0) (h2 : r ≠ 100) (h : tg σ z = (r : Int)) : okR σ r z := by
  unfold okR
  rw [if_neg h1, if_neg h2]
  exact h
theorem okR_nn {r : Nat} {z : Int} (hn : z ≠ -1) (h1 : r ≠ 0) (h2 : r ≠ 100) (h : z = -1 ∨ okR σ r z) : tg σ z = (r : Int) := okR_tg h1 h2 (h.resolve_left hn)
/-- a field is written: the common core -/
theorem z_putc (K : MCx X p s m args meth c cc nL own ret) (hw : Wc X σ s.heap H locs) (ho : Ob σ a t) (hq : zcl[t - 1]? = some (C, T, N)) (hk : k < N) (hkf : kf t k ≤ 3) {z : Int} {v : Value} (hv : zval X (st σ a k 0 z) a t k = v)
    (hfit : ∀ ty : FieldType, zty t k = ty → narrow ty v = v ∧ fits ty v = true)
    (h0 : kf t k = 0 → rng z) (h1 : kf t k = 1 → 0 ≤ z ∧ z ≤ 1) (h2 : kf t k = 2 → rngL z) (h3 : kf t k = 3 → tg σ a = (t : Int) → (z = -1 ∧ kn t k = 0) ∨ okR σ (kt t k) z)
    (hp : ∀ (f : Field) (cell : Cell), (∃ cf kfd fi, s.fieldFound? (T k).1 (T k).2.1 (T k).2.2.1 = some (cf, kfd, fi, f)) → f.isStatic = false → f.slot = (cD X).2 (t - 1) k → (narrow f.type v = v ∧ s.fitsSlot cell.cls .none f.slot v = true) → H[cb X + a.toNat]? = some cell → cell.vm = .none → f.slot < cell.slots.size →
      (∀ H' : Heap, H'[cb X + a.toNat]? = some (cell.setSlot f.slot v) → H'.size = H.size → (∀ q, q ≠ cb X + a.toNat → H'[q]? = H[q]?) → W p l e R s m args below meth c H' (locs ++ [⟨cb X + a.toNat, f.slot⟩]) cells slots Q (F0 m (pc + 3) ls rest)) → W p l e R s m args below meth c H locs cells slots Q (F0 m pc ls (v :: .ref (cb X + a.toNat) :: rest)))
    (kk : ∀ (H1 : Heap) (locs1 : List Loc), Wc X (st σ a k 0 z) s.heap H1 locs1 → W p l e R s m args below meth c H1 locs1 cells slots Q (F0 m (pc + 3) ls rest)) : W p l e R s m args below meth c H locs cells slots Q (F0 m pc ls (v :: jR X a :: rest)) := by
  obtain ⟨q, hq', cell, q1, q2, q3, q4⟩ := id (hw.1.1 a t ho)
  cases hq'.symm.trans hq
  obtain ⟨cf, kfd, fi, f, kC, hi, hsl, hst, hfc, hkC, hkd, hlay, hpd, -⟩ := z_fld K ho.1 hq hk
  have hap := z_apart K ho.1 hq
  rw [jR_ref (hw.1.pos ho.ne0).1]
  obtain ⟨hf1, hf2⟩ := hfit _ rfl
  refine hp f cell ⟨cf, kfd, fi, hi⟩ hst hsl (by rw [q2]; exact u_fits hfc hkC hkd hlay hi hpd hf1 hf2) q1 q3 (by rw [hsl]; exact k2_hasslot (q4 k hk)) fun H' e1 e2 e3 => ?_
  refine kk H' _ ⟨sim_put hw.1 ho hq hkf ?_ e2 e3 h0 h1 h2 h3, hw.2.put e2 e3 (Nat.le_add_right _ _)⟩
  rw [hsl] at e1
  rw [hv]
  exact ⟨_, e1, q2, q3, t_set q4 hap hk v⟩
theorem z_put (K : MCx X p s m args meth c cc nL own ret) (hw : Wc X σ s.heap H locs) (ho : Ob σ a t) (hq : zcl[t - 1]? = some (C, T, N)) (hk : k < N) (hkf : kf t k ≤ 3) {z : Int} {v : Value} (hv : zval X (st σ a k 0 z) a t k = v)
    (hfit : ∀ ty : FieldType, zty t k = ty → narrow ty v = v ∧ fits ty v = true)
    (h0 : kf t k = 0 → rng z) (h1 : kf t k = 1 → 0 ≤ z ∧ z ≤ 1) (h2 : kf t k = 2 → rngL z) (h3 : kf t k = 3 → tg σ a = (t : Int) → (z = -1 ∧ kn t k = 0) ∨ okR σ (kt t k) z)
    (hl : Cond.fieldLink own index ref (T k).2.1 (T k).2.2.1 ∈ lw_all) (hsame : ∀ x, s.fieldFound? (T k).1 (T k).2.1 (T k).2.2.1 = some x → s.fieldFound? ref (T k).2.1 (T k).2.2.1 = some x) (hfin : (T k).2.2.2 = false) (hd : decode cc pc = .ok (.putfield index, 3))
    (kk : ∀ (H1 : Heap) (locs1 : List Loc), Wc X (st σ a k 0 z) s.heap H1 locs1 → W p l e R s m args below meth c H1 locs1 cells slots Q (F0 m (pc + 3) ls rest)) : W p l e R s m args below meth c H locs cells slots Q (F0 m pc ls (v :: jR X a :: rest)) := by
  refine z_putc K hw ho hq hk hkf hv hfit h0 h1 h2 h3 (fun f cell hi hst hsl hf g1 g2 g3 k2 => ?_) kk
  obtain ⟨cf, kfd, fi, hi⟩ := hi
  have hfl : hasFlag f.accessFlags Acc.final = false := by
    obtain ⟨cf', kfd', fi', f', kC, hi', -, -, hfc, hkC, -, -, -, hul⟩ := z_fld K ho.1 hq hk
    cases hi.symm.trans hi'
    unfold u_lay at hul
    rw [if_neg (by rw [hfin]; decide)] at hul
    obtain ⟨_, _, _, _, _, _, -, -, hf', -, hfl, -⟩ := Cond.lays_spec hul
    cases hi.symm.trans hf'
    exact hfl
  exact W.putK K.x K.b (f := f) ⟨K.o, K.ts _ hl, ⟨_, _, _, hsame _ hi⟩, hst⟩ ⟨hfl, hf.1, hf.2⟩ g1 g2 g3 rfl rfl hd k2
theorem z_putN (K : MCx X p s m args meth c cc nL own ret) (hw : Wc X σ s.heap H locs) (ho : Ob σ a t) (hq : zcl[t - 1]? = some (C, T, N)) (hk : k < N) (hkf : kf t k ≤ 3) {z : Int} {v : Value} (hv : zval X (st σ a k 0 z) a t k = v)
    (hfit : ∀ ty : FieldType, zty t k = ty → narrow ty v = v ∧ fits ty v = true)
    (h0 : kf t k = 0 → rng z) (h1 : kf t k = 1 → 0 ≤ z ∧ z ≤ 1) (h2 : kf t k = 2 → rngL z) (h3 : kf t k = 3 → tg σ a = (t : Int) → (z = -1 ∧ kn t k = 0) ∨ okR σ (kt t k) z)
    (hl : Cond.fieldLinkNest own index ref (T k).2.1 (T k).2.2.1 host ∈ lw_tbl) (hsame : ∀ x, s.fieldFound? (T k).1 (T k).2.1 (T k).2.2.1 = some x → s.fieldFound? ref (T k).2.1 (T k).2.2.1 = some x) (hfin : (T k).2.2.2 = false) (hd : decode cc pc = .ok (.putfield index, 3))
    (kk : ∀ (H1 : Heap) (locs1 : List Loc), Wc X (st σ a k 0 z) s.heap H1 locs1 → W p l e R s m args below meth c H1 locs1 cells slots Q (F0 m (pc + 3) ls rest)) : W p l e R s m args below meth c H locs cells slots Q (F0 m pc ls (v :: jR X a :: rest)) := by
  refine z_putc K hw ho hq hk hkf hv hfit h0 h1 h2 h3 (fun f cell hi hst hsl hf g1 g2 g3 k2 => ?_) kk
  obtain ⟨cf, kfd, fi, hi⟩ := hi
  have hfl : hasFlag f.accessFlags Acc.final = false := by
    obtain ⟨cf', kfd', fi', f', kC, hi', -, -, hfc, hkC, -, -, -, hul⟩ := z_fld K ho.1 hq hk
    cases hi.symm.trans hi'
    unfold u_lay at hul
    rw [if_neg (by rw [hfin]; decide)] at hul
    obtain ⟨_, _, _, _, _, _, -, -, hf', -, hfl, -⟩ := Cond.lays_spec hul
    cases hi.symm.trans hf'
    exact hfl
  exact va_WputK K.x K.b (f := f) K.o (K.nst (lw_n hl rfl)) (hsame _ hi) hst ⟨hfl, hf.1, hf.2⟩ g1 g2 g3 rfl rfl hd k2
theorem z_putF (K : MCx X p s m args meth c cc nL own ret) (hw : Wc X σ s.heap H locs) (ho : Ob σ a t) (hq : zcl[t - 1]? = some (C, T, N)) (hk : k < N) (hkf : kf t k ≤ 3) {z : Int} {v : Value} (hv : zval X (st σ a k 0 z) a t k = v)
    (hfit : ∀ ty : FieldType, zty t k = ty → narrow ty v = v ∧ fits ty v = true)
    (h0 : kf t k = 0 → rng z) (h1 : kf t k = 1 → 0 ≤ z ∧ z ≤ 1) (h2 : kf t k = 2 → rngL z) (h3 : kf t k = 3 → tg σ a = (t : Int) → (z = -1 ∧ kn t k = 0) ∨ okR σ (kt t k) z)
    (hl : Cond.fieldLink own index ref (T k).2.1 (T k).2.2.1 ∈ lw_all) (hsame : ∀ x, s.fieldFound? (T k).1 (T k).2.1 (T k).2.2.1 = some x → s.fieldFound? ref (T k).2.1 (T k).2.2.1 = some x) (hfin : (T k).2.2.2 = true) (hin2 : meth.name = "<init>") (hdecl : (T k).1 = own) (hd : decode cc pc = .ok (.putfield index, 3))
    (kk : ∀ (H1 : Heap) (locs1 : List Loc), Wc X (st σ a k 0 z) s.heap H1 locs1 → W p l e R s m args below meth c H1 locs1 cells slots Q (F0 m (pc + 3) ls rest)) : W p l e R s m args below meth c H locs cells slots Q (F0 m pc ls (v :: jR X a :: rest)) := by
  refine z_putc K hw ho hq hk hkf hv hfit h0 h1 h2 h3 (fun f cell hi hst hsl hf g1 g2 g3 k2 => ?_) kk
  obtain ⟨cf, kfd, fi, hi⟩ := hi
  have hcf : m.cls = cf := by
    obtain ⟨cf', kfd', fi', f', kC, hi', -, -, hfc, hkC, -, -, -, hul⟩ := z_fld K ho.1 hq hk
    unfold u_lay at hul
    rw [if_pos hfin] at hul
    obtain ⟨_, _, c', _, _, _, -, -, hf', -, -, -, hown2, -⟩ := Cond.laysFinal_spec hul
    cases hi.symm.trans hf'
    rw [hdecl] at hown2
    exact Option.some.inj (K.o.symm.trans hown2)
  exact W.putFinK K.x K.b K.o (K.ts _ hl) (hsame _ hi) hst hcf hin2 hf g1 g2 g3 rfl rfl hd k2
/-! what a value fits -/
theorem rng_ofInt {z : Int} (h : rng z) : (Int32.ofInt z).toInt = z := Int32.toInt_ofInt_of_le (by have := h.1; omega) (by have := h.2; omega)
theorem rngL_ofInt {z : Int} (h : rngL z) : (Int64.ofInt z).toInt = z := Int64.toInt_ofInt_of_le (by have := h.1; omega) (by have := h.2; omega)
theorem b01 {z : Int} (h : 0 ≤ z ∧ z ≤ 1) : z = 0 ∨ z = 1 := by omega
theorem fit_i {t k : Nat} (hz : zty t k = .int) (z : Int) : ∀ ty : FieldType, zty t k = ty → narrow ty (jI z) = jI z ∧ fits ty (jI z) = true := by
  intro ty h
  rw [← h, hz]
  exact ⟨rfl, rfl⟩
theorem fit_z {t k : Nat} (hz : zty t k = .boolean) {z : Int} (h01 : 0 ≤ z ∧ z ≤ 1) : ∀ ty : FieldType, zty t k = ty → narrow ty (jI z) = jI z ∧ fits ty (jI z) = true := by
  intro ty h
  rw [← h, hz]
  rcases b01 h01 with rfl | rfl <;> exact ⟨by decide, by decide⟩
theorem fit_l {t k : Nat} (hz : zty t k = .long) (z : Int) : ∀ ty : FieldType, zty t k = ty → narrow ty (jL z) = jL z ∧ fits ty (jL z) = true := by
  intro ty h
  rw [← h, hz]
  exact ⟨rfl, rfl⟩
theorem fit_r {t k : Nat} (hz : isObj (zty t k) = true) (z : Int) : ∀ ty : FieldType, zty t k = ty → narrow ty (jR X z) = jR X z ∧ fits ty (jR X z) = true := by
  intro ty h
  rw [← h]
  cases hc : zty t k with
  | object C => rcases jR_or X z with e | ⟨x, e⟩ <;> rw [e] <;> exact ⟨rfl, rfl⟩
  | _ => rw [hc] at hz; cases hz
/-! arrays that an object owns -/
theorem z_arr (hw : Wc X σ s.heap H locs) (ht : tg σ a = (t : Int)) (h0 : 0 < t ∧ t ≤ 18) {κ : Nat} (hf : kf t k = 10 + κ) : SimA1 X σ H a t k κ (σ a k (-1)) := hw.1.2.1 a t k κ ⟨h0.1, h0.2, Or.inl ht⟩ hf (hw.1.2.2.1 a t k κ h0.1 h0.2 ht hf)
theorem z_ix {n j : Int} (h : 0 ≤ j ∧ j < n) (hn : n ≤ 100000) : ∀ L : Nat, (L : Int) = n → (¬ (Int32.ofInt j < 0 ∨ L ≤ (Int32.ofInt j).toNatClampNeg)) ∧ (Int32.ofInt j).toNatClampNeg = j.toNat ∧ j.toNat < L := by
  intro L hL
  have e1 : (Int32.ofInt j).toNatClampNeg = j.toNat := Int32.toNatClampNeg_ofInt_of_le (by omega) (by omega)
  have e2 : (Int32.ofInt j).toInt = j := rng_ofInt ⟨by omega, by omega⟩
  refine ⟨?_, e1, by omega⟩
  rintro (h1 | h1)
  · rw [Int32.lt_iff_toInt_lt, e2] at h1
    have : (0 : Int32).toInt = 0 := rfl
    omega
  · omega
theorem z_iald (K : MCx X p s m args meth c cc nL own ret) (hw : Wc X σ s.heap H locs) (ht : tg σ a = (t : Int)) (h0 : 0 < t ∧ t ≤ 18) (hf : kf t k = 11) {n j : Int} (hn : (kl t k : Int) = n) (hj : 0 ≤ j ∧ j < n) (hb : n ≤ 100000) (hd : decode cc pc = .ok (.iaload, 1))
    (kk : W p l e R s m args below meth c H locs cells slots Q (F0 m (pc + 1) ls (jI (σ a k j) :: rest))) : W p l e R s m args below meth c H locs cells slots Q (F0 m pc ls (jI j :: jR X (σ a k (-1)) :: rest)) := by
  obtain ⟨p1, p2, p3, p4, p5, p6⟩ := z_arr hw ht h0 (κ := 1) hf
  obtain ⟨i1, i2, i3⟩ := z_ix hj hb _ hn
  rw [jR_ref p1]
  refine W.iald K.x K.b p5 ((K.env.1.2 1 _ rfl).1 _ _) (fun q => by cases q) (by rw [arrV_size]; exact i1) (v := jI (σ a k j)) ?_ rfl rfl hd kk
  rw [i2, arrV_read _ _ i3]
  show some (jI (σ a k (j.toNat : Int))) = _
  rw [Int.toNat_of_nonneg hj.1]
theorem z_bald (K : MCx X p s m args meth c cc nL own ret) (hw : Wc X σ s.heap H locs) (ht : tg σ a = (t : Int)) (h0 : 0 < t ∧ t ≤ 18) (hf : kf t k = 10) {n j : Int} (hn : (kl t k : Int) = n) (hj : 0 ≤ j ∧ j < n) (hb : n ≤ 100000) (hd : decode cc pc = .ok (.baload, 1))
    (kk : W p l e R s m args below meth c H locs cells slots Q (F0 m (pc + 1) ls (jI (σ a k j) :: rest))) : W p l e R s m args below meth c H locs cells slots Q (F0 m pc ls (jI j :: jR X (σ a k (-1)) :: rest)) := by
  obtain ⟨p1, p2, p3, p4, p5, p6⟩ := z_arr hw ht h0 (κ := 0) hf
  obtain ⟨i1, i2, i3⟩ := z_ix hj hb _ hn
  rw [jR_ref p1]
  refine W.bald K.x K.b p5 ((K.env.1.2 0 _ rfl).1 _ _) (fun q => by cases q) (by rw [arrV_size]; exact i1) (v := jI (σ a k j)) ?_ rfl rfl hd kk
  rw [i2, arrV_read _ _ i3]
  show some (jI (σ a k (j.toNat : Int))) = _
  rw [Int.toNat_of_nonneg hj.1]
theorem z_zald (K : MCx X p s m args meth c cc nL own ret) (hw : Wc X σ s.heap H locs) (ht : tg σ a = (t : Int)) (h0 : 0 < t ∧ t ≤ 18) (hf : kf t k = 13) {n j : Int} (hn : (kl t k : Int) = n) (hj : 0 ≤ j ∧ j < n) (hb : n ≤ 100000) (hd : decode cc pc = .ok (.baload, 1))
    (kk : W p l e R s m args below meth c H locs cells slots Q (F0 m (pc + 1) ls (jI (σ a k j) :: rest))) : W p l e R s m args below meth c H locs cells slots Q (F0 m pc ls (jI j :: jR X (σ a k (-1)) :: rest)) := by
  obtain ⟨p1, p2, p3, p4, p5, p6⟩ := z_arr hw ht h0 (κ := 3) hf
  obtain ⟨i1, i2, i3⟩ := z_ix hj hb _ hn
  rw [jR_ref p1]
  refine W.zald K.x K.b p5 ((K.env.1.2 3 _ rfl).1 _ _) (fun q => by cases q) (by rw [arrV_size]; exact i1) (v := jI (σ a k j)) ?_ rfl rfl hd kk
  rw [i2, arrV_read _ _ i3]
  show some (jI (σ a k (j.toNat : Int))) = _
  rw [Int.toNat_of_nonneg hj.1]
theorem z_lald (K : MCx X p s m args meth c cc nL own ret) (hw : Wc X σ s.heap H locs) (ht : tg σ a = (t : Int)) (h0 : 0 < t ∧ t ≤ 18) (hf : kf t k = 12) {n j : Int} (hn : (kl t k : Int) = n) (hj : 0 ≤ j ∧ j < n) (hb : n ≤ 100000) (hd : decode cc pc = .ok (.laload, 1))
    (kk : W p l e R s m args below meth c H locs cells slots Q (F0 m (pc + 1) ls (jL (σ a k j) :: rest))) : W p l e R s m args below meth c H locs cells slots Q (F0 m pc ls (jI j :: jR X (σ a k (-1)) :: rest)) := by
  obtain ⟨p1, p2, p3, p4, p5, p6⟩ := z_arr hw ht h0 (κ := 2) hf
  obtain ⟨i1, i2, i3⟩ := z_ix hj hb _ hn
  rw [jR_ref p1]
  refine W.lald K.x K.b p5 ((K.env.1.2 2 _ rfl).1 _ _) (fun q => by cases q) (by rw [arrV_size]; exact i1) (v := jL (σ a k j)) ?_ rfl rfl hd kk
  rw [i2, arrV_read _ _ i3]
  show some (jL (σ a k (j.toNat : Int))) = _
  rw [Int.toNat_of_nonneg hj.1]
theorem ztys_at (X : Cxt) : ∀ κ, κ < 10 → ∃ ty, (ztys X)[κ]? = some (cA X κ, ty) ∧ (4 ≤ κ → ty.isReference = true) := by
  intro κ h
  match κ, h with
  | 0, _ => exact ⟨_, rfl, fun h => absurd h (by decide)⟩
  | 1, _ => exact ⟨_, rfl, fun h => absurd h (by decide)⟩
  | 2, _ => exact ⟨_, rfl, fun h => absurd h (by decide)⟩
  | 3, _ => exact ⟨_, rfl, fun h => absurd h (by decide)⟩
  | 4, _ => exact ⟨_, rfl, fun _ => rfl⟩
  | 5, _ => exact ⟨_, rfl, fun _ => rfl⟩
  | 6, _ => exact ⟨_, rfl, fun _ => rfl⟩
  | 7, _ => exact ⟨_, rfl, fun _ => rfl⟩
  | 8, _ => exact ⟨_, rfl, fun _ => rfl⟩
  | 9, _ => exact ⟨_, rfl, fun _ => rfl⟩
  | κ + 10, h => omega
theorem zel_r {κ : Nat} (h : 4 ≤ κ) (z : Int) : zel X κ z = jR X z := by
  match κ, h with
  | κ + 4, _ => rfl
theorem z_aald (K : MCx X p s m args meth c cc nL own ret) (hw : Wc X σ s.heap H locs) (ht : tg σ a = (t : Int)) (h0 : 0 < t ∧ t ≤ 18) {κ : Nat} (hf : kf t k = 10 + κ) (h4 : 4 ≤ κ ∧ κ < 10) {n j : Int} (hn : (kl t k : Int) = n) (hj : 0 ≤ j ∧ j < n) (hb : n ≤ 100000) (hd : decode cc pc = .ok (.aaload, 1))
    (kk : W p l e R s m args below meth c H locs cells slots Q (F0 m (pc + 1) ls (jR X (σ a k j) :: rest))) : W p l e R s m args below meth c H locs cells slots Q (F0 m pc ls (jI j :: jR X (σ a k (-1)) :: rest)) := by
  obtain ⟨p1, p2, p3, p4, p5, p6⟩ := z_arr hw ht h0 hf
  obtain ⟨i1, i2, i3⟩ := z_ix hj hb _ hn
  obtain ⟨ty, hty, hr⟩ := ztys_at X κ h4.2
  rw [jR_ref p1]
  refine W.aald K.x K.b p5 ((K.env.1.2 κ _ hty).1 _ _) (hr h4.1) (fun q => by cases q) (by rw [arrV_size]; exact i1) (v := jR X (σ a k j)) ?_ rfl rfl hd kk
  rw [i2, arrV_read _ _ i3, zel_r h4.1, Int.toNat_of_nonneg hj.1]
theorem z_alen (K : MCx X p s m args meth c cc nL own ret) (hw : Wc X σ s.heap H locs) (ht : tg σ a = (t : Int)) (h0 : 0 < t ∧ t ≤ 18) {κ : Nat} (hf : kf t k = 10 + κ) (hκ : κ < 10) {n : Int} (hn : (kl t k : Int) = n) (hd : decode cc pc = .ok (.arraylength, 1))
    (kk : W p l e R s m args below meth c H locs cells slots Q (F0 m (pc + 1) ls (jI n :: rest))) : W p l e R s m args below meth c H locs cells slots Q (F0 m pc ls (jR X (σ a k (-1)) :: rest)) := by
  obtain ⟨p1, p2, p3, p4, p5, p6⟩ := z_arr hw ht h0 hf
  obtain ⟨ty, hty, -⟩ := ztys_at X κ hκ
  rw [jR_ref p1]
  refine W.alen K.x K.b p5 ((K.env.1.2 κ _ hty).1 _ _) ?_ rfl rfl hd kk
  rw [arrV_size, ← hn]
  rfl
/-- what an array's element may be: a reference as the field wants it -/
theorem z_el (hw : Wc X σ s.heap H locs) (ht : tg σ a = (t : Int)) (h0 : 0 < t ∧ t ≤ 18) {κ : Nat} (hf : kf t k = 10 + κ) (h4 : 4 ≤ κ) {r : Nat} (hr : kt t k = r) {n j : Int} (hn : (kl t k : Int) = n) (hj : 0 ≤ j ∧ j < n) : σ a k j = -1 ∨ okR σ r (σ a k j) := by
  have := (hw.1.2.2.2.2.1 a t k h0.1 h0.2 ht).2 κ hf h4 j hj.1 (by omega)
  rw [hr] at this
  exact this
theorem z_elI (hw : Wc X σ s.heap H locs) (ht : tg σ a = (t : Int)) (h0 : 0 < t ∧ t ≤ 18) (hf : kf t k = 11) {n j : Int} (hn : (kl t k : Int) = n) (hj : 0 ≤ j ∧ j < n) : rng (σ a k j) := (z_arr hw ht h0 (κ := 1) hf).2.2.2.2.2 j hj.1 (by omega)
theorem z_elB (hw : Wc X σ s.heap H locs) (ht : tg σ a = (t : Int)) (h0 : 0 < t ∧ t ≤ 18) (hf : kf t k = 10) {n j : Int} (hn : (kl t k : Int) = n) (hj : 0 ≤ j ∧ j < n) : -128 ≤ σ a k j ∧ σ a k j ≤ 127 := (z_arr hw ht h0 (κ := 0) hf).2.2.2.2.2 j hj.1 (by omega)
theorem z_elZ (hw : Wc X σ s.heap H locs) (ht : tg σ a = (t : Int)) (h0 : 0 < t ∧ t ≤ 18) (hf : kf t k = 13) {n j : Int} (hn : (kl t k : Int) = n) (hj : 0 ≤ j ∧ j < n) : 0 ≤ σ a k j ∧ σ a k j ≤ 1 := (z_arr hw ht h0 (κ := 3) hf).2.2.2.2.2 j hj.1 (by omega)
theorem z_elL (hw : Wc X σ s.heap H locs) (ht : tg σ a = (t : Int)) (h0 : 0 < t ∧ t ≤ 18) (hf : kf t k = 12) {n j : Int} (hn : (kl t k : Int) = n) (hj : 0 ≤ j ∧ j < n) : rngL (σ a k j) := (z_arr hw ht h0 (κ := 2) hf).2.2.2.2.2 j hj.1 (by omega)
/-- an owned array's element is written: the core -/
theorem z_aput (hw : Wc X σ s.heap H locs) (ht : tg σ a = (t : Int)) (h0 : 0 < t ∧ t ≤ 18) {κ : Nat} (hf : kf t k = 10 + κ) {n j v : Int} (hn : (kl t k : Int) = n) (hj : 0 ≤ j ∧ j < n) (hv : zok κ v) (hr : 4 ≤ κ → v = -1 ∨ okR σ (kt t k) v) {H1 : Heap} {q : Nat}
    (e1 : H1[cb X + (σ a k (-1)).toNat]? = some ((arrV (cA X κ) (kl t k) (fun j => zel X κ (σ a k (j : Int)))).setSlot j.toNat (zel X κ v))) (e2 : H1.size = H.size) (e3 : ∀ r : Nat, r ≠ cb X + (σ a k (-1)).toNat → H1[r]? = H[r]?) : Wc X (st σ a k j v) s.heap H1 (locs ++ [⟨cb X + (σ a k (-1)).toNat, q⟩]) := by
  have ho : Ob σ a t := ⟨h0.1, h0.2, Or.inl ht⟩
  have hp := hw.1.2.2.1 a t k κ h0.1 h0.2 ht hf
  obtain ⟨p1, p2, p3, p4, p5, p6⟩ := z_arr hw ht h0 hf
  have hat : ∀ i : Int, st σ a k j v a k i = if i = j then v else σ a k i := by
    intro i
    by_cases h : i = j
    · rw [if_pos h, h, st_eq]
    · rw [if_neg h, st_ne (by omega)]
  refine ⟨sim_aput hw.1 ho hf hp (off_st σ a k j v) (by rw [hat, if_neg (by omega)]) ?_ e2 e3 ?_ ?_, hw.2.put e2 e3 (Nat.le_add_right _ _)⟩
  · rw [e1, arrV_store]
    congr 2
    funext i
    rw [hat]
    unfold updV
    by_cases h : i = j.toNat
    · rw [if_pos h, if_pos (by omega)]
    · rw [if_neg h, if_neg (by omega)]
  · intro i hi hi2
    rw [hat]
    split
    · exact hv
    · exact p6 i hi hi2
  · intro h4 _ i hi hi2
    rw [hat]
    split
    · exact hr h4
    · exact (hw.1.2.2.2.2.1 a t k h0.1 h0.2 ht).2 κ hf h4 i hi hi2
theorem z_iast (K : MCx X p s m args meth c cc nL own ret) (hw : Wc X σ s.heap H locs) (ht : tg σ a = (t : Int)) (h0 : 0 < t ∧ t ≤ 18) (hf : kf t k = 11) {n j v : Int} (hn : (kl t k : Int) = n) (hj : 0 ≤ j ∧ j < n) (hb : n ≤ 100000) (hv : rng v) (hd : decode cc pc = .ok (.iastore, 1))
    (kk : ∀ (H1 : Heap) (locs1 : List Loc), Wc X (st σ a k j v) s.heap H1 locs1 → W p l e R s m args below meth c H1 locs1 cells slots Q (F0 m (pc + 1) ls rest)) : W p l e R s m args below meth c H locs cells slots Q (F0 m pc ls (jI v :: jI j :: jR X (σ a k (-1)) :: rest)) := by
  obtain ⟨p1, p2, p3, p4, p5, p6⟩ := z_arr hw ht h0 (κ := 1) hf
  obtain ⟨i1, i2, i3⟩ := z_ix hj hb _ hn
  rw [jR_ref p1]
  refine W.iast K.x K.b p5 ((K.env.1.2 1 _ rfl).1 _ _) (fun q => by cases q) (by rw [arrV_size]; exact i1) rfl rfl hd fun H1 e1 e2 e3 => ?_
  rw [i2] at e1
  exact kk H1 _ (z_aput hw ht h0 (κ := 1) hf hn hj hv (fun h => absurd h (by decide)) e1 e2 e3)
theorem z_last (K : MCx X p s m args meth c cc nL own ret) (hw : Wc X σ s.heap H locs) (ht : tg σ a = (t : Int)) (h0 : 0 < t ∧ t ≤ 18) (hf : kf t k = 12) {n j v : Int} (hn : (kl t k : Int) = n) (hj : 0 ≤ j ∧ j < n) (hb : n ≤ 100000) (hv : rngL v) (hd : decode cc pc = .ok (.lastore, 1))
    (kk : ∀ (H1 : Heap) (locs1 : List Loc), Wc X (st σ a k j v) s.heap H1 locs1 → W p l e R s m args below meth c H1 locs1 cells slots Q (F0 m (pc + 1) ls rest)) : W p l e R s m args below meth c H locs cells slots Q (F0 m pc ls (jL v :: jI j :: jR X (σ a k (-1)) :: rest)) := by
  obtain ⟨p1, p2, p3, p4, p5, p6⟩ := z_arr hw ht h0 (κ := 2) hf
  obtain ⟨i1, i2, i3⟩ := z_ix hj hb _ hn
  rw [jR_ref p1]
  refine W.last K.x K.b p5 ((K.env.1.2 2 _ rfl).1 _ _) (fun q => by cases q) (by rw [arrV_size]; exact i1) rfl rfl hd fun H1 e1 e2 e3 => ?_
  rw [i2] at e1
  exact kk H1 _ (z_aput hw ht h0 (κ := 2) hf hn hj hv (fun h => absurd h (by decide)) e1 e2 e3)
theorem nar_b {v : Int} (h : -128 ≤ v ∧ v ≤ 127) : narrow .byte (jI v) = jI v := by
  have e : (Int32.ofInt v).toInt8.toInt32 = Int32.ofInt v := by
    apply Int32.toInt_inj.mp
    rw [Int32.toInt8_ofInt, Int8.toInt_toInt32, rng_ofInt ⟨by omega, by omega⟩]
    exact Int8.toInt_ofInt_of_le (by omega) (by omega)
  show Value.int _ = _
  rw [e]
theorem nar_z {v : Int} (h : 0 ≤ v ∧ v ≤ 1) : narrow .boolean (jI v) = jI v := by
  rcases b01 h with rfl | rfl <;> decide
theorem z_bast (K : MCx X p s m args meth c cc nL own ret) (hw : Wc X σ s.heap H locs) (ht : tg σ a = (t : Int)) (h0 : 0 < t ∧ t ≤ 18) (hf : kf t k = 10) {n j v : Int} (hn : (kl t k : Int) = n) (hj : 0 ≤ j ∧ j < n) (hb : n ≤ 100000) (hv : -128 ≤ v ∧ v ≤ 127) (hd : decode cc pc = .ok (.bastore, 1))
    (kk : ∀ (H1 : Heap) (locs1 : List Loc), Wc X (st σ a k j v) s.heap H1 locs1 → W p l e R s m args below meth c H1 locs1 cells slots Q (F0 m (pc + 1) ls rest)) : W p l e R s m args below meth c H locs cells slots Q (F0 m pc ls (jI v :: jI j :: jR X (σ a k (-1)) :: rest)) := by
  obtain ⟨p1, p2, p3, p4, p5, p6⟩ := z_arr hw ht h0 (κ := 0) hf
  obtain ⟨i1, i2, i3⟩ := z_ix hj hb _ hn
  rw [jR_ref p1]
  refine W.bast K.x K.b p5 ((K.env.1.2 0 _ rfl).1 _ _) (fun q => by cases q) (by rw [arrV_size]; exact i1) rfl rfl hd fun H1 e1 e2 e3 => ?_
  rw [i2, nar_b hv] at e1
  exact kk H1 _ (z_aput hw ht h0 (κ := 0) hf hn hj hv (fun h => absurd h (by decide)) e1 e2 e3)
theorem z_zast (K : MCx X p s m args meth c cc nL own ret) (hw : Wc X σ s.heap H locs) (ht : tg σ a = (t : Int)) (h0 : 0 < t ∧ t ≤ 18) (hf : kf t k = 13) {n j v : Int} (hn : (kl t k : Int) = n) (hj : 0 ≤ j ∧ j < n) (hb : n ≤ 100000) (hv : 0 ≤ v ∧ v ≤ 1) (hd : decode cc pc = .ok (.bastore, 1))
    (kk : ∀ (H1 : Heap) (locs1 : List Loc), Wc X (st σ a k j v) s.heap H1 locs1 → W p l e R s m args below meth c H1 locs1 cells slots Q (F0 m (pc + 1) ls rest)) : W p l e R s m args below meth c H locs cells slots Q (F0 m pc ls (jI v :: jI j :: jR X (σ a k (-1)) :: rest)) := by
  obtain ⟨p1, p2, p3, p4, p5, p6⟩ := z_arr hw ht h0 (κ := 3) hf
  obtain ⟨i1, i2, i3⟩ := z_ix hj hb _ hn
  rw [jR_ref p1]
  refine W.zast K.x K.b p5 ((K.env.1.2 3 _ rfl).1 _ _) (fun q => by cases q) (by rw [arrV_size]; exact i1) rfl rfl hd fun H1 e1 e2 e3 => ?_
  rw [i2, nar_z hv] at e1
  exact kk H1 _ (z_aput hw ht h0 (κ := 3) hf hn hj hv (fun h => absurd h (by decide)) e1 e2 e3)
end ZC
