/-! ROWS: objects and arrays are made -/
set_option maxRecDepth 100000
/-- all that was there is as it was -/
def Ke (σ σ' : St) : Prop := ∀ a, tg σ a ≠ 0 → σ' a = σ a
/-- ... but for one -/
def Ki (p : Int) (σ σ' : St) : Prop := ∀ a, tg σ a ≠ 0 → a ≠ p → σ' a = σ a
theorem ke_ki {p : Int} {σ σ' : St} (h : Ke σ σ') : Ki p σ σ' := fun a h1 _ => h a h1
theorem ki_rf {p : Int} (σ : St) : Ki p σ σ := fun _ _ _ => rfl
theorem ke_tg {σ σ' : St} {x t : Int} (h : Ke σ σ') (ht : tg σ x = t) (h0 : t ≠ 0) : tg σ' x = t := by
  show σ' x 99 0 = t
  rw [h x (by rw [ht]; exact h0)]
  exact ht
theorem ke_ptr {σ σ' : St} {x t : Int} {k : Nat} (h : Ke σ σ') (ht : tg σ x = t) (h0 : t ≠ 0) : σ x k (-1) = σ' x k (-1) := by rw [h x (by rw [ht]; exact h0)]
theorem ke_okR {σ σ' : St} {r : Nat} {z : Int} (h : Ke σ σ') (ho : okR σ r z) (hr : r ≤ 18 ∨ r = 100) : okR σ' r z := okR_mono hr (fun a h1 _ => by show σ' a 99 0 = _; rw [h a (by omega)]; rfl) ho
theorem ki_tg {σ σ' : St} {p x t tp : Int} (h : Ki p σ σ') (ht : tg σ x = t) (h0 : t ≠ 0) (hp : tg σ p = tp) (hne : t ≠ tp) : tg σ' x = t := by
  show σ' x 99 0 = t
  rw [h x (by rw [ht]; exact h0) (fun e => hne (by rw [← ht, e, hp]))]
  exact ht
theorem ki_ptr {σ σ' : St} {p x t tp : Int} {k : Nat} (h : Ki p σ σ') (ht : tg σ x = t) (h0 : t ≠ 0) (hp : tg σ p = tp) (hne : t ≠ tp) : σ x k (-1) = σ' x k (-1) := by rw [h x (by rw [ht]; exact h0) (fun e => hne (by rw [← ht, e, hp]))]
theorem ki_okR {σ σ' : St} {r : Nat} {p z tp : Int} (h : Ki p σ σ') (ho : okR σ r z) (hr : r ≤ 18 ∨ r = 100) (hp : tg σ p = tp) (hn : tp ≤ 0 ∨ 18 < tp) : okR σ' r z := okR_mono hr (fun a h1 h2 => by show σ' a 99 0 = _; rw [h a (by omega) (fun e => by rw [e, hp] at h1 h2; omega)]; rfl) ho
theorem ki_ke {p : Int} {σ σ' σ'' : St} (h1 : Ki p σ σ') (h2 : Ke σ' σ'') : Ki p σ σ'' := fun a ha hp => by
  have e := h1 a ha hp
  rw [h2 a (by show σ' a 99 0 ≠ 0; rw [e]; exact ha), e]
theorem ki_ki {p q : Int} {σ σ' σ'' : St} (h1 : Ki p σ σ') (h2 : Ki q σ' σ'') (hq : tg σ q = 0) : Ki p σ σ'' := fun a ha hp => by
  have e := h1 a ha hp
  rw [h2 a (by show σ' a 99 0 ≠ 0; rw [e]; exact ha) (fun e => by rw [e] at ha; exact ha hq), e]
theorem ki_same {p : Int} {σ σ' σ'' : St} (h1 : Ki p σ σ') (h2 : Ki p σ' σ'') : Ki p σ σ'' := fun a ha hp => by
  have e := h1 a ha hp
  rw [h2 a (by show σ' a 99 0 ≠ 0; rw [e]; exact ha) hp, e]
theorem ki_e {p : Int} {σ σ' : St} {f : Nat} {j v : Int} (e : σ' = st σ p f j v) : Ki p σ σ' := fun a _ hp => by
  rw [e]
  funext f' j'
  exact st_ne (fun q => hp q.1)
theorem kp_ke {ws : List (Int × Nat)} {σ σ' σ'' : St} (hk : Kp ws σ σ') (hw : wsOk ws = true) (h : Ke σ' σ'') : Kp ws σ σ'' := by
  refine ⟨fun a f h0 hn => ?_, fun a f h0 => ?_⟩
  · have e := kp_tg hk hw (a := a) rfl h0
    rw [h a (by rw [e]; exact h0)]
    exact hk.1 a f h0 hn
  · have e := kp_tg hk hw (a := a) rfl (by omega)
    rw [h a (by rw [e]; omega)]
    exact hk.2 a f h0
theorem kp_ki {ws : List (Int × Nat)} {σ σ' σ'' : St} {p : Int} (hk : Kp ws σ σ') (hw : wsOk ws = true) (h : Ki p σ' σ'') (hp : tg σ p = 0) : Kp ws σ σ'' := by
  refine ⟨fun a f h0 hn => ?_, fun a f h0 => ?_⟩
  · have e := kp_tg hk hw (a := a) rfl h0
    rw [h a (by rw [e]; exact h0) (fun q => by rw [q] at h0; exact h0 hp)]
    exact hk.1 a f h0 hn
  · have e := kp_tg hk hw (a := a) rfl (by omega)
    rw [h a (by rw [e]; omega) (fun q => by rw [q] at h0; omega)]
    exact hk.2 a f h0
theorem z0_kp {ws : List (Int × Nat)} {σ σ' : St} {p : Int} (hk : Kp ws σ σ') (hw : wsOk ws = true) (hp : tg σ' p = 0) : tg σ p = 0 := Classical.byContradiction fun h => h (by rw [← kp_tg hk hw (a := p) rfl h]; exact hp)
theorem z0_ki {σ σ' : St} {a0 p : Int} (hk : Ki a0 σ σ') (ha : tg σ' a0 ≠ 0) (hp : tg σ' p = 0) : tg σ p = 0 := Classical.byContradiction fun h => by
  have e := hk p h (fun e => ha (by rw [← e]; exact hp))
  have : tg σ' p = tg σ p := by show σ' p 99 0 = _; rw [e]; rfl
  omega
theorem ke_nw {X : Cxt} {σ σ1 : St} {H0 H : Heap} {locs : List Loc} {t : Nat} (hw : Wc X σ H0 H locs) (e : σ1 = nw σ t) : Ke σ σ1 := fun a ha => by rw [e]; exact nw_old (fun e => ha (by rw [e]; exact hw.1.fresh)) (fun e => ha (by rw [e]; exact hw.1.neg1))
theorem ke_na {X : Cxt} {σ σ1 : St} {H0 H : Heap} {locs : List Loc} {κ : Nat} {n : Int} (hw : Wc X σ H0 H locs) (e : σ1 = na σ κ n) : Ke σ σ1 := fun a ha => by rw [e]; exact na_old (fun e => ha (by rw [e]; exact hw.1.fresh)) (fun e => ha (by rw [e]; exact hw.1.neg1))
theorem tg_nw {σ σ1 : St} {t : Nat} (e : σ1 = nw σ t) : tg σ1 (nx σ) = -(t : Int) := by rw [e]; exact nw_tg
theorem tg_na {σ σ1 : St} {κ : Nat} {n : Int} (e : σ1 = na σ κ n) : tg σ1 (nx σ) = 60 + (κ : Int) := by rw [e]; exact na_tg
theorem len_na {σ σ1 : St} {κ : Nat} {n : Int} (e : σ1 = na σ κ n) : σ1 (nx σ) 1 0 = n := by
  rw [e]
  unfold na
  rw [if_pos rfl, if_neg (by omega), if_pos ⟨rfl, rfl⟩]
theorem ki_att {σ σ1 : St} {a p : Int} {k : Nat} (e : σ1 = att σ a k p) : ∀ x, x ≠ a → x ≠ p → σ1 x = σ x := fun x h1 h2 => by rw [e]; exact att_off h1 h2
theorem ki_att2 {σ0 σ σ1 : St} {a p : Int} {k : Nat} (h : Ki a σ0 σ) (hp : tg σ0 p = 0) (e : σ1 = att σ a k p) : Ki a σ0 σ1 := fun x hx hxa => by rw [ki_att e x hxa (fun q => by rw [q] at hx; exact hx hp)]; exact h x hx hxa
theorem tg_att {σ σ1 : St} {a p x t tp : Int} {k : Nat} (e : σ1 = att σ a k p) (hk : k ≠ 99) (ht : tg σ x = t) (hp : tg σ p = tp) (hne : t ≠ tp) : tg σ1 x = t := by rw [e, att_tgo hk (fun q => hne (by rw [← ht, q, hp]))]; exact ht
theorem okR_att {σ σ1 : St} {a p z tp : Int} {k r : Nat} (e : σ1 = att σ a k p) (hk : k ≠ 99) (hp : tg σ p = tp) (hn : tp ≤ 0 ∨ 18 < tp) (hr : r ≤ 18 ∨ r = 100) (ho : okR σ r z) : okR σ1 r z := by
  rw [e]
  exact okR_mono hr (fun x h1 h2 => att_tgo hk (fun q => by rw [q, hp] at h1 h2; omega)) ho
/-- the store is made whole at some places -/
theorem ki_seal {σ0 σ σ1 : St} {a : Int} {L : List Int} (h : Ki a σ0 σ) (e : σ1 = sealz σ L) (hL : ∀ x ∈ L, x = a ∨ tg σ0 x = 0) : Ki a σ0 σ1 := fun x hx hxa => by
  rw [e]
  have : sealz σ L x = σ x := by
    funext f j
    unfold sealz
    rw [if_neg (fun q => (hL x q.2.2).elim (fun h1 => hxa h1) (fun h1 => hx h1))]
  rw [this]
  exact h x hx hxa
theorem zty_def : ∀ t, t < 18 → ∀ k, k < 58 → (kf (t + 1) k = 0 → defaultValue (zty (t + 1) k) = .int 0) ∧ (kf (t + 1) k = 1 → defaultValue (zty (t + 1) k) = .int 0) ∧ (kf (t + 1) k = 2 → defaultValue (zty (t + 1) k) = .long 0) ∧ (kf (t + 1) k = 3 → defaultValue (zty (t + 1) k) = .null) ∧ (5 ≤ kf (t + 1) k → defaultValue (zty (t + 1) k) = .null) := by decide +kernel
theorem kf_in : ∀ t, t < 18 → ∀ q, zcl[t]? = some q → ∀ k, k < q.2.2 → k < 58 ∧ (kf (t + 1) k ≤ 3 ∨ 5 ≤ kf (t + 1) k) := by
  have key : ∀ t, t < 18 → ∀ k, k < ((zcl[t]?).map (fun q => q.2.2)).getD 0 → k < 58 ∧ (kf (t + 1) k ≤ 3 ∨ 5 ≤ kf (t + 1) k) := by decide +kernel
  intro t ht q hq k hk
  exact key t ht k (by rw [hq]; exact hk)
theorem zval_q {X : Cxt} {σ : St} {t k : Nat} {a : Int} (h : 5 ≤ kf t k) : zval X σ a t k = jR X (σ a k (-1)) := by
  unfold zval
  obtain ⟨n, hn⟩ : ∃ n, kf t k = n + 5 := ⟨kf t k - 5, by omega⟩
  rw [hn]
  rfl
section ZA
variable {X : Cxt} {p : Program} {l : Launch} {e : Env} {R : Room} {s : State} {m : MethodId} {args : Array Value} {below : List Frame} {meth : Method} {c : Code} {H : Heap} {locs : List Loc} {cells slots : Nat} {Q : State → Prop}
variable {cc : ByteArray} {nL : Nat} {own : String} {ret : Option FieldType} {pc : Nat} {ls : Array Slot} {rest : List Value} {σ : St} {a : Int} {t k : Nat} {C : String} {T : u_T} {N : Nat} {ref host : String} {index : Nat}
theorem z_hz (K : MCx X p s m args meth c cc nL own ret) (hw : Wc X σ s.heap H locs) : H.size = cb X + (nx σ).toNat ∧ 0 ≤ nx σ := by
  have h1 := hw.1.2.2.2.2.2.2.1
  have h2 := hw.1.2.2.2.2.2.2.2.1
  omega
theorem z_S1 (hw : Wc X σ s.heap H locs) {H1 : Heap} (z1 : H1.size = H.size + 1) (o1 : ∀ q, q < H.size → H1[q]? = H[q]?) : va_S (zA X) s.heap H1 locs := ⟨Nat.le_trans hw.2.1 (by omega), fun x h1 h2 => (o1 x (Nat.lt_of_lt_of_le h1 hw.2.1)).trans (hw.2.2.1 x h1 h2), hw.2.2.2⟩
theorem z_new {N' : Nat} (K : MCx X p s m args meth c cc nL own ret) (hw : Wc X σ s.heap H locs) (h0 : 0 < t ∧ t ≤ 18) (hq : zcl[t - 1]? = some (C, T, N)) (q1 : Cond.classLink own index C ∈ lw_all) (q2 : Cond.instantiable C N' ∈ lw_all) (q3 : Cond.initialized C ∈ lw_all) (hc : cells + 1 ≤ R.cells ∧ slots + N' ≤ R.slots) (hd : decode cc pc = .ok (.new index, 3))
    (kk : ∀ H1 : Heap, Wc X (nw σ t) s.heap H1 locs → W p l e R s m args below meth c H1 locs (cells + 1) (slots + N') Q (F0 m (pc + 3) ls (jR X (nx σ) :: rest))) : W p l e R s m args below meth c H locs cells slots Q (F0 m pc ls rest) := by
  obtain ⟨hz, hn0⟩ := z_hz K hw
  have hKn := K.env.1.1 (t - 1) _ hq
  obtain ⟨hin, hty, -⟩ := zcls _ _ hq
  refine W.newcK K.x K.b K.o (K.ts _ q1) (K.ts _ q2) (K.ts _ q3) rfl hd hc.1 hc.2 hKn.2.1 rfl fun H1 kC hkC e1 z1 o1 => ?_
  rw [hz] at e1 ⊢
  rw [← jR_ref (X := X) hn0]
  refine kk H1 ⟨sim_nw hw.1 h0 hq z1 o1 ?_, z_S1 hw z1 o1⟩
  refine (u_born (fun k => zty (t - 1 + 1) k) K.ts hin hKn hkC e1 hty).to fun j hj => ?_
  obtain ⟨h58, hk⟩ := kf_in (t - 1) (by omega) _ hq j hj
  obtain ⟨d0, d1, d2, d3, d4⟩ := zty_def (t - 1) (by omega) j h58
  rw [show t - 1 + 1 = t by omega] at hk d0 d1 d2 d3 d4 ⊢
  have hv := fun i => nw_v (σ := σ) (t := t) (f := j) (j := i) (by omega)
  show defaultValue (zty t j) = zval X (nw σ t) (nx σ) t j
  rcases hk with hk | hk
  · rcases (show kf t j = 0 ∨ kf t j = 1 ∨ kf t j = 2 ∨ kf t j = 3 by omega) with h | h | h | h
    · rw [zval_i h, d0 h, hv, if_neg (by omega)]; rfl
    · rw [zval_z h, d1 h, hv, if_neg (by omega)]; rfl
    · rw [zval_l h, d2 h, hv, if_neg (by omega)]; rfl
    · rw [zval_r h, d3 h, hv, if_pos (Or.inl ⟨h, rfl⟩)]; rfl
  · rw [zval_q hk, d4 hk, hv, if_pos (Or.inr ⟨hk, rfl⟩)]; rfl
theorem n_ix {n : Int} (h : 0 ≤ n ∧ n ≤ 100000) : (¬ Int32.ofInt n < 0) ∧ (Int32.ofInt n).toNatClampNeg = n.toNat := by
  have e1 : (Int32.ofInt n).toNatClampNeg = n.toNat := Int32.toNatClampNeg_ofInt_of_le (by omega) (by omega)
  have e2 : (Int32.ofInt n).toInt = n := rng_ofInt ⟨by omega, by omega⟩
  refine ⟨fun h1 => ?_, e1⟩
  rw [Int32.lt_iff_toInt_lt, e2] at h1
  have : (0 : Int32).toInt = 0 := rfl
  omega
theorem z_newa {atype : ArrayType} {κ : Nat} {n : Int} {N' : Nat} (K : MCx X p s m args meth c cc nL own ret) (hw : Wc X σ s.heap H locs) (hκ : κ < 4) (hty : (ztys X)[κ]? = some (cA X κ, newarray.typeOf atype)) (hdv : ∀ X : Cxt, zel X κ 0 = defaultValue (newarray.typeOf atype)) (q1 : Cond.arrayClass (newarray.typeOf atype) ∈ lw_all) (hn : 0 ≤ n ∧ n ≤ 100000) (hN : n.toNat = N') (hb : N' * componentBytes (newarray.typeOf atype) ≤ 536870912) (hc : cells + 1 ≤ R.cells ∧ slots + N' ≤ R.slots) (hd : decode cc pc = .ok (.newarray atype, 2))
    (kk : ∀ H1 : Heap, Wc X (na σ κ n) s.heap H1 locs → W p l e R s m args below meth c H1 locs (cells + 1) (slots + N') Q (F0 m (pc + 2) ls (jR X (nx σ) :: rest))) : W p l e R s m args below meth c H locs cells slots Q (F0 m pc ls (jI n :: rest)) := by
  obtain ⟨hz, hn0⟩ := z_hz K hw
  obtain ⟨i1, i2⟩ := n_ix hn
  refine va_newaK K.x K.b (K.ts _ q1) rfl hd rfl i1 (i2.trans hN) hb hc.1 hc.2 rfl fun H1 cA' e1 z1 o1 hAr hNm => ?_
  have hra := (K.env.1.2 κ _ hty).2
  have hcc : cA' = cA X κ := by
    revert hra hNm
    cases atype <;> exact fun h1 h2 => Option.some.inj (h1.symm.trans h2)
  rw [hz] at e1 ⊢
  rw [← jR_ref (X := X) hn0]
  refine kk H1 ⟨sim_na hw.1 (by omega) hn.1 z1 o1 ?_, z_S1 hw z1 o1⟩
  rw [e1, hcc, hN, if_neg (by omega), hdv]
theorem z_anew {κ : Nat} {n : Int} {N' : Nat} (K : MCx X p s m args meth c cc nL own ret) (hw : Wc X σ s.heap H locs) (hκ : 4 ≤ κ ∧ κ < 10) (hty : (ztys X)[κ]? = some (cA X κ, .object C)) (q1 : Cond.classLink own index C ∈ lw_all) (q2 : Cond.arrayOver (.object C) ∈ lw_tbl) (hn : 0 ≤ n ∧ n ≤ 100000) (hN : n.toNat = N') (hc : cells + 1 ≤ R.cells ∧ slots + N' ≤ R.slots) (hd : decode cc pc = .ok (.anewarray index, 3))
    (kk : ∀ H1 : Heap, Wc X (na σ κ n) s.heap H1 locs → W p l e R s m args below meth c H1 locs (cells + 1) (slots + N') Q (F0 m (pc + 3) ls (jR X (nx σ) :: rest))) : W p l e R s m args below meth c H locs cells slots Q (F0 m pc ls (jI n :: rest)) := by
  obtain ⟨hz, hn0⟩ := z_hz K hw
  obtain ⟨i1, i2⟩ := n_ix hn
  refine W.anew K.x K.b K.o (K.ts _ q1) (K.nst (lw_n q2 rfl)) rfl hd rfl i1 (by rw [i2]; omega) hc.1 (by rw [i2, hN]; exact hc.2) fun cA' kA comp f1 f2 f3 f4 => ?_
  generalize hH1 : H.push ({ cls := cA', slots := Array.replicate (Int32.ofInt n).toNatClampNeg .null, vm := .none } : Cell) = H1
  have z1 : H1.size = H.size + 1 := by rw [← hH1, Array.size_push]
  have e1 : H1[H.size]? = some (arrV cA' (Int32.ofInt n).toNatClampNeg (fun _ => .null)) := by rw [← hH1, Array.getElem?_push_size, ← arrV_new]
  have o1 : ∀ q : Nat, q < H.size → H1[q]? = H[q]? := fun q hq => by rw [← hH1, Array.getElem?_push, if_neg (Nat.ne_of_lt hq)]
  obtain ⟨kA', comp', g1, g2, g3, g4⟩ := (K.env.1.2 κ _ hty).2
  have hcc : cA' = cA X κ := Option.some.inj (f1.symm.trans g4)
  rw [hz] at e1 ⊢
  rw [← jR_ref (X := X) hn0]
  rw [i2, hN]
  refine kk H1 ⟨sim_na hw.1 (by omega) hn.1 z1 o1 ?_, z_S1 hw z1 o1⟩
  rw [e1, hcc, i2, if_pos hκ.1, zel_r hκ.1]
  rfl
theorem fit_p {t k : Nat} (hz : isArr (zty t k) = true) (z : Int) : ∀ ty : FieldType, zty t k = ty → narrow ty (jR X z) = jR X z ∧ fits ty (jR X z) = true := by
  intro ty h
  rw [← h]
  cases hc : zty t k with
  | array C => rcases jR_or X z with e | ⟨x, e⟩ <;> rw [e] <;> exact ⟨rfl, rfl⟩
  | _ => rw [hc] at hz; cases hz
/-- an array comes into a final field of an object that isn't whole yet -/
theorem z_putA {q : Int} {κ : Nat} (K : MCx X p s m args meth c cc nL own ret) (hw : Wc X σ s.heap H locs) (h0 : 0 < t ∧ t ≤ 18) (ht : tg σ a = -(t : Int)) (hq : zcl[t - 1]? = some (C, T, N)) (hk : k < N) (hκ : κ < 10) (hf : kf t k = 10 + κ) (hp : tg σ q = 60 + (κ : Int)) (hn : σ q 1 0 = (kl t k : Int))
    (hl : Cond.fieldLink own index ref (T k).2.1 (T k).2.2.1 ∈ lw_all) (hsame : ∀ x, s.fieldFound? (T k).1 (T k).2.1 (T k).2.2.1 = some x → s.fieldFound? ref (T k).2.1 (T k).2.2.1 = some x) (hfin : (T k).2.2.2 = true) (hin2 : meth.name = "<init>") (hdecl : (T k).1 = own) (hd : decode cc pc = .ok (.putfield index, 3))
    (kk : ∀ (H1 : Heap) (locs1 : List Loc), Wc X (att σ a k q) s.heap H1 locs1 → W p l e R s m args below meth c H1 locs1 cells slots Q (F0 m (pc + 3) ls rest)) : W p l e R s m args below meth c H locs cells slots Q (F0 m pc ls (jR X q :: jR X a :: rest)) := by
  have ho : Ob σ a t := ⟨h0.1, h0.2, Or.inr ht⟩
  obtain ⟨q', hq', cell, q1, q2, q3, q4⟩ := id (hw.1.1 a t ho)
  cases hq'.symm.trans hq
  obtain ⟨cf, kfd, fi, f, kC, hi, hsl, hst, hfc, hkC, hkd, hlay, hpd, hul⟩ := z_fld K ho.1 hq hk
  have hap := z_apart K ho.1 hq
  have hzk := (zkind0 (t - 1) (by omega) k (zf_lt (t := t) (by omega))).2.2.2.2
  rw [show t - 1 + 1 = t by omega] at hzk
  obtain ⟨hf1, hf2⟩ := fit_p (X := X) (hzk (by omega)) q _ rfl
  have hcf : m.cls = cf := by
    unfold u_lay at hul
    rw [if_pos hfin] at hul
    obtain ⟨_, _, c', _, _, _, -, -, hf', -, -, -, hown2, -⟩ := Cond.laysFinal_spec hul
    cases hi.symm.trans hf'
    rw [hdecl] at hown2
    exact Option.some.inj (K.o.symm.trans hown2)
  rw [jR_ref (X := X) (hw.1.pos ho.ne0).1]
  refine W.putFinK K.x K.b K.o (K.ts _ hl) (hsame _ hi) hst hcf hin2 (by rw [q2]; exact u_fits hfc hkC hkd hlay hi hpd hf1 hf2) q1 q3 (by rw [hsl]; exact k2_hasslot (q4 k hk)) rfl rfl hd fun H' e1 e2 e3 => ?_
  refine kk H' _ ⟨sim_att hw.1 h0 ht hq hκ hf hp hn ?_ e2 e3, hw.2.put e2 e3 (Nat.le_add_right _ _)⟩
  rw [hsl] at e1
  exact ⟨_, e1, q2, q3, t_set q4 hap hk _⟩
/-! arrays that nobody owns -/
theorem z_sarr (hw : Wc X σ s.heap H locs) {q : Int} {κ : Nat} (hκ : κ < 10) (hp : tg σ q = 60 + (κ : Int)) : 0 ≤ q ∧ 0 ≤ σ q 1 0 ∧ H[cb X + q.toNat]? = some (arrV (cA X κ) (σ q 1 0).toNat (fun j => zel X κ (σ q 0 (j : Int)))) ∧ ∀ j : Int, 0 ≤ j → j < σ q 1 0 → zok κ (σ q 0 j) := by
  obtain ⟨s1, s2, s3⟩ := hw.1.2.2.2.2.2.1 q κ hκ hp
  exact ⟨(hw.1.pos (a := q) (by omega)).1, s1, s2, s3⟩
theorem z_iastS {q j v n : Int} (K : MCx X p s m args meth c cc nL own ret) (hw : Wc X σ s.heap H locs) (hp : tg σ q = 61) (hln : σ q 1 0 = n) (hj : 0 ≤ j ∧ j < n) (hb : n ≤ 100000) (hv : rng v) (hd : decode cc pc = .ok (.iastore, 1))
    (kk : ∀ (H1 : Heap) (locs1 : List Loc), Wc X (st σ q 0 j v) s.heap H1 locs1 → W p l e R s m args below meth c H1 locs1 cells slots Q (F0 m (pc + 1) ls rest)) : W p l e R s m args below meth c H locs cells slots Q (F0 m pc ls (jI v :: jI j :: jR X q :: rest)) := by
  obtain ⟨p1, p2, p5, p6⟩ := z_sarr hw (κ := 1) (by decide) hp
  obtain ⟨i1, i2, i3⟩ := z_ix hj hb (σ q 1 0).toNat (by omega)
  rw [jR_ref p1]
  refine W.iast K.x K.b p5 ((K.env.1.2 1 _ rfl).1 _ _) (fun q => by cases q) (by rw [arrV_size]; exact i1) rfl rfl hd fun H1 e1 e2 e3 => ?_
  rw [i2] at e1
  exact kk H1 _ ⟨sim_sput hw.1 (κ := 1) (by decide) hp (by omega) hv e1 e2 e3, hw.2.put e2 e3 (Nat.le_add_right _ _)⟩
theorem z_lastS {q j v n : Int} (K : MCx X p s m args meth c cc nL own ret) (hw : Wc X σ s.heap H locs) (hp : tg σ q = 62) (hln : σ q 1 0 = n) (hj : 0 ≤ j ∧ j < n) (hb : n ≤ 100000) (hv : rngL v) (hd : decode cc pc = .ok (.lastore, 1))
    (kk : ∀ (H1 : Heap) (locs1 : List Loc), Wc X (st σ q 0 j v) s.heap H1 locs1 → W p l e R s m args below meth c H1 locs1 cells slots Q (F0 m (pc + 1) ls rest)) : W p l e R s m args below meth c H locs cells slots Q (F0 m pc ls (jL v :: jI j :: jR X q :: rest)) := by
  obtain ⟨p1, p2, p5, p6⟩ := z_sarr hw (κ := 2) (by decide) hp
  obtain ⟨i1, i2, i3⟩ := z_ix hj hb (σ q 1 0).toNat (by omega)
  rw [jR_ref p1]
  refine W.last K.x K.b p5 ((K.env.1.2 2 _ rfl).1 _ _) (fun q => by cases q) (by rw [arrV_size]; exact i1) rfl rfl hd fun H1 e1 e2 e3 => ?_
  rw [i2] at e1
  exact kk H1 _ ⟨sim_sput hw.1 (κ := 2) (by decide) hp (by omega) hv e1 e2 e3, hw.2.put e2 e3 (Nat.le_add_right _ _)⟩
theorem z_laldS {q j n : Int} (K : MCx X p s m args meth c cc nL own ret) (hw : Wc X σ s.heap H locs) (hp : tg σ q = 62) (hln : σ q 1 0 = n) (hj : 0 ≤ j ∧ j < n) (hb : n ≤ 100000) (hd : decode cc pc = .ok (.laload, 1))
    (kk : rngL (σ q 0 j) → W p l e R s m args below meth c H locs cells slots Q (F0 m (pc + 1) ls (jL (σ q 0 j) :: rest))) : W p l e R s m args below meth c H locs cells slots Q (F0 m pc ls (jI j :: jR X q :: rest)) := by
  obtain ⟨p1, p2, p5, p6⟩ := z_sarr hw (κ := 2) (by decide) hp
  obtain ⟨i1, i2, i3⟩ := z_ix hj hb (σ q 1 0).toNat (by omega)
  rw [jR_ref p1]
  refine W.lald K.x K.b p5 ((K.env.1.2 2 _ rfl).1 _ _) (fun q => by cases q) (by rw [arrV_size]; exact i1) (v := jL (σ q 0 j)) ?_ rfl rfl hd (kk (p6 j hj.1 (by omega)))
  rw [i2, arrV_read _ _ i3]
  show some (jL (σ q 0 (j.toNat : Int))) = _
  rw [Int.toNat_of_nonneg hj.1]
theorem asg_rf (vm : Vm) (c : ClassId) : vm.assignable c c = true := by
  show vm.assignableAux (255 + 1) c c = true
  rw [Vm.assignableAux, Bool.or_eq_true, beq_iff_eq]
  exact Or.inl rfl
/-- a text constant's cell -/
theorem z_str (K : MCx X p s m args meth c cc nL own ret) (hw : Wc X σ s.heap H locs) {i : Nat} (hi : i < 38) : ∃ cell : Cell, H[cs X i]? = some cell ∧ cell.vm.isStatics = false ∧ s.vm.findClass "java/lang/String" = some cell.cls := by
  have h3 := K.env.2.2.1
  obtain ⟨q, hq⟩ : ∃ q, zstr[i]? = some q := ⟨zstr[i]'(by show i < 38; exact hi), List.getElem?_eq_getElem _⟩
  obtain ⟨e1, ⟨cell, g1, g2, g3, g4⟩, -⟩ := h3 i q hq
  refine ⟨cell, ?_, g2, g3⟩
  rw [hw.2.2.1 (cs X i) (Array.getElem?_eq_some_iff.mp g1).1 g4]
  exact g1
theorem z_aastS {q j v n : Int} (K : MCx X p s m args meth c cc nL own ret) (hw : Wc X σ s.heap H locs) (hp : tg σ q = 64) (hln : σ q 1 0 = n) (hj : 0 ≤ j ∧ j < n) (hb : n ≤ 100000) (hv : v ≤ -2 ∧ -40 < v) (hd : decode cc pc = .ok (.aastore, 1))
    (kk : ∀ (H1 : Heap) (locs1 : List Loc), Wc X (st σ q 0 j v) s.heap H1 locs1 → W p l e R s m args below meth c H1 locs1 cells slots Q (F0 m (pc + 1) ls rest)) : W p l e R s m args below meth c H locs cells slots Q (F0 m pc ls (jR X v :: jI j :: jR X q :: rest)) := by
  obtain ⟨p1, p2, p5, p6⟩ := z_sarr hw (κ := 4) (by decide) hp
  obtain ⟨i1, i2, i3⟩ := z_ix hj hb (σ q 1 0).toNat (by omega)
  obtain ⟨cell, c1, c2, c3⟩ := z_str K hw (i := (-v - 2).toNat) (by omega)
  obtain ⟨kA, comp, g1, g2, g3, g4⟩ := (K.env.1.2 4 _ rfl).2
  have hcc : comp = cell.cls := Option.some.inj (g3.symm.trans c3)
  obtain ⟨kC, hkC⟩ := Vm.classAt_of_findClass c3
  rw [jR_ref p1, jR_str hv.1]
  refine W.aast K.x K.b p5 (fun q h => by cases h) (fun h => by cases h) g1 g2 rfl (by rw [hcc]; exact hkC) ⟨fun h => i1 (Or.inl h), by rw [arrV_size, i2]; omega⟩ c1 (fun q h => by rw [h] at c2; cases c2) hkC (by rw [hcc]; exact asg_rf _ _) rfl rfl hd fun H1 e1 e2 e3 => ?_
  rw [i2, ← jR_str hv.1] at e1
  exact kk H1 _ ⟨sim_sput hw.1 (κ := 4) (by decide) hp (by omega) trivial e1 e2 e3, hw.2.put e2 e3 (Nat.le_add_right _ _)⟩
theorem z_ldcS {i : Nat} (K : MCx X p s m args meth c cc nL own ret) (v : Int) (hv : v = -(i : Int) - 2) {tx : String} (hz : zstr[i]? = some (own, index, tx)) (hd : decode cc pc = .ok (.ldc index, 2))
    (kk : W p l e R s m args below meth c H locs cells slots Q (F0 m (pc + 2) ls (jR X v :: rest))) : W p l e R s m args below meth c H locs cells slots Q (F0 m pc ls rest) := by
  have h3 := K.env.2.2.1
  obtain ⟨e1, -⟩ := h3 i _ hz
  refine va_ldcS K.x K.b K.o e1 hd ?_
  rw [jR_str (by omega), show (-v - 2).toNat = i by omega] at kk
  exact kk
/-- an element of an owned array of references is written -/
theorem z_aastT {j v n : Int} {κ r : Nat} {Cr : String} {Tr : u_T} {Nr : Nat} (K : MCx X p s m args meth c cc nL own ret) (hw : Wc X σ s.heap H locs) (ht : tg σ a = (t : Int)) (h0 : 0 < t ∧ t ≤ 18) (hf : kf t k = 10 + κ) (h4 : 4 ≤ κ ∧ κ < 10) (hr : kt t k = r) (hn : (kl t k : Int) = n) (hj : 0 ≤ j ∧ j < n) (hb : n ≤ 100000) (hr0 : 0 < r ∧ r ≤ 18) (hv : tg σ v = (r : Int)) (hqr : zcl[r - 1]? = some (Cr, Tr, Nr)) (hty : (ztys X)[κ]? = some (cA X κ, .object Cr)) (hd : decode cc pc = .ok (.aastore, 1))
    (kk : ∀ (H1 : Heap) (locs1 : List Loc), Wc X (st σ a k j v) s.heap H1 locs1 → W p l e R s m args below meth c H1 locs1 cells slots Q (F0 m (pc + 1) ls rest)) : W p l e R s m args below meth c H locs cells slots Q (F0 m pc ls (jR X v :: jI j :: jR X (σ a k (-1)) :: rest)) := by
  obtain ⟨p1, p2, p3, p4, p5, p6⟩ := z_arr hw ht h0 hf
  obtain ⟨i1, i2, i3⟩ := z_ix hj hb _ hn
  obtain ⟨cell, c1, c2, c3⟩ := z_recv K hw (ob (t := r) hv hr0) hqr
  obtain ⟨kA, comp, g1, g2, g3, g4⟩ := (K.env.1.2 κ _ hty).2
  have hcc : comp = cell.cls := Option.some.inj (g3.symm.trans c3)
  obtain ⟨kC, hkC⟩ := Vm.classAt_of_findClass c3
  have hv0 : 0 ≤ v := (hw.1.pos (a := v) (by rw [hv]; omega)).1
  rw [jR_ref p1, jR_ref hv0]
  refine W.aast K.x K.b p5 (fun q h => by cases h) (fun h => by cases h) g1 g2 rfl (by rw [hcc]; exact hkC) ⟨fun h => i1 (Or.inl h), by rw [arrV_size, i2]; exact i3⟩ c1 (fun q h => by rw [h] at c2; cases c2) hkC (by rw [hcc]; exact asg_rf _ _) rfl rfl hd fun H1 e1 e2 e3 => ?_
  rw [i2, ← jR_ref hv0, ← zel_r h4.1] at e1
  exact kk H1 _ (z_aput hw ht h0 hf hn hj (by match κ, h4 with | κ + 4, _ => trivial) (fun _ => Or.inr (by rw [hr]; unfold okR; rw [if_neg (by omega), if_neg (by omega)]; exact hv)) e1 e2 e3)
theorem condW : ∀ t : Nat, 13 ≤ t → t ≤ 17 → ∃ (C : String) (T : u_T) (N : Nat), zcl[t - 1]? = some (C, T, N) ∧ Cond.castable C "CombTable$Cond" ∈ lw_tbl := by
  intro t h1 h2
  rcases (show t = 13 ∨ t = 14 ∨ t = 15 ∨ t = 16 ∨ t = 17 by omega) with rfl | rfl | rfl | rfl | rfl
  · exact ⟨_, _, _, zq13, q2069⟩
  · exact ⟨_, _, _, zq14, q2070⟩
  · exact ⟨_, _, _, zq15, q2071⟩
  · exact ⟨_, _, _, zq16, q2072⟩
  · exact ⟨_, _, _, zq17, q2073⟩
theorem z_aastC {j v n : Int} (K : MCx X p s m args meth c cc nL own ret) (hw : Wc X σ s.heap H locs) (ht : tg σ a = (t : Int)) (h0 : 0 < t ∧ t ≤ 18) (hf : kf t k = 19) (hr : kt t k = 100) (hn : (kl t k : Int) = n) (hj : 0 ≤ j ∧ j < n) (hb : n ≤ 100000) (hv : v = -1 ∨ okR σ 100 v) (hd : decode cc pc = .ok (.aastore, 1))
    (kk : ∀ (H1 : Heap) (locs1 : List Loc), Wc X (st σ a k j v) s.heap H1 locs1 → W p l e R s m args below meth c H1 locs1 cells slots Q (F0 m (pc + 1) ls rest)) : W p l e R s m args below meth c H locs cells slots Q (F0 m pc ls (jR X v :: jI j :: jR X (σ a k (-1)) :: rest)) := by
  obtain ⟨p1, p2, p3, p4, p5, p6⟩ := z_arr hw ht h0 (κ := 9) hf
  obtain ⟨i1, i2, i3⟩ := z_ix hj hb _ hn
  have hfin : ∀ (H1 : Heap), H1[cb X + (σ a k (-1)).toNat]? = some ((arrV (cA X 9) (kl t k) (fun j => zel X 9 (σ a k (j : Int)))).setSlot j.toNat (zel X 9 v)) → H1.size = H.size → (∀ r : Nat, r ≠ cb X + (σ a k (-1)).toNat → H1[r]? = H[r]?) → ∀ q, Wc X (st σ a k j v) s.heap H1 (locs ++ [⟨cb X + (σ a k (-1)).toNat, q⟩]) :=
    fun H1 e1 e2 e3 q => z_aput hw ht h0 (κ := 9) hf hn hj trivial (fun _ => by rw [hr]; exact hv) e1 e2 e3
  rcases hv with rfl | hv
  · rw [jR_ref p1, jR_null]
    refine va_WaastN (C := "CombTable$Cond") K.x K.b p5 ((K.env.1.2 9 _ rfl).1 _ _) (fun h => by cases h) (by rw [arrV_size]; exact i1) rfl rfl hd fun H1 e1 e2 e3 => ?_
    rw [i2] at e1
    exact kk H1 _ (hfin H1 e1 e2 e3 _)
  · unfold okR at hv
    rw [if_neg (by decide), if_pos rfl] at hv
    obtain ⟨Cv, Tv, Nv, hqv, hcast⟩ := condW (tg σ v).toNat (by omega) (by omega)
    obtain ⟨cell, c1, c2, c3⟩ := z_recv K hw (ob (t := (tg σ v).toNat) (a := v) (by omega) (by omega)) hqv
    obtain ⟨kA, comp, g1, g2, g3, g4⟩ := (K.env.1.2 9 _ rfl).2
    obtain ⟨x3, x4, y3, y4, y5⟩ := Cond.castable_spec (K.nst (args := args) (lw_n hcast rfl))
    cases y3.symm.trans c3
    cases y4.symm.trans g3
    obtain ⟨kC, hkC⟩ := Vm.classAt_of_findClass c3
    obtain ⟨kD, hkD⟩ := Vm.classAt_of_findClass g3
    have hv0 : 0 ≤ v := (hw.1.pos (a := v) (by omega)).1
    rw [jR_ref p1, jR_ref hv0]
    refine W.aast K.x K.b p5 (fun q h => by cases h) (fun h => by cases h) g1 g2 rfl hkD ⟨fun h => i1 (Or.inl h), by rw [arrV_size, i2]; exact i3⟩ c1 (fun q h => by rw [h] at c2; cases c2) hkC y5 rfl rfl hd fun H1 e1 e2 e3 => ?_
    rw [i2, ← jR_ref hv0] at e1
    exact kk H1 _ (hfin H1 e1 e2 e3 _)
/-! invocations -/
theorem i_VP {y : MethodName} {t n : Nat} {As stk : List Value} (K : MCx X p s m args meth c cc nL own ret) (hw : Wc X σ s.heap H locs) (ho : Ob σ a t) (hq : zcl[t - 1]? = some (C, T, N)) (hy : yOk y n = true)
    (q1 : Cond.methodLink own index y ∈ lw_all) (q2 : Cond.instanceMethod y ∈ lw_all) (q3 : Cond.privateMethod y ∈ lw_tbl) (q4 : Cond.sameMethod y.cls y.cls y.name y.desc ∈ lw_all) (hsg : ∃ mk methM, s.methodNamed? y = some mk ∧ s.vm.method? mk = some methM ∧ parseMethodDescriptor y.desc = some methM.sig)
    (hn : As.length = n) (hstk : stk = As.reverse ++ jR X a :: rest) (hd : decode cc pc = .ok (.invokevirtual index, 3)) :
    ∀ T : State, T.heap = H → Stand p l e R s m args below meth c T locs cells slots → Inv p l e R s m args below meth c T locs cells slots (F0 m pc ls stk) rest y (jR X a :: As).toArray := by
  intro T hT X0
  obtain ⟨cell, c1, c2, c3⟩ := z_recv K hw ho hq
  rw [jR_ref (hw.1.pos ho.ne0).1] at hstk ⊢
  obtain ⟨cn, ck, r1, hcn, hck, hni, -, -⟩ := Cond.sameMethod_found (K.ts _ q4)
  exact inv_VP X0 K.x K.o (K.ts _ q1) (K.ts _ q2) (K.nst (lw_n q3 rfl)) ⟨cn, hcn, ck, hck, hni⟩ (sg_all hsg) (yOk_h hy) (by rw [hT]; exact c1) c2 rfl (yOk_n hy hn) hstk (by rw [K.b]; exact hd)
theorem i_VU {x y : MethodName} {owner : String} {t n : Nat} {As stk : List Value} (K : MCx X p s m args meth c cc nL own ret) (hw : Wc X σ s.heap H locs) (ho : Ob σ a t) (hq : zcl[t - 1]? = some (C, T, N)) (hy : yOk x n = true) (hyo : yOk ⟨owner, x.name, x.desc⟩ n = true)
    (q1 : Cond.methodLink own index x ∈ lw_all) (q4 : Cond.sameMethod x.cls owner x.name x.desc ∈ lw_all) (q2 : Cond.instanceMethod y ∈ lw_all) (q3 : Cond.selects C x y ∈ lw_all) (hd0 : va_Decl s ⟨owner, x.name, x.desc⟩)
    (hn : As.length = n) (hstk : stk = As.reverse ++ jR X a :: rest) (hd : decode cc pc = .ok (.invokevirtual index, 3)) :
    ∀ T : State, T.heap = H → Stand p l e R s m args below meth c T locs cells slots → Inv p l e R s m args below meth c T locs cells slots (F0 m pc ls stk) rest y (jR X a :: As).toArray := by
  intro T hT X0
  obtain ⟨cell, c1, c2, c3⟩ := z_recv K hw ho hq
  rw [jR_ref (hw.1.pos ho.ne0).1] at hstk ⊢
  exact inv_VU X0 K.x K.o (K.ts _ q1) (K.ts _ q4) hd0 (yOk_h hyo) (K.ts _ q3) (K.ts _ q2) (by rw [hT]; exact c1) c2 c3 rfl (yOk_n hy hn) hstk (by rw [K.b]; exact hd)
theorem dcl_of {y : MethodName} {b : ByteArray} {L : Nat} {r : Option FieldType} (K : MCx X p s m args meth c cc nL own ret) (q2 : Cond.instanceMethod y ∈ lw_all) (hc : Cond.code y b L r ∈ lw_all) : va_Decl s y := va_Decl.of (K.ts _ q2) (K.ts _ hc)
theorem dcl_abs {y : MethodName} (K : MCx X p s m args meth c cc nL own ret) (q : Cond.declares y ∈ lw_tbl) : va_Decl s y := va_Decl.abs (K.env.2.1 _ (lw_n q rfl))
theorem i_I {y : MethodName} {n maxL : Nat} {bytes : ByteArray} {As stk : List Value} (K : MCx X p s m args meth c cc nL own ret) (h0 : 0 ≤ a) (hy : yOk y n = true) (hy1 : y.name = "<init>")
    (q1 : Cond.methodLink own index y ∈ lw_all) (q2 : Cond.instanceMethod y ∈ lw_all) (q3 : Cond.code y bytes maxL none ∈ lw_all)
    (hn : As.length = n) (hstk : stk = As.reverse ++ jR X a :: rest) (hd : decode cc pc = .ok (.invokespecial index, 3)) :
    ∀ T : State, T.heap = H → Stand p l e R s m args below meth c T locs cells slots → Inv p l e R s m args below meth c T locs cells slots (F0 m pc ls stk) rest y (jR X a :: As).toArray := by
  intro T hT X0
  rw [jR_ref h0] at hstk ⊢
  exact inv_I X0 K.x K.o hy1 (K.ts _ q1) (K.ts _ q2) (K.ts _ q3) (yOk_h hy) rfl (yOk_n hy hn) hstk (by rw [K.b]; exact hd)
theorem i_IN {y : MethodName} {n maxL : Nat} {bytes : ByteArray} {As stk : List Value} (K : MCx X p s m args meth c cc nL own ret) (h0 : 0 ≤ a) (hy : yOk y n = true) (hy1 : y.name = "<init>")
    (q1 : Cond.methodLinkNest own index y host ∈ lw_tbl) (q2 : Cond.instanceMethod y ∈ lw_all) (q3 : Cond.code y bytes maxL none ∈ lw_all)
    (hn : As.length = n) (hstk : stk = As.reverse ++ jR X a :: rest) (hd : decode cc pc = .ok (.invokespecial index, 3)) :
    ∀ T : State, T.heap = H → Stand p l e R s m args below meth c T locs cells slots → Inv p l e R s m args below meth c T locs cells slots (F0 m pc ls stk) rest y (jR X a :: As).toArray := by
  intro T hT X0
  rw [jR_ref h0] at hstk ⊢
  exact inv_IN X0 K.x K.o hy1 (K.nst (lw_n q1 rfl)) (K.ts _ q2) (K.ts _ q3) (yOk_h hy) rfl (yOk_n hy hn) hstk (by rw [K.b]; exact hd)
theorem z_objI (K : MCx X p s m args meth c cc nL own ret) (h0 : 0 ≤ a) (q1 : Cond.methodLink own index Lib.objectInit ∈ lw_all) (q2 : Cond.instanceMethod Lib.objectInit ∈ lw_all) (q3 : Cond.code Lib.objectInit ⟨#[0xb1]⟩ 1 none ∈ lw_all) (hl : ls.size = nL) (hf : 1 ≤ R.frames ∧ 20 ≤ R.locals) (hst : (rest.map fun v => v.category).sum ≤ 8) (hd : decode cc pc = .ok (.invokespecial index, 3))
    (kk : W p l e R s m args below meth c H locs cells slots Q (F0 m (pc + 3) ls rest)) : W p l e R s m args below meth c H locs cells slots Q (F0 m pc ls (jR X a :: rest)) := by
  rw [jR_ref h0]
  exact W.objInit K.x K.b K.o (K.ts _ q1) (K.ts _ q2) (K.ts _ q3) rfl (by rw [K.ml]; exact hl) rfl hd hf.1 (by show 2 * 0 + _ + 12 ≤ _; omega) kk
end ZA
