/-! ROWS for constructors and conditions; small facts for the second generator -/
set_option maxRecDepth 100000
theorem cr_fit {C0 cells slots N' d : Nat} {cr u : Int} (h : Cr C0 cells slots cr) (hu : 1 ≤ u ∧ (N' : Int) ≤ u) (hle : u ≤ cr) : cells + 1 ≤ (zrm d C0 C0).cells ∧ slots + N' ≤ (zrm d C0 C0).slots := by
  show cells + 1 ≤ C0 ∧ slots + N' ≤ C0
  unfold Cr at h
  omega
theorem zr_ok2A {d D L C0 : Nat} (h1 : d + 1 ≤ D) (h2 : 19 + L + 40 * d ≤ 40 * D) : d + 1 ≤ (zrm D C0 C0).frames ∧ 8 + (L + 11) + 40 * d ≤ (zrm D C0 C0).locals := ⟨h1, by show 8 + (L + 11) + 40 * d ≤ 40 * D; omega⟩
theorem zr_ok3A {a b D C0 : Nat} (h1 : a ≤ D) (h2 : b ≤ 40 * D) : a ≤ (zrm D C0 C0).frames ∧ b ≤ (zrm D C0 C0).locals := ⟨h1, h2⟩
theorem sl_r {w : Int} (hw : w ≤ -2 ∧ -40 < w) : rng (slen w) := by
  have := sl_rng hw
  unfold rng
  omega
theorem okR0 {σ : St} {z : Int} (h : okR σ 0 z) : z ≤ -2 ∧ -40 < z := by
  unfold okR at h
  rw [if_pos rfl] at h
  exact h
theorem ok100 {σ : St} {z t : Int} (h : tg σ z = t) (ht : 13 ≤ t ∧ t ≤ 17) : okR σ 100 z := by
  unfold okR
  rw [if_neg (by decide), if_pos rfl, h]
  exact ht
theorem cond5 {σ : St} {z : Int} (h : okR σ 100 z) : 13 ≤ tg σ z ∧ tg σ z ≤ 17 := by
  unfold okR at h
  rw [if_neg (by decide), if_pos rfl] at h
  exact h
theorem len_e {σ σ1 : St} {p a j v n : Int} {f : Nat} (e : σ1 = st σ a f j v) (h : f ≠ 1) (hn : σ p 1 0 = n) : σ1 p 1 0 = n := by rw [e, st_ne (fun q => h q.2.1.symm)]; exact hn
theorem len_ke {σ σ1 : St} {p t n : Int} (h : Ke σ σ1) (ht : tg σ p = t) (h0 : t ≠ 0) (hn : σ p 1 0 = n) : σ1 p 1 0 = n := by rw [h p (by rw [ht]; exact h0)]; exact hn
theorem len_ki {σ σ1 : St} {p q t tq n : Int} (h : Ki q σ σ1) (ht : tg σ p = t) (h0 : t ≠ 0) (hq : tg σ q = tq) (hne : t ≠ tq) (hn : σ p 1 0 = n) : σ1 p 1 0 = n := by rw [h p (by rw [ht]; exact h0) (fun e => hne (by rw [← ht, e, hq]))]; exact hn
theorem len_kp {ws : List (Int × Nat)} {σ σ1 : St} {p t n : Int} (h : Kp ws σ σ1) (ht : tg σ p = t) (h0 : t ≠ 0) (hm : (t, 1) ∉ ws) (hn : σ p 1 0 = n) : σ1 p 1 0 = n := by rw [h.1 p 1 (by rw [ht]; exact h0) (by rw [ht]; exact hm)]; exact hn
/-- these array fields hold arrays -/
def AtF (σ : St) (a : Int) (K : List Nat) : Prop := ∀ k ∈ K, σ a k (-1) ≠ -1
theorem at_ke {σ σ1 : St} {a t : Int} {K : List Nat} (h : AtF σ a K) (hk : Ke σ σ1) (ht : tg σ a = t) (h0 : t ≠ 0) : AtF σ1 a K := fun k hm => by rw [hk a (by rw [ht]; exact h0)]; exact h k hm
theorem at_ki {σ σ1 : St} {a p t tp : Int} {K : List Nat} (h : AtF σ a K) (hk : Ki p σ σ1) (ht : tg σ a = t) (h0 : t ≠ 0) (hp : tg σ p = tp) (hne : t ≠ tp) : AtF σ1 a K := fun k hm => by rw [hk a (by rw [ht]; exact h0) (fun e => hne (by rw [← ht, e, hp]))]; exact h k hm
theorem at_st {σ σ1 : St} {a b j v : Int} {f : Nat} {K : List Nat} (h : AtF σ a K) (e : σ1 = st σ b f j v) (hj : 0 ≤ j) : AtF σ1 a K := fun k hm => by rw [e, st_m1 hj]; exact h k hm
theorem at_att {σ σ1 : St} {a p : Int} {k : Nat} {K : List Nat} (h : AtF σ a K) (e : σ1 = att σ a k p) (hp : 0 ≤ p) {ta tp : Int} (hta : tg σ a = ta) (htp : tg σ p = tp) (hne : ta ≠ tp) : AtF σ1 a (k :: K) := by
  have hap : a ≠ p := fun q => hne (by rw [← hta, q, htp])
  intro k' hm
  by_cases hk : k' = k
  · rw [hk, e, att_p]
    omega
  · rw [e, att_a hap hk]
    exact h k' ((List.mem_cons.mp hm).resolve_left hk)
def RefOk (σ' : St) (a : Int) (t : Nat) : Prop := (∀ k : Nat, kf t k = 3 → (σ' a k 0 = -1 ∧ kn t k = 0) ∨ okR σ' (kt t k) (σ' a k 0)) ∧ ∀ k κ : Nat, kf t k = 10 + κ → 4 ≤ κ → ∀ j : Int, 0 ≤ j → j < kl t k → σ' a k j = -1 ∨ okR σ' (kt t k) (σ' a k j)
def SealL (σ : St) (L : List Int) : Prop := ∀ a ∈ L, ∃ t : Nat, 0 < t ∧ t ≤ 18 ∧ tg σ a = -(t : Int) ∧ SealOk (sealz σ L) a t
theorem seal_1 {σ : St} {a : Int} {t : Nat} {K : List Nat} (ht : tg σ a = -(t : Int)) (h0 : 0 < t ∧ t ≤ 18) (hat : AtF σ a K) (hK : ∀ k, k < 58 → 10 ≤ kf t k → k ∈ K) (hr : RefOk (sealz σ [a]) a t) : SealL σ [a] := by
  intro x hx
  have : x = a := List.mem_singleton.mp hx
  subst this
  refine ⟨t, h0.1, h0.2, ht, fun k κ hf => ?_, hr.1, hr.2⟩
  have hk : k < 58 := zf_lt (t := t) (by omega)
  rw [seal_f (by omega)]
  exact hat k (hK k hk (by omega))
theorem wc_seal {X : Cxt} {σ σ1 : St} {H0 H : Heap} {locs : List Loc} {L : List Int} (hw : Wc X σ H0 H locs) (e : σ1 = sealz σ L) (h : SealL σ L) : Wc X σ1 H0 H locs := by
  rw [e]
  exact ⟨sim_seal hw.1 h, hw.2⟩
theorem tg_seal {σ σ1 : St} {L : List Int} {a t : Int} (e : σ1 = sealz σ L) (ht : tg σ a = -t) (ha : a ∈ L) : tg σ1 a = t := by rw [e, seal_tg ha, ht, Int.neg_neg]
section ZF3
variable {X : Cxt} {p : Program} {l : Launch} {e : Env} {R : Room} {s : State} {m : MethodId} {args : Array Value} {below : List Frame} {meth : Method} {c : Code} {H : Heap} {locs : List Loc} {cells slots : Nat} {Q : State → Prop}
variable {cc : ByteArray} {nL : Nat} {own : String} {ret : Option FieldType} {pc : Nat} {ls : Array Slot} {rest : List Value} {σ : St} {a z : Int} {t : Nat} {C : String} {T : u_T} {N : Nat} {ref : String} {index : Nat}
theorem z_putiF (k : Nat) (K : MCx X p s m args meth c cc nL own ret) (hw : Wc X σ s.heap H locs) (ho : Ob σ a t) (hq : zcl[t - 1]? = some (C, T, N)) (hk : k < N) (hkf : kf t k = 0) (hty : zty t k = .int) (hr : rng z)
    (hl : Cond.fieldLink own index ref (T k).2.1 (T k).2.2.1 ∈ lw_all) (hsame : ∀ x, s.fieldFound? (T k).1 (T k).2.1 (T k).2.2.1 = some x → s.fieldFound? ref (T k).2.1 (T k).2.2.1 = some x) (hfin : (T k).2.2.2 = true) (hin2 : meth.name = "<init>") (hdecl : (T k).1 = own) (hd : decode cc pc = .ok (.putfield index, 3))
    (kk : ∀ (H1 : Heap) (locs1 : List Loc), Wc X (st σ a k 0 z) s.heap H1 locs1 → W p l e R s m args below meth c H1 locs1 cells slots Q (F0 m (pc + 3) ls rest)) : W p l e R s m args below meth c H locs cells slots Q (F0 m pc ls (jI z :: jR X a :: rest)) :=
  z_putF K hw ho hq hk (by omega) (by rw [zval_i hkf, st_eq]) (fit_i hty z) (fun _ => hr) (fun h => by omega) (fun h => by omega) (fun h => by omega) hl hsame hfin hin2 hdecl hd kk
theorem z_putlF (k : Nat) (K : MCx X p s m args meth c cc nL own ret) (hw : Wc X σ s.heap H locs) (ho : Ob σ a t) (hq : zcl[t - 1]? = some (C, T, N)) (hk : k < N) (hkf : kf t k = 2) (hty : zty t k = .long) (hr : rngL z)
    (hl : Cond.fieldLink own index ref (T k).2.1 (T k).2.2.1 ∈ lw_all) (hsame : ∀ x, s.fieldFound? (T k).1 (T k).2.1 (T k).2.2.1 = some x → s.fieldFound? ref (T k).2.1 (T k).2.2.1 = some x) (hfin : (T k).2.2.2 = true) (hin2 : meth.name = "<init>") (hdecl : (T k).1 = own) (hd : decode cc pc = .ok (.putfield index, 3))
    (kk : ∀ (H1 : Heap) (locs1 : List Loc), Wc X (st σ a k 0 z) s.heap H1 locs1 → W p l e R s m args below meth c H1 locs1 cells slots Q (F0 m (pc + 3) ls rest)) : W p l e R s m args below meth c H locs cells slots Q (F0 m pc ls (jL z :: jR X a :: rest)) :=
  z_putF K hw ho hq hk (by omega) (by rw [zval_l hkf, st_eq]) (fit_l hty z) (fun h => by omega) (fun h => by omega) (fun _ => hr) (fun h => by omega) hl hsame hfin hin2 hdecl hd kk
theorem z_putrF (k : Nat) (K : MCx X p s m args meth c cc nL own ret) (hw : Wc X σ s.heap H locs) (h0 : 0 < t ∧ t ≤ 18) (ht : tg σ a = -(t : Int)) (hq : zcl[t - 1]? = some (C, T, N)) (hk : k < N) (hkf : kf t k = 3) (hty : isObj (zty t k) = true)
    (hl : Cond.fieldLink own index ref (T k).2.1 (T k).2.2.1 ∈ lw_all) (hsame : ∀ x, s.fieldFound? (T k).1 (T k).2.1 (T k).2.2.1 = some x → s.fieldFound? ref (T k).2.1 (T k).2.2.1 = some x) (hfin : (T k).2.2.2 = true) (hin2 : meth.name = "<init>") (hdecl : (T k).1 = own) (hd : decode cc pc = .ok (.putfield index, 3))
    (kk : ∀ (H1 : Heap) (locs1 : List Loc), Wc X (st σ a k 0 z) s.heap H1 locs1 → W p l e R s m args below meth c H1 locs1 cells slots Q (F0 m (pc + 3) ls rest)) : W p l e R s m args below meth c H locs cells slots Q (F0 m pc ls (jR X z :: jR X a :: rest)) :=
  z_putF K hw ⟨h0.1, h0.2, Or.inr ht⟩ hq hk (by omega) (by rw [zval_r hkf, st_eq]) (fit_r hty z) (fun h => by omega) (fun h => by omega) (fun h => by omega) (fun _ h => by omega) hl hsame hfin hin2 hdecl hd kk
theorem z_putrQ (k : Nat) (K : MCx X p s m args meth c cc nL own ret) (hw : Wc X σ s.heap H locs) (h0 : 0 < t ∧ t ≤ 18) (ht : tg σ a = -(t : Int)) (hq : zcl[t - 1]? = some (C, T, N)) (hk : k < N) (hkf : kf t k = 3) (hty : isObj (zty t k) = true)
    (hl : Cond.fieldLink own index ref (T k).2.1 (T k).2.2.1 ∈ lw_all) (hsame : ∀ x, s.fieldFound? (T k).1 (T k).2.1 (T k).2.2.1 = some x → s.fieldFound? ref (T k).2.1 (T k).2.2.1 = some x) (hfin : (T k).2.2.2 = false) (hd : decode cc pc = .ok (.putfield index, 3))
    (kk : ∀ (H1 : Heap) (locs1 : List Loc), Wc X (st σ a k 0 z) s.heap H1 locs1 → W p l e R s m args below meth c H1 locs1 cells slots Q (F0 m (pc + 3) ls rest)) : W p l e R s m args below meth c H locs cells slots Q (F0 m pc ls (jR X z :: jR X a :: rest)) :=
  z_put K hw ⟨h0.1, h0.2, Or.inr ht⟩ hq hk (by omega) (by rw [zval_r hkf, st_eq]) (fit_r hty z) (fun h => by omega) (fun h => by omega) (fun h => by omega) (fun _ h => by omega) hl hsame hfin hd kk
/-- a condition's method, by the class that it has -/
def is5 (R0 : Nat → St → Int → Int → Int → (Int → Prop) → Prop) (σ : St) (z x t : Int) (Q : Int → Prop) : Prop :=
  if tg σ z = 17 then R0 0 σ z x t Q else if tg σ z = 16 then R0 1 σ z x t Q else if tg σ z = 15 then R0 2 σ z x t Q else if tg σ z = 14 then R0 3 σ z x t Q else R0 4 σ z x t Q
def Is1 (X : Cxt) (l : Launch) (D : Nat) (tag : Int) (R1 : St → Int → Int → Int → (Int → Prop) → Prop) (y : MethodName) (cc : ByteArray) (L : Nat) : Prop :=
  ∀ (σ : St) (a0 : Int) (o1 : Int) (x2 : Int) (_ : tg σ a0 = tag) (_ : tg σ o1 = 3) (_ : rng x2) (Q : Int → Prop), R1 σ a0 o1 x2 Q → MetT l y (ws_ y cc L (some .boolean)) (zrm D 0 0) (ZP X σ [jR X a0, jR X o1, jI x2]) (ZQ X (qZ (fun r σ' => σ' = σ ∧ Q r)) (fun _ _ => False)) 0 0 (zA X)
def yIs : MethodName := ⟨"CombTable$Cond", "is", "(LCombTable$Talk;I)Z"⟩
theorem z_is1 {z x t tag : Int} {tn D L : Nat} {R1 : St → Int → Int → Int → (Int → Prop) → Prop} {y : MethodName} {cb1 : ByteArray} {C : String} {T : u_T} {N : Nat} {Q' : Int → Prop} (K : MCx X p s m args meth c cc nL own ret) (hw : Wc X σ s.heap H locs) (hz : tg σ z = tag) (htn : tag = (tn : Int)) (h0 : 0 < tn ∧ tn ≤ 18) (hq : zcl[tn - 1]? = some (C, T, N)) (hx : tg σ x = 3) (ht : rng t)
    (q1 : Cond.methodLink own index yIs ∈ lw_all) (q2 : Cond.instanceMethod y ∈ lw_all) (q3 : Cond.selects C yIs y ∈ lw_all) (q4 : Cond.code y cb1 L (some .boolean) ∈ lw_all) (q5 : Cond.initialized y.cls ∈ lw_all) (hm : Is1 X l D tag R1 y cb1 L) (hL : L ≤ 20)
    (hfr : D + 1 ≤ R.frames ∧ 8 + 40 + 40 * D ≤ R.locals) (hl : ls.size = nL) (hd : decode cc pc = .ok (.invokevirtual index, 3)) (hst : rest.length ≤ 4) (hc : cells ≤ R.cells ∧ slots ≤ R.slots) (h : R1 σ z x t Q')
    (kN : ∀ (z : Int) (H1 : Heap) (locs1 : List Loc), (0 ≤ z ∧ z ≤ 1) → Q' z → Wc X σ s.heap H1 locs1 → W p l e R s m args below meth c H1 locs1 cells slots Q (F0 m (pc + 3) ls (jI z :: rest))) :
    W p l e R s m args below meth c H locs cells slots Q (F0 m pc ls (jI t :: jR X x :: jR X z :: rest)) := by
  have ho : Ob σ z tn := ⟨h0.1, h0.2, Or.inl (hz.trans htn)⟩
  exact zr_z (maxL := L) K hw (hm σ z x t hz hx ht Q' h) (i_VU (n := 2) (x := yIs) (owner := "CombTable$Cond") (As := [jR X x, jI t]) K hw ho hq (by decide) (by decide) q1 q1331 q2 q3 (dcl_abs K q1330) rfl rfl hd) (locw K q4 q5) ⟨hfr.1, by omega⟩ hl hd hst hc kN
theorem z_is5 {z x t : Int} {D : Nat} {R0 : Nat → St → Int → Int → Int → (Int → Prop) → Prop} {Q' : Int → Prop} (K : MCx X p s m args meth c cc nL own ret) (hw : Wc X σ s.heap H locs) (hz : 13 ≤ tg σ z ∧ tg σ z ≤ 17) (hx : tg σ x = 3) (ht : rng t)
    (q1 : Cond.methodLink own index yIs ∈ lw_all) (hm : Is1 X l D 17 (R0 0) yX20_is cX20_is 3 ∧ Is1 X l D 16 (R0 1) yX19_is cX19_is 3 ∧ Is1 X l D 15 (R0 2) yX18_is cX18_is 4 ∧ Is1 X l D 14 (R0 3) yX17_is cX17_is 3 ∧ Is1 X l D 13 (R0 4) yX16_is cX16_is 3)
    (hfr : D + 1 ≤ R.frames ∧ 8 + 40 + 40 * D ≤ R.locals) (hl : ls.size = nL) (hd : decode cc pc = .ok (.invokevirtual index, 3)) (hst : rest.length ≤ 4) (hc : cells ≤ R.cells ∧ slots ≤ R.slots) (h : is5 R0 σ z x t Q')
    (kN : ∀ (z : Int) (H1 : Heap) (locs1 : List Loc), (0 ≤ z ∧ z ≤ 1) → Q' z → Wc X σ s.heap H1 locs1 → W p l e R s m args below meth c H1 locs1 cells slots Q (F0 m (pc + 3) ls (jI z :: rest))) :
    W p l e R s m args below meth c H locs cells slots Q (F0 m pc ls (jI t :: jR X x :: jR X z :: rest)) := by
  unfold is5 at h
  by_cases h1 : tg σ z = 17
  · rw [if_pos h1] at h
    exact z_is1 K hw h1 rfl (by decide) zq17 hx ht q1 q1333 q1332 q1334 q120 hm.1 (by decide) hfr hl hd hst hc h kN
  rw [if_neg h1] at h
  by_cases h2 : tg σ z = 16
  · rw [if_pos h2] at h
    exact z_is1 K hw h2 rfl (by decide) zq16 hx ht q1 q1336 q1348 q1337 q119 hm.2.1 (by decide) hfr hl hd hst hc h kN
  rw [if_neg h2] at h
  by_cases h3 : tg σ z = 15
  · rw [if_pos h3] at h
    exact z_is1 K hw h3 rfl (by decide) zq15 hx ht q1 q1339 q1349 q1340 q118 hm.2.2.1 (by decide) hfr hl hd hst hc h kN
  rw [if_neg h3] at h
  by_cases h4 : tg σ z = 14
  · rw [if_pos h4] at h
    exact z_is1 K hw h4 rfl (by decide) zq14 hx ht q1 q1342 q1350 q1343 q117 hm.2.2.2.1 (by decide) hfr hl hd hst hc h kN
  rw [if_neg h4] at h
  exact z_is1 K hw (show tg σ z = 13 by omega) rfl (by decide) zq13 hx ht q1 q1345 q1351 q1346 q116 hm.2.2.2.2 (by decide) hfr hl hd hst hc h kN
end ZF3
