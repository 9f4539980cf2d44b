/-! NEW OBJECTS AND ARRAYS: what they do to the abstract store -/
set_option maxRecDepth 100000
/-- a new object: not yet whole -/
def nw (σ : St) (t : Nat) : St := fun a f j => if a = nx σ then (if f = 99 ∧ j = 0 then -(t : Int) else if (kf t f = 3 ∧ j = 0) ∨ (5 ≤ kf t f ∧ j = -1) then -1 else 0) else if a = -1 ∧ f = 0 ∧ j = 0 then nx σ + 1 else σ a f j
/-- a new array that nobody owns -/
def na (σ : St) (κ : Nat) (n : Int) : St := fun a f j => if a = nx σ then (if f = 99 ∧ j = 0 then 60 + (κ : Int) else if f = 1 ∧ j = 0 then n else if f = 0 ∧ 4 ≤ κ then -1 else 0) else if a = -1 ∧ f = 0 ∧ j = 0 then nx σ + 1 else σ a f j
/-- an array comes into an object's field -/
def att (σ : St) (a : Int) (k : Nat) (p : Int) : St := fun x f j => if x = a ∧ f = k then (if j = -1 then p else if 0 ≤ j then σ p 0 j else σ a k j) else if x = p ∧ f = 99 ∧ j = 0 then 50 else if x = p ∧ f = 2 ∧ j = 0 then a else if x = p ∧ f = 3 ∧ j = 0 then (k : Int) else σ x f j
/-- objects are whole -/
def sealz (σ : St) (L : List Int) : St := fun x f j => if f = 99 ∧ j = 0 ∧ x ∈ L then -(σ x 99 0) else σ x f j
theorem kt_small : ∀ l ∈ zfl, ∀ q ∈ l, q.2.2.1 ≤ 18 ∨ q.2.2.1 = 100 := by decide
theorem kt_le (t k : Nat) : kt t k ≤ 18 ∨ kt t k = 100 := by
  unfold kt zf
  rw [List.getD_eq_getElem?_getD]
  cases h : (zfl.getD (t - 1) [])[k]? with
  | none => exact Or.inl (Nat.zero_le _)
  | some q =>
    have h1 := List.mem_of_getElem? h
    rw [List.getD_eq_getElem?_getD] at h1
    cases h2 : zfl[t - 1]? with
    | none => rw [h2] at h1; exact absurd h1 List.not_mem_nil
    | some l =>
      rw [h2] at h1
      exact kt_small l (List.mem_of_getElem? h2) q h1
theorem kf_small : ∀ l ∈ zfl, ∀ q ∈ l, q.1 < 20 := by decide
theorem kf_lt (t k : Nat) : kf t k < 20 := by
  unfold kf zf
  rw [List.getD_eq_getElem?_getD]
  cases h : (zfl.getD (t - 1) [])[k]? with
  | none => show 4 < 20; decide
  | some q =>
    have h1 := List.mem_of_getElem? h
    rw [List.getD_eq_getElem?_getD] at h1
    cases h2 : zfl[t - 1]? with
    | none => rw [h2] at h1; exact absurd h1 List.not_mem_nil
    | some l =>
      rw [h2] at h1
      exact kf_small l (List.mem_of_getElem? h2) q h1
theorem okR_mono {σ σ' : St} {r : Nat} {z : Int} (hr : r ≤ 18 ∨ r = 100) (h : ∀ a, 0 < tg σ a → tg σ a ≤ 18 → tg σ' a = tg σ a) (ho : okR σ r z) : okR σ' r z := by
  revert ho
  unfold okR
  split
  · exact fun h => h
  · split
    · intro ho
      rw [h z (by omega) (by omega)]
      exact ho
    · intro ho
      rw [h z (by omega) (by omega)]
      exact ho
theorem Sim.fresh {X : Cxt} {σ : St} {H : Heap} (h : Sim X σ H) : tg σ (nx σ) = 0 := Classical.byContradiction fun hn => by have := h.pos hn; omega
theorem Sim.neg1 {X : Cxt} {σ : St} {H : Heap} (h : Sim X σ H) : tg σ (-1) = 0 := Classical.byContradiction fun hn => by have := h.pos hn; omega
theorem Sim.nx0 {X : Cxt} {σ : St} {H : Heap} (h : Sim X σ H) : 0 ≤ nx σ := h.2.2.2.2.2.2.2.1
theorem nw_old {σ : St} {t : Nat} {a : Int} (h1 : a ≠ nx σ) (h2 : a ≠ -1) : nw σ t a = σ a := by
  funext f j
  unfold nw
  rw [if_neg h1, if_neg (fun h => h2 h.1)]
theorem na_old {σ : St} {κ : Nat} {n a : Int} (h1 : a ≠ nx σ) (h2 : a ≠ -1) : na σ κ n a = σ a := by
  funext f j
  unfold na
  rw [if_neg h1, if_neg (fun h => h2 h.1)]
theorem nw_tg {σ : St} {t : Nat} : tg (nw σ t) (nx σ) = -(t : Int) := by
  unfold tg nw
  rw [if_pos rfl, if_pos ⟨rfl, rfl⟩]
theorem na_tg {σ : St} {κ : Nat} {n : Int} : tg (na σ κ n) (nx σ) = 60 + (κ : Int) := by
  unfold tg na
  rw [if_pos rfl, if_pos ⟨rfl, rfl⟩]
theorem nw_tgo {σ : St} {t : Nat} {a : Int} (h1 : a ≠ nx σ) : tg (nw σ t) a = tg σ a := by
  unfold tg nw
  rw [if_neg h1, if_neg (fun h => by have := h.2.1; omega)]
theorem na_tgo {σ : St} {κ : Nat} {n a : Int} (h1 : a ≠ nx σ) : tg (na σ κ n) a = tg σ a := by
  unfold tg na
  rw [if_neg h1, if_neg (fun h => by have := h.2.1; omega)]
theorem nw_nx {σ : St} {t : Nat} (h : 0 ≤ nx σ) : nx (nw σ t) = nx σ + 1 := by
  show nw σ t (-1) 0 0 = _
  unfold nw
  rw [if_neg (by omega), if_pos ⟨rfl, rfl, rfl⟩]
theorem na_nx {σ : St} {κ : Nat} {n : Int} (h : 0 ≤ nx σ) : nx (na σ κ n) = nx σ + 1 := by
  show na σ κ n (-1) 0 0 = _
  unfold na
  rw [if_neg (by omega), if_pos ⟨rfl, rfl, rfl⟩]
/-- the store has one more thing; all that was there is as it was -/
def Gr (X : Cxt) (σ σ' : St) (H H' : Heap) : Prop := H'.size = H.size + 1 ∧ (∀ q, q < H.size → H'[q]? = H[q]?) ∧ (∀ a, tg σ a ≠ 0 → σ' a = σ a) ∧ (∀ a, a ≠ nx σ → tg σ' a = tg σ a) ∧ nx σ' = nx σ + 1
theorem Gr.heap {X : Cxt} {σ σ' : St} {H H' : Heap} (g : Gr X σ σ' H H') (hS : Sim X σ H) {a : Int} (h : tg σ a ≠ 0) : H'[cb X + a.toNat]? = H[cb X + a.toNat]? := by
  have := hS.pos h
  have := hS.2.2.2.2.2.2.1
  exact g.2.1 _ (by omega)
theorem sim_grow {X : Cxt} {σ σ' : St} {H H' : Heap} (hS : Sim X σ H) (g : Gr X σ σ' H H')
    (hO : ∀ t : Nat, Ob σ' (nx σ) t → tg σ' (nx σ) = -(t : Int) ∧ (∃ q : vw_C, zcl[t - 1]? = some q ∧ t_OB (cb X + (nx σ).toNat) ((cD X).1 (t - 1)) q.2.2 ((cD X).2 (t - 1)) H' (zval X σ' (nx σ) t)) ∧ (∀ k, 10 ≤ kf t k → σ' (nx σ) k (-1) = -1) ∧ ∀ k, kf t k ≤ 2 → σ' (nx σ) k 0 = 0)
    (hA : ∀ κ : Nat, κ < 10 → tg σ' (nx σ) = 60 + (κ : Int) → 0 ≤ σ' (nx σ) 1 0 ∧ H'[cb X + (nx σ).toNat]? = some (arrV (cA X κ) (σ' (nx σ) 1 0).toNat (fun j => zel X κ (σ' (nx σ) 0 (j : Int)))) ∧ ∀ j : Int, 0 ≤ j → j < σ' (nx σ) 1 0 → zok κ (σ' (nx σ) 0 j)) : Sim X σ' H' := by
  obtain ⟨sO, sA, sF, sR, sW, sS, sN⟩ := id hS
  obtain ⟨g1, g2, g3, g4, g5⟩ := id g
  have ok : ∀ {r : Nat} {z : Int}, (r ≤ 18 ∨ r = 100) → okR σ r z → okR σ' r z := fun hr ho => okR_mono hr (fun a h1 _ => by
    show σ' a 99 0 = _
    rw [g3 a (by omega)]
    rfl) ho
  have ne : ∀ {a : Int} {t : Nat}, Ob σ' a t → a ≠ nx σ → Ob σ a t := fun ho hn => ⟨ho.1, ho.2.1, by rw [← g4 _ hn]; exact ho.2.2⟩
  refine ⟨?_, ?_, ?_, ?_, ?_, ?_, ?_⟩
  · intro a t ho
    by_cases e : a = nx σ
    · subst e
      exact (hO t ho).2.1
    · have ho' := ne ho e
      obtain ⟨q, hq, hb⟩ := sO a t ho'
      refine ⟨q, hq, (t_OB.kept hb (g.heap hS ho'.ne0)).to fun k _ => ?_⟩
      unfold zval
      rw [g3 a ho'.ne0]
  · intro a t k κ ho hf hp
    by_cases e : a = nx σ
    · subst e
      exact absurd ((hO t ho).2.2.1 k (by omega)) hp
    · have ho' := ne ho e
      rw [g3 a ho'.ne0] at hp ⊢
      obtain ⟨p1, p2, p3, p4, p5, p6⟩ := sA a t k κ ho' hf hp
      have e2 := g3 (σ a k (-1)) (by omega)
      refine ⟨p1, by show σ' _ 99 0 = 50; rw [e2]; exact p2, by rw [e2]; exact p3, by rw [e2]; exact p4, ?_, by rw [g3 a ho'.ne0]; exact p6⟩
      rw [g.heap hS (by omega), p5, g3 a ho'.ne0]
  · intro a t k κ h1 h2 ht hf
    by_cases e : a = nx σ
    · subst e
      have := (hO t ⟨h1, h2, Or.inl ht⟩).1
      omega
    · rw [g4 a e] at ht
      rw [g3 a (by omega)]
      exact sF a t k κ h1 h2 ht hf
  · intro a t k ho
    by_cases e : a = nx σ
    · subst e
      obtain ⟨-, -, -, h4⟩ := hO t ho
      exact ⟨fun h => by rw [h4 k (by omega)]; unfold rng; omega, fun h => by rw [h4 k (by omega)]; omega, fun h => by rw [h4 k (by omega)]; unfold rngL; omega⟩
    · have ho' := ne ho e
      rw [g3 a ho'.ne0]
      exact sR a t k ho'
  · intro a t k h1 h2 ht
    by_cases e : a = nx σ
    · subst e
      have := (hO t ⟨h1, h2, Or.inl ht⟩).1
      omega
    · rw [g4 a e] at ht
      rw [g3 a (by omega)]
      obtain ⟨w1, w2⟩ := sW a t k h1 h2 ht
      exact ⟨fun hf => (w1 hf).imp_right (ok (kt_le t k)), fun κ hf h4 j hj hj2 => (w2 κ hf h4 j hj hj2).imp_right (ok (kt_le t k))⟩
  · intro p κ hκ hp
    by_cases e : p = nx σ
    · subst e
      exact hA κ hκ hp
    · rw [g4 p e] at hp
      rw [g3 p (by omega), g.heap hS (by omega)]
      exact sS p κ hκ hp
  · refine ⟨by rw [g1, g5]; have := sN.1; omega, by rw [g5]; have := sN.2.1; omega, fun a ha => ?_⟩
    rw [g5]
    have := sN.2.1
    by_cases e : a = nx σ
    · omega
    · rw [g4 a e] at ha
      have := sN.2.2 a ha
      omega
theorem gr_nw {X : Cxt} {σ : St} {H H' : Heap} {t : Nat} (hS : Sim X σ H) (h1 : H'.size = H.size + 1) (h2 : ∀ q, q < H.size → H'[q]? = H[q]?) : Gr X σ (nw σ t) H H' :=
  ⟨h1, h2, fun a ha => nw_old (fun e => ha (by rw [e]; exact hS.fresh)) (fun e => ha (by rw [e]; exact hS.neg1)), fun _ h => nw_tgo h, nw_nx hS.nx0⟩
theorem gr_na {X : Cxt} {σ : St} {H H' : Heap} {κ : Nat} {n : Int} (hS : Sim X σ H) (h1 : H'.size = H.size + 1) (h2 : ∀ q, q < H.size → H'[q]? = H[q]?) : Gr X σ (na σ κ n) H H' :=
  ⟨h1, h2, fun a ha => na_old (fun e => ha (by rw [e]; exact hS.fresh)) (fun e => ha (by rw [e]; exact hS.neg1)), fun _ h => na_tgo h, na_nx hS.nx0⟩
theorem nw_v {σ : St} {t f : Nat} {j : Int} (h : f ≠ 99) : nw σ t (nx σ) f j = if (kf t f = 3 ∧ j = 0) ∨ (5 ≤ kf t f ∧ j = -1) then -1 else 0 := by
  unfold nw
  rw [if_pos rfl, if_neg (fun q => h q.1)]
theorem sim_nw {X : Cxt} {σ : St} {H H' : Heap} {t : Nat} {q : vw_C} (hS : Sim X σ H) (h0 : 0 < t ∧ t ≤ 18) (hq : zcl[t - 1]? = some q) (h1 : H'.size = H.size + 1) (h2 : ∀ q, q < H.size → H'[q]? = H[q]?)
    (hc : t_OB (cb X + (nx σ).toNat) ((cD X).1 (t - 1)) q.2.2 ((cD X).2 (t - 1)) H' (zval X (nw σ t) (nx σ) t)) : Sim X (nw σ t) H' := by
  refine sim_grow hS (gr_nw hS h1 h2) ?_ ?_
  · intro t' ho
    have : t' = t := by
      obtain ⟨a1, a2, a3⟩ := ho
      rw [nw_tg] at a3
      omega
    subst this
    refine ⟨nw_tg, ⟨q, hq, hc⟩, fun k hk => ?_, fun k hk => ?_⟩
    · rw [nw_v (by intro e; rw [e] at hk; have := zf_lt (t := t') (k := 99) (by omega); omega), if_pos (Or.inr ⟨by omega, rfl⟩)]
    · rw [nw_v (by intro e; rw [e] at hk; have := zf_lt (t := t') (k := 99) (by omega); omega), if_neg (by omega)]
  · intro κ _ hp
    rw [nw_tg] at hp
    omega
theorem sim_na {X : Cxt} {σ : St} {H H' : Heap} {κ : Nat} {n : Int} (hS : Sim X σ H) (hκ : κ < 10) (hn : 0 ≤ n) (h1 : H'.size = H.size + 1) (h2 : ∀ q, q < H.size → H'[q]? = H[q]?)
    (hc : H'[cb X + (nx σ).toNat]? = some (arrV (cA X κ) n.toNat (fun _ => zel X κ (if 4 ≤ κ then -1 else 0)))) : Sim X (na σ κ n) H' := by
  have tg0 := na_tg (σ := σ) (κ := κ) (n := n)
  have e1 : na σ κ n (nx σ) 1 0 = n := by
    unfold na
    rw [if_pos rfl, if_neg (by omega), if_pos ⟨rfl, rfl⟩]
  have e2 : ∀ j, na σ κ n (nx σ) 0 j = if 4 ≤ κ then -1 else 0 := by
    intro j
    unfold na
    rw [if_pos rfl, if_neg (by omega), if_neg (by omega)]
    by_cases h : 4 ≤ κ
    · rw [if_pos ⟨rfl, h⟩, if_pos h]
    · rw [if_neg (fun q => h q.2), if_neg h]
  refine sim_grow hS (gr_na hS h1 h2) ?_ ?_
  · intro t' ho
    obtain ⟨a1, a2, a3⟩ := ho
    rw [tg0] at a3
    omega
  · intro κ' _ hp
    rw [tg0] at hp
    have : κ' = κ := by omega
    subst this
    rw [e1]
    refine ⟨hn, ?_, fun j _ _ => ?_⟩
    · rw [hc]
      congr 2
      funext j
      rw [e2]
    · rw [e2]
      match κ', hκ with
      | 0, _ => exact ⟨by decide, by decide⟩
      | 1, _ => exact ⟨by decide, by decide⟩
      | 2, _ => exact ⟨by decide, by decide⟩
      | 3, _ => exact ⟨by decide, by decide⟩
      | κ + 4, _ => trivial
/-- an element of an array that nobody owns is written -/
theorem sim_sput {X : Cxt} {σ : St} {H H' : Heap} {p j v : Int} {κ : Nat} (hS : Sim X σ H) (hκ : κ < 10) (hp : tg σ p = 60 + (κ : Int)) (hj : 0 ≤ j ∧ j < σ p 1 0) (hv : zok κ v)
    (hc : H'[cb X + p.toNat]? = some ((arrV (cA X κ) (σ p 1 0).toNat (fun j => zel X κ (σ p 0 (j : Int)))).setSlot j.toNat (zel X κ v))) (hz : H'.size = H.size) (hoq : ∀ r : Nat, r ≠ cb X + p.toNat → H'[r]? = H[r]?) : Sim X (st σ p 0 j v) H' := by
  obtain ⟨sO, sA, sF, sR, sW, sS, sN⟩ := id hS
  have tge : ∀ a, tg (st σ p 0 j v) a = tg σ a := fun a => tg_st (by decide)
  have off : ∀ {a : Int}, a ≠ p → st σ p 0 j v a = σ a := fun h => by
    funext f i
    exact st_ne (fun q => h q.1)
  have obp : ∀ {a : Int} {t : Nat}, Ob σ a t → a ≠ p := fun ho e => by
    have := ho.small
    rw [e] at this
    omega
  have ob' : ∀ {a : Int} {t : Nat}, Ob (st σ p 0 j v) a t → Ob σ a t := fun ho => ⟨ho.1, ho.2.1, by rw [← tge]; exact ho.2.2⟩
  have ok : ∀ {r : Nat} {z : Int}, okR σ r z → okR (st σ p 0 j v) r z := fun h => by
    unfold okR
    rw [tge]
    exact h
  have hh : ∀ {a : Int}, tg σ a ≠ 0 → a ≠ p → H'[cb X + a.toNat]? = H[cb X + a.toNat]? := fun h1 h2 => hoq _ (sim_addr hS (by omega) h1 h2)
  refine ⟨?_, ?_, ?_, ?_, ?_, ?_, ?_⟩
  · intro a t ho
    have ho := ob' ho
    obtain ⟨q, hq, hb⟩ := sO a t ho
    refine ⟨q, hq, (t_OB.kept hb (hh ho.ne0 (obp ho))).to fun k _ => ?_⟩
    unfold zval
    rw [off (obp ho)]
  · intro a t k κ' ho hf hne
    have ho := ob' ho
    rw [off (obp ho)] at hne ⊢
    obtain ⟨p1, p2, p3, p4, p5, p6⟩ := sA a t k κ' ho hf hne
    have hnp : σ a k (-1) ≠ p := fun e => by rw [e] at p2; omega
    refine ⟨p1, by rw [tge]; exact p2, by rw [off hnp]; exact p3, by rw [off hnp]; exact p4, ?_, by rw [off (obp ho)]; exact p6⟩
    rw [hh (by omega) hnp, p5, off (obp ho)]
  · intro a t k κ' h1 h2 ht hf
    rw [tge] at ht
    rw [off (obp ⟨h1, h2, Or.inl ht⟩)]
    exact sF a t k κ' h1 h2 ht hf
  · intro a t k ho
    have ho := ob' ho
    rw [off (obp ho)]
    exact sR a t k ho
  · intro a t k h1 h2 ht
    rw [tge] at ht
    rw [off (obp ⟨h1, h2, Or.inl ht⟩)]
    obtain ⟨w1, w2⟩ := sW a t k h1 h2 ht
    exact ⟨fun hf => (w1 hf).imp_right ok, fun κ hf h4 j hj hj2 => (w2 κ hf h4 j hj hj2).imp_right ok⟩
  · intro p' κ' hκ' hp'
    rw [tge] at hp'
    by_cases e : p' = p
    · subst e
      have : κ' = κ := by omega
      subst this
      have e1 : st σ p' 0 j v p' 1 0 = σ p' 1 0 := st_ne (by omega)
      have hat : ∀ i : Int, st σ p' 0 j v p' 0 i = if i = j then v else σ p' 0 i := by
        intro i
        by_cases h : i = j
        · rw [if_pos h, h, st_eq]
        · rw [if_neg h, st_ne (by omega)]
      obtain ⟨s1, s2, s3⟩ := sS p' κ' hκ hp'
      rw [e1]
      refine ⟨s1, ?_, fun i hi hi2 => ?_⟩
      · rw [hc, arrV_store]
        congr 2
        funext i
        rw [hat]
        unfold updV
        by_cases h : i = j.toNat
        · rw [if_pos h, if_pos (by omega)]
        · rw [if_neg h, if_neg (by omega)]
      · rw [hat]
        split
        · exact hv
        · exact s3 i hi hi2
    · rw [off e, hh (by omega) e]
      exact sS p' κ' hκ' hp'
  · have hpp := hS.pos (a := p) (by omega)
    have : nx (st σ p 0 j v) = nx σ := st_ne (by omega)
    unfold SimN
    rw [this, hz]
    exact ⟨sN.1, sN.2.1, fun a h => sN.2.2 a (by rw [← tge]; exact h)⟩
theorem att_off {σ : St} {a p x : Int} {k : Nat} (h1 : x ≠ a) (h2 : x ≠ p) : att σ a k p x = σ x := by
  funext f j
  unfold att
  rw [if_neg (fun q => h1 q.1), if_neg (fun q => h2 q.1), if_neg (fun q => h2 q.1), if_neg (fun q => h2 q.1)]
theorem att_a {σ : St} {a p : Int} {k f : Nat} (h1 : a ≠ p) (h2 : f ≠ k) : att σ a k p a f = σ a f := by
  funext j
  unfold att
  rw [if_neg (fun q => h2 q.2), if_neg (fun q => h1 q.1), if_neg (fun q => h1 q.1), if_neg (fun q => h1 q.1)]
theorem att_p {σ : St} {a p : Int} {k : Nat} : att σ a k p a k (-1) = p := by
  unfold att
  rw [if_pos ⟨rfl, rfl⟩, if_pos rfl]
theorem att_e {σ : St} {a p j : Int} {k : Nat} (h : 0 ≤ j) : att σ a k p a k j = σ p 0 j := by
  unfold att
  rw [if_pos ⟨rfl, rfl⟩, if_neg (by omega), if_pos h]
theorem att_tgo {σ : St} {a p x : Int} {k : Nat} (hk : k ≠ 99) (h : x ≠ p) : tg (att σ a k p) x = tg σ x := by
  unfold tg att
  rw [if_neg (fun q => hk q.2.symm), if_neg (fun q => h q.1), if_neg (fun q => h q.1), if_neg (fun q => h q.1)]
theorem att_tgp {σ : St} {a p : Int} {k : Nat} (hk : k ≠ 99) : tg (att σ a k p) p = 50 := by
  unfold tg att
  rw [if_neg (fun q => hk q.2.symm), if_pos ⟨rfl, rfl, rfl⟩]
/-- an array comes into a field of an object that isn't whole yet -/
theorem sim_att {X : Cxt} {σ : St} {H H' : Heap} {a p : Int} {t k κ : Nat} {q : vw_C} (hS : Sim X σ H) (h0 : 0 < t ∧ t ≤ 18) (ha : tg σ a = -(t : Int)) (hq : zcl[t - 1]? = some q) (hκ : κ < 10) (hf : kf t k = 10 + κ) (hp : tg σ p = 60 + (κ : Int)) (hn : σ p 1 0 = (kl t k : Int))
    (hc : t_OB (cb X + a.toNat) ((cD X).1 (t - 1)) q.2.2 ((cD X).2 (t - 1)) H' (updV (zval X σ a t) k (jR X p)))
    (hz : H'.size = H.size) (hoq : ∀ r : Nat, r ≠ cb X + a.toNat → H'[r]? = H[r]?) : Sim X (att σ a k p) H' := by
  obtain ⟨sO, sA, sF, sR, sW, sS, sN⟩ := id hS
  have hk58 : k < 58 := zf_lt (t := t) (by omega)
  have hap : a ≠ p := fun e => by rw [e] at ha; omega
  have ho0 : Ob σ a t := ⟨h0.1, h0.2, Or.inr ha⟩
  have tgo : ∀ {x : Int}, x ≠ p → tg (att σ a k p) x = tg σ x := fun h => att_tgo (by omega) h
  have tgp : tg (att σ a k p) p = 50 := att_tgp (by omega)
  have ob' : ∀ {x : Int} {t' : Nat}, Ob (att σ a k p) x t' → x ≠ p ∧ Ob σ x t' := by
    intro x t' ho
    have hx : x ≠ p := fun e => by
      have := ho.small
      have h2 := ho.2.2
      rw [e, tgp] at h2
      have := ho.2.1
      omega
    exact ⟨hx, ho.1, ho.2.1, by rw [← tgo hx]; exact ho.2.2⟩
  have ok : ∀ {r : Nat} {z : Int}, (r ≤ 18 ∨ r = 100) → okR σ r z → okR (att σ a k p) r z := fun hr h => okR_mono hr (fun x _ h2 => tgo (fun e => by rw [e] at h2; omega)) h
  have hh : ∀ {x : Int}, tg σ x ≠ 0 → x ≠ a → H'[cb X + x.toNat]? = H[cb X + x.toNat]? := fun h1 h2 => hoq _ (sim_addr hS (by omega) h1 h2)
  have fld : ∀ {x : Int} {f : Nat}, x ≠ p → (x ≠ a ∨ f ≠ k) → att σ a k p x f = σ x f := by
    intro x f hx h
    by_cases e : x = a
    · subst e
      exact att_a hap (h.resolve_left (fun h => h rfl))
    · rw [att_off e hx]
  refine ⟨?_, ?_, ?_, ?_, ?_, ?_, ?_⟩
  · intro x t' ho
    obtain ⟨hx, hb⟩ := ob' ho
    by_cases e : x = a
    · subst e
      have := hb.inj ho0
      subst this
      refine ⟨q, hq, t_OB.to hc fun j _ => ?_⟩
      unfold updV
      by_cases ej : j = k
      · rw [if_pos ej, ej, zval_p hf, att_p]
      · rw [if_neg ej]
        unfold zval
        rw [fld hx (Or.inr ej)]
    · obtain ⟨q', hq', hbb⟩ := sO x t' hb
      refine ⟨q', hq', (t_OB.kept hbb (hh hb.ne0 e)).to fun j _ => ?_⟩
      unfold zval
      rw [fld hx (Or.inl e)]
  · intro x t' k' κ' ho hf' hne
    obtain ⟨hx, hb⟩ := ob' ho
    by_cases e : x ≠ a ∨ k' ≠ k
    · rw [fld hx e] at hne ⊢
      obtain ⟨p1, p2, p3, p4, p5, p6⟩ := sA x t' k' κ' hb hf' hne
      have hnp : σ x k' (-1) ≠ p := fun e => by rw [e] at p2; omega
      have hna : σ x k' (-1) ≠ a := fun e => by rw [e] at p2; omega
      refine ⟨p1, by rw [tgo hnp]; exact p2, by rw [att_off hna hnp]; exact p3, by rw [att_off hna hnp]; exact p4, ?_, by rw [fld hx e]; exact p6⟩
      rw [hh (by omega) hna, p5, fld hx e]
    · have e1 : x = a := by omega
      have e2 : k' = k := by omega
      subst e1; subst e2
      have := hb.inj ho0
      subst this
      have : κ' = κ := by omega
      subst this
      obtain ⟨s1, s2, s3⟩ := sS p κ' hκ hp
      rw [att_p]
      refine ⟨(hS.pos (a := p) (by omega)).1, tgp, ?_, ?_, ?_, fun j hj hj2 => ?_⟩
      · unfold att
        rw [if_neg (fun q => hap q.1.symm), if_neg (by omega), if_pos ⟨rfl, rfl, rfl⟩]
      · unfold att
        rw [if_neg (fun q => hap q.1.symm), if_neg (by omega), if_neg (by omega), if_pos ⟨rfl, rfl, rfl⟩]
      · rw [hh (by omega) (Ne.symm hap), s2, hn, Int.toNat_natCast]
        congr 2
        funext j
        rw [att_e (by omega)]
      · rw [att_e hj]
        exact s3 j hj (by omega)
  · intro x t' k' κ' h1 h2 ht hf'
    have hx : x ≠ p := fun e => by rw [e, tgp] at ht; omega
    rw [tgo hx] at ht
    rw [fld hx (Or.inl (fun e => by rw [e] at ht; omega))]
    exact sF x t' k' κ' h1 h2 ht hf'
  · intro x t' k' ho
    obtain ⟨hx, hb⟩ := ob' ho
    by_cases e : x ≠ a ∨ k' ≠ k
    · rw [fld hx e]
      exact sR x t' k' hb
    · have e1 : x = a := by omega
      have e2 : k' = k := by omega
      subst e1; subst e2
      have := hb.inj ho0
      subst this
      exact ⟨fun h => by omega, fun h => by omega, fun h => by omega⟩
  · intro x t' k' h1 h2 ht
    have hx : x ≠ p := fun e => by rw [e, tgp] at ht; omega
    rw [tgo hx] at ht
    rw [fld hx (Or.inl (fun e => by rw [e] at ht; omega))]
    obtain ⟨w1, w2⟩ := sW x t' k' h1 h2 ht
    exact ⟨fun hf => (w1 hf).imp_right (ok (kt_le t' k')), fun κ hf h4 j hj hj2 => (w2 κ hf h4 j hj hj2).imp_right (ok (kt_le t' k'))⟩
  · intro x κ' hκ' hx'
    have hx : x ≠ p := fun e => by rw [e, tgp] at hx'; omega
    rw [tgo hx] at hx'
    have hxa : x ≠ a := fun e => by rw [e] at hx'; omega
    rw [att_off hxa hx, hh (by omega) hxa]
    exact sS x κ' hκ' hx'
  · have hpp := hS.pos (a := p) (by omega)
    have hpa := hS.pos (a := a) (by omega)
    have : nx (att σ a k p) = nx σ := by
      show att σ a k p (-1) 0 0 = σ (-1) 0 0
      rw [att_off (by omega) (by omega)]
    unfold SimN
    rw [this, hz]
    refine ⟨sN.1, sN.2.1, fun x h => ?_⟩
    by_cases e : x = p
    · rw [e]; exact hpp
    · exact sN.2.2 x (by rw [← tgo e]; exact h)
theorem seal_f {σ : St} {L : List Int} {x : Int} {f : Nat} (h : f ≠ 99) : sealz σ L x f = σ x f := by
  funext j
  unfold sealz
  rw [if_neg (fun q => h q.1)]
theorem seal_tgo {σ : St} {L : List Int} {x : Int} (h : x ∉ L) : tg (sealz σ L) x = tg σ x := by
  unfold tg sealz
  rw [if_neg (fun q => h q.2.2)]
theorem seal_tg {σ : St} {L : List Int} {x : Int} (h : x ∈ L) : tg (sealz σ L) x = -(tg σ x) := by
  unfold tg sealz
  rw [if_pos ⟨rfl, rfl, h⟩]
/-- what an object needs to be whole -/
def SealOk (σ' : St) (a : Int) (t : Nat) : Prop := (∀ k κ : Nat, kf t k = 10 + κ → σ' a k (-1) ≠ -1) ∧ (∀ k : Nat, kf t k = 3 → (σ' a k 0 = -1 ∧ kn t k = 0) ∨ okR σ' (kt t k) (σ' a k 0)) ∧ ∀ k κ : Nat, kf t k = 10 + κ → 4 ≤ κ → ∀ j : Int, 0 ≤ j → j < kl t k → σ' a k j = -1 ∨ okR σ' (kt t k) (σ' a k j)
theorem sim_seal {X : Cxt} {σ : St} {H : Heap} {L : List Int} (hS : Sim X σ H) (hL : ∀ a ∈ L, ∃ t : Nat, 0 < t ∧ t ≤ 18 ∧ tg σ a = -(t : Int) ∧ SealOk (sealz σ L) a t) : Sim X (sealz σ L) H := by
  obtain ⟨sO, sA, sF, sR, sW, sS, sN⟩ := id hS
  have ob' : ∀ {x : Int} {t' : Nat}, Ob (sealz σ L) x t' → Ob σ x t' := by
    intro x t' ho
    obtain ⟨h1, h2, h3⟩ := ho
    by_cases e : x ∈ L
    · rw [seal_tg e] at h3
      exact ⟨h1, h2, by omega⟩
    · rw [seal_tgo e] at h3
      exact ⟨h1, h2, h3⟩
  have big : ∀ {x : Int}, 18 < tg (sealz σ L) x → x ∉ L ∧ tg (sealz σ L) x = tg σ x := by
    intro x h
    by_cases e : x ∈ L
    · obtain ⟨t, g1, g2, g3, -⟩ := hL x e
      rw [seal_tg e] at h
      omega
    · exact ⟨e, seal_tgo e⟩
  have ok : ∀ {r : Nat} {z : Int}, (r ≤ 18 ∨ r = 100) → okR σ r z → okR (sealz σ L) r z := fun hr h => okR_mono hr (fun x h1 h2 => seal_tgo (fun e => by obtain ⟨t, g1, g2, g3, -⟩ := hL x e; omega)) h
  refine ⟨?_, ?_, ?_, ?_, ?_, ?_, ?_⟩
  · intro x t' ho
    obtain ⟨q, hq, hb⟩ := sO x t' (ob' ho)
    have h2 : q.2.2 ≤ 58 := by
      rcases Nat.lt_or_ge (t' - 1) zcl.length with h | h
      · have key : ∀ q ∈ zcl, q.2.2 ≤ 58 := by decide
        exact key q (List.mem_of_getElem? hq)
      · rw [List.getElem?_eq_none h] at hq
        cases hq
    refine ⟨q, hq, hb.to fun k hk => ?_⟩
    unfold zval
    rw [seal_f (by omega)]
  · intro x t' k κ ho hf hne
    have hk : k < 58 := zf_lt (t := t') (by omega)
    rw [seal_f (by omega)] at hne ⊢
    obtain ⟨p1, p2, p3, p4, p5, p6⟩ := sA x t' k κ (ob' ho) hf hne
    refine ⟨p1, ?_, by rw [seal_f (by decide)]; exact p3, by rw [seal_f (by decide)]; exact p4, by rw [p5, seal_f (by omega)], by rw [seal_f (by omega)]; exact p6⟩
    rw [seal_tgo (fun e => by obtain ⟨t, g1, g2, g3, -⟩ := hL _ e; omega)]
    exact p2
  · intro x t' k κ h1 h2 ht hf
    by_cases e : x ∈ L
    · obtain ⟨t, g1, g2, g3, g4⟩ := hL x e
      rw [seal_tg e] at ht
      have : t = t' := by omega
      subst this
      exact g4.1 k κ hf
    · rw [seal_tgo e] at ht
      have hk : k < 58 := zf_lt (t := t') (by omega)
      rw [seal_f (by omega)]
      exact sF x t' k κ h1 h2 ht hf
  · intro x t' k ho
    by_cases hk : k = 99
    · have := zf_lt (t := t') (k := k)
      exact ⟨fun h => by have := this (by omega); omega, fun h => by have := this (by omega); omega, fun h => by have := this (by omega); omega⟩
    · rw [seal_f hk]
      exact sR x t' k (ob' ho)
  · intro x t' k h1 h2 ht
    by_cases e : x ∈ L
    · obtain ⟨t, g1, g2, g3, g4⟩ := hL x e
      rw [seal_tg e] at ht
      have : t = t' := by omega
      subst this
      exact ⟨g4.2.1 k, g4.2.2 k⟩
    · rw [seal_tgo e] at ht
      obtain ⟨w1, w2⟩ := sW x t' k h1 h2 ht
      refine ⟨fun hf => ?_, fun κ hf h4 j hj hj2 => ?_⟩
      · have hk : k < 58 := zf_lt (t := t') (by omega)
        rw [seal_f (by omega)]
        exact (w1 hf).imp_right (ok (kt_le t' k))
      · have hk : k < 58 := zf_lt (t := t') (by omega)
        rw [seal_f (by omega)]
        exact (w2 κ hf h4 j hj hj2).imp_right (ok (kt_le t' k))
  · intro p κ hκ hp
    obtain ⟨h1, h2⟩ := big (x := p) (by omega)
    rw [h2] at hp
    rw [seal_f (by decide), seal_f (by decide)]
    exact sS p κ hκ hp
  · have : nx (sealz σ L) = nx σ := by
      show sealz σ L (-1) 0 0 = σ (-1) 0 0
      rw [seal_f (by decide)]
    unfold SimN
    rw [this]
    refine ⟨sN.1, sN.2.1, fun x h => sN.2.2 x ?_⟩
    by_cases e : x ∈ L
    · obtain ⟨t, g1, g2, g3, -⟩ := hL x e
      omega
    · rw [← seal_tgo e]
      exact h
