/-! THE ABSTRACT STORE: object, field, index -> integer; its likeness to the heap -/
set_option maxRecDepth 100000
abbrev St : Type := Int → Nat → Int → Int
def st (σ : St) (a : Int) (f : Nat) (j v : Int) : St := fun a' f' j' => if a' = a ∧ f' = f ∧ j' = j then v else σ a' f' j'
theorem st_eq (σ : St) (a : Int) (f : Nat) (j v : Int) : st σ a f j v a f j = v := if_pos ⟨rfl, rfl, rfl⟩
theorem st_ne {σ : St} {a a' : Int} {f f' : Nat} {j j' v : Int} (h : ¬ (a' = a ∧ f' = f ∧ j' = j)) : st σ a f j v a' f' j' = σ a' f' j' := if_neg h
theorem st_off {σ : St} {a a' : Int} {f f' : Nat} {j v : Int} (h : a' ≠ a ∨ f' ≠ f) : st σ a f j v a' f' = σ a' f' := by
  funext j'
  refine st_ne fun ⟨h1, h2, _⟩ => ?_
  rcases h with h | h
  · exact h h1
  · exact h h2
def tg (σ : St) (a : Int) : Int := σ a 99 0
def nx (σ : St) : Int := σ (-1) 0 0
def rng (z : Int) : Prop := -2147483648 ≤ z ∧ z ≤ 2147483647
def rngL (z : Int) : Prop := -9223372036854775808 ≤ z ∧ z ≤ 9223372036854775807
abbrev Cxt : Type := Nat × (Nat → Nat) × va_G × (Nat → ClassId)
def cb (X : Cxt) : Nat := X.1
def cs (X : Cxt) : Nat → Nat := X.2.1
def cD (X : Cxt) : va_G := X.2.2.1
def cA (X : Cxt) : Nat → ClassId := X.2.2.2
abbrev jI (z : Int) : Value := .int (Int32.ofInt z)
abbrev jL (z : Int) : Value := .long (Int64.ofInt z)
/-- a reference: -1 null; from 0 on the cells made since the start; below -1 the text constants -/
def jR (X : Cxt) (z : Int) : Value := if z = -1 then .null else if 0 ≤ z then .ref (cb X + z.toNat) else .ref (cs X (-z - 2).toNat)
theorem jR_null (X : Cxt) : jR X (-1) = .null := rfl
theorem jR_ref {X : Cxt} {z : Int} (h : 0 ≤ z) : jR X z = .ref (cb X + z.toNat) := by
  unfold jR
  rw [if_neg (by omega), if_pos h]
theorem jR_str {X : Cxt} {z : Int} (h : z ≤ -2) : jR X z = .ref (cs X (-z - 2).toNat) := by
  unfold jR
  rw [if_neg (by omega), if_neg (by omega)]
theorem jR_or (X : Cxt) (z : Int) : jR X z = .null ∨ ∃ x, jR X z = .ref x := by
  unfold jR
  by_cases h : z = -1
  · exact Or.inl (if_pos h)
  · rw [if_neg h]
    by_cases h2 : 0 ≤ z
    · exact Or.inr ⟨_, if_pos h2⟩
    · exact Or.inr ⟨_, if_neg h2⟩
theorem jR_nn {X : Cxt} {z : Int} (h : z ≠ -1) : ∃ x, jR X z = .ref x := by
  unfold jR
  rw [if_neg h]
  by_cases h2 : 0 ≤ z
  · exact ⟨_, if_pos h2⟩
  · exact ⟨_, if_neg h2⟩
theorem jR_cat (X : Cxt) (z : Int) : (jR X z).category = 1 := by
  rcases jR_or X z with h | ⟨x, h⟩ <;> rw [h] <;> rfl
/-- what a field's slot holds -/
def zval (X : Cxt) (σ : St) (a : Int) (t k : Nat) : Value := match kf t k with
  | 0 => jI (σ a k 0)
  | 1 => jI (σ a k 0)
  | 2 => jL (σ a k 0)
  | 3 => jR X (σ a k 0)
  | _ => jR X (σ a k (-1))
/-- an array's element, by the array's kind: byte, int, long, boolean, references -/
def zel (X : Cxt) (κ : Nat) (z : Int) : Value := match κ with
  | 0 => jI z
  | 1 => jI z
  | 2 => jL z
  | 3 => jI z
  | _ => jR X z
def zok (κ : Nat) (z : Int) : Prop := match κ with
  | 0 => -128 ≤ z ∧ z ≤ 127
  | 1 => rng z
  | 2 => rngL z
  | 3 => 0 ≤ z ∧ z ≤ 1
  | _ => True
def ztyA : List FieldType := [.byte, .int, .long, .boolean, .object "java/lang/String", .object "CombTable$Who", .object "CombTable$Kind", .object "CombTable$Talk", .object "CombTable$Minutes", .object "CombTable$Cond"]
/-- a reference of a kind -/
def okR (σ : St) (r : Nat) (z : Int) : Prop := if r = 0 then z ≤ -2 ∧ -40 < z else if r = 100 then 13 ≤ tg σ z ∧ tg σ z ≤ 17 else tg σ z = (r : Int)
/-- an object, made whole (its tag) or not yet (less its tag) -/
def Ob (σ : St) (a : Int) (t : Nat) : Prop := 0 < t ∧ t ≤ 18 ∧ (tg σ a = (t : Int) ∨ tg σ a = -(t : Int))
def SimO (X : Cxt) (σ : St) (H : Heap) : Prop := ∀ (a : Int) (t : Nat), Ob σ a t → ∃ q : vw_C, zcl[t - 1]? = some q ∧ t_OB (cb X + a.toNat) ((cD X).1 (t - 1)) q.2.2 ((cD X).2 (t - 1)) H (zval X σ a t)
def SimA1 (X : Cxt) (σ : St) (H : Heap) (a : Int) (t k κ : Nat) (p : Int) : Prop := 0 ≤ p ∧ tg σ p = 50 ∧ σ p 2 0 = a ∧ σ p 3 0 = (k : Int) ∧ H[cb X + p.toNat]? = some (arrV (cA X κ) (kl t k) (fun j => zel X κ (σ a k (j : Int)))) ∧ ∀ j : Int, 0 ≤ j → j < kl t k → zok κ (σ a k j)
def SimA (X : Cxt) (σ : St) (H : Heap) : Prop := ∀ (a : Int) (t k κ : Nat), Ob σ a t → kf t k = 10 + κ → σ a k (-1) ≠ -1 → SimA1 X σ H a t k κ (σ a k (-1))
def SimF (σ : St) : Prop := ∀ (a : Int) (t k κ : Nat), 0 < t → t ≤ 18 → tg σ a = (t : Int) → kf t k = 10 + κ → σ a k (-1) ≠ -1
def SimR (σ : St) : Prop := ∀ (a : Int) (t k : Nat), Ob σ a t → (kf t k = 0 → rng (σ a k 0)) ∧ (kf t k = 1 → 0 ≤ σ a k 0 ∧ σ a k 0 ≤ 1) ∧ (kf t k = 2 → rngL (σ a k 0))
def SimW (σ : St) : Prop := ∀ (a : Int) (t k : Nat), 0 < t → t ≤ 18 → tg σ a = (t : Int) → (kf t k = 3 → (σ a k 0 = -1 ∧ kn t k = 0) ∨ okR σ (kt t k) (σ a k 0)) ∧ ∀ κ : Nat, kf t k = 10 + κ → 4 ≤ κ → ∀ j : Int, 0 ≤ j → j < kl t k → σ a k j = -1 ∨ okR σ (kt t k) (σ a k j)
def SimS (X : Cxt) (σ : St) (H : Heap) : Prop := ∀ (p : Int) (κ : Nat), κ < 10 → tg σ p = 60 + (κ : Int) → 0 ≤ σ p 1 0 ∧ H[cb X + p.toNat]? = some (arrV (cA X κ) (σ p 1 0).toNat (fun j => zel X κ (σ p 0 (j : Int)))) ∧ ∀ j : Int, 0 ≤ j → j < σ p 1 0 → zok κ (σ p 0 j)
def SimN (X : Cxt) (σ : St) (H : Heap) : Prop := (H.size : Int) = cb X + nx σ ∧ 0 ≤ nx σ ∧ ∀ a : Int, tg σ a ≠ 0 → 0 ≤ a ∧ a < nx σ
def Sim (X : Cxt) (σ : St) (H : Heap) : Prop := SimO X σ H ∧ SimA X σ H ∧ SimF σ ∧ SimR σ ∧ SimW σ ∧ SimS X σ H ∧ SimN X σ H
theorem Sim.pos {X : Cxt} {σ : St} {H : Heap} (h : Sim X σ H) {a : Int} (ht : tg σ a ≠ 0) : 0 ≤ a ∧ a < nx σ := h.2.2.2.2.2.2.2.2 a ht
theorem Ob.ne0 {σ : St} {a : Int} {t : Nat} (h : Ob σ a t) : tg σ a ≠ 0 := by
  obtain ⟨h1, h2, h3 | h3⟩ := h <;> omega
theorem Ob.small {σ : St} {a : Int} {t : Nat} (h : Ob σ a t) : tg σ a ≤ 18 := by
  obtain ⟨h1, h2, h3 | h3⟩ := h <;> omega
theorem Ob.inj {σ : St} {a : Int} {t t' : Nat} (h : Ob σ a t) (h' : Ob σ a t') : t = t' := by
  obtain ⟨h1, h2, h3⟩ := h
  obtain ⟨h4, h5, h6⟩ := h'
  omega
theorem zf_lt {t k : Nat} (h : kf t k ≠ 4) : k < 58 := by
  rcases Nat.lt_or_ge k 58 with h1 | h1
  · exact h1
  · exfalso
    apply h
    have key : ∀ l ∈ zfl, l.length ≤ 58 := by decide
    have : zf t k = (4, 0, 0, 0) := by
      unfold zf
      rw [List.getD_eq_getElem?_getD, List.getElem?_eq_none]
      · rfl
      · rcases Nat.lt_or_ge (t - 1) zfl.length with h2 | h2
        · rw [List.getD_eq_getElem?_getD, List.getElem?_eq_getElem h2]
          exact Nat.le_trans (key _ (List.getElem_mem h2)) h1
        · rw [List.getD_eq_getElem?_getD, List.getElem?_eq_none h2]
          exact Nat.zero_le _
    unfold kf
    rw [this]
/-- the same store but for one field of one object; its tags, and what array cells say of their owners, untouched -/
def Off (σ σ' : St) (a : Int) (k : Nat) : Prop := ∀ (a' : Int) (f' : Nat), (a' ≠ a ∨ f' ≠ k) → σ' a' f' = σ a' f'
theorem off_st (σ : St) (a : Int) (k : Nat) (j v : Int) : Off σ (st σ a k j v) a k := fun _ _ h => st_off h
theorem off_tg {σ σ' : St} {a : Int} {k : Nat} (h : Off σ σ' a k) (hk : k < 58) (a' : Int) : tg σ' a' = tg σ a' := by
  show σ' a' 99 0 = σ a' 99 0
  rw [h a' 99 (Or.inr (by omega))]
theorem off_ob {σ σ' : St} {a : Int} {k : Nat} (h : Off σ σ' a k) (hk : k < 58) {a' : Int} {t : Nat} : Ob σ' a' t ↔ Ob σ a' t := by
  unfold Ob
  rw [off_tg h hk]
theorem off_okR {σ σ' : St} {a : Int} {k : Nat} (h : Off σ σ' a k) (hk : k < 58) {r : Nat} {z : Int} : okR σ' r z ↔ okR σ r z := by
  unfold okR
  rw [off_tg h hk]
theorem off_zval {X : Cxt} {σ σ' : St} {a : Int} {k : Nat} (h : Off σ σ' a k) {a' : Int} {t' k' : Nat} (hn : a' ≠ a ∨ k' ≠ k) : zval X σ' a' t' k' = zval X σ a' t' k' := by
  unfold zval
  rw [h a' k' hn]
theorem zval_congr {X : Cxt} {σ σ' : St} {a : Int} {t k : Nat} (h0 : σ' a k 0 = σ a k 0) (h1 : σ' a k (-1) = σ a k (-1)) : zval X σ' a t k = zval X σ a t k := by
  unfold zval
  rw [h0, h1]
theorem sim_addr {X : Cxt} {σ : St} {H : Heap} (h : Sim X σ H) {a a' : Int} (h1 : tg σ a ≠ 0) (h2 : tg σ a' ≠ 0) (hn : a' ≠ a) : cb X + a'.toNat ≠ cb X + a.toNat := by
  have := h.pos h1
  have := h.pos h2
  omega
/-- a scalar field is written -/
theorem sim_put {X : Cxt} {σ : St} {H H' : Heap} {a z : Int} {t k : Nat} {q : vw_C} (hS : Sim X σ H) (ho : Ob σ a t) (hq : zcl[t - 1]? = some q) (hk : kf t k ≤ 3)
    (hc : t_OB (cb X + a.toNat) ((cD X).1 (t - 1)) q.2.2 ((cD X).2 (t - 1)) H' (updV (zval X σ a t) k (zval X (st σ a k 0 z) a t k)))
    (hz : H'.size = H.size) (hoq : ∀ r : Nat, r ≠ cb X + a.toNat → H'[r]? = H[r]?)
    (h0 : kf t k = 0 → rng z) (h1 : kf t k = 1 → 0 ≤ z ∧ z ≤ 1) (h2 : kf t k = 2 → rngL z) (h3 : kf t k = 3 → tg σ a = (t : Int) → (z = -1 ∧ kn t k = 0) ∨ okR σ (kt t k) z) : Sim X (st σ a k 0 z) H' := by
  have hk58 : k < 58 := zf_lt (t := t) (by omega)
  have hoff := off_st σ a k 0 z
  obtain ⟨sO, sA, sF, sR, sW, sS, sN⟩ := id hS
  have at0 : ∀ {a' : Int} {k' : Nat}, (a' ≠ a ∨ k' ≠ k) → st σ a k 0 z a' k' = σ a' k' := fun h => st_off h
  have m1 : st σ a k 0 z a k (-1) = σ a k (-1) := st_ne (by omega)
  have keyk : ∀ {a' : Int} {t' k' κ : Nat}, Ob σ a' t' → kf t' k' = 10 + κ → (a' ≠ a ∨ k' ≠ k) := by
    intro a' t' k' κ hb hf
    by_cases e : a' = a
    · subst e
      have := hb.inj ho
      subst this
      exact Or.inr (fun e => by subst e; omega)
    · exact Or.inl e
  have pa : ∀ {p : Int}, 18 < tg σ p → p ≠ a := fun h e => by
    have := ho.small
    rw [e] at h
    omega
  refine ⟨?_, ?_, ?_, ?_, ?_, ?_, ?_⟩
  · intro a' t' hb
    rw [off_ob hoff hk58] at hb
    by_cases e : a' = a
    · subst e
      have := hb.inj ho
      subst this
      refine ⟨q, hq, t_OB.to hc fun j _ => ?_⟩
      unfold updV
      by_cases ej : j = k
      · rw [if_pos ej, ej]
      · rw [if_neg ej, off_zval hoff (Or.inr ej)]
    · obtain ⟨q', hq', hO⟩ := sO a' t' hb
      refine ⟨q', hq', (t_OB.kept hO (hoq _ (sim_addr hS ho.ne0 hb.ne0 e))).to fun j _ => ?_⟩
      rw [off_zval hoff (Or.inl e)]
  · intro a' t' k' κ hb hf hp
    rw [off_ob hoff hk58] at hb
    have hne := keyk hb hf
    rw [at0 hne] at hp ⊢
    obtain ⟨p1, p2, p3, p4, p5, p6⟩ := sA a' t' k' κ hb hf hp
    have hpa : σ a' k' (-1) ≠ a := pa (by omega)
    refine ⟨p1, by rw [off_tg hoff hk58]; exact p2, by rw [at0 (Or.inl hpa)]; exact p3, by rw [at0 (Or.inl hpa)]; exact p4, ?_, by rw [at0 hne]; exact p6⟩
    rw [hoq _ (sim_addr hS ho.ne0 (by omega) hpa), p5, at0 hne]
  · intro a' t' k' κ x1 x2 hb hf
    rw [off_tg hoff hk58] at hb
    rw [at0 (keyk ⟨x1, x2, Or.inl hb⟩ hf)]
    exact sF a' t' k' κ x1 x2 hb hf
  · intro a' t' k' hb
    rw [off_ob hoff hk58] at hb
    by_cases e : a' ≠ a ∨ k' ≠ k
    · rw [at0 e]
      exact sR a' t' k' hb
    · have e1 : a' = a := by omega
      have e2 : k' = k := by omega
      subst e1; subst e2
      have := hb.inj ho
      subst this
      rw [st_eq]
      exact ⟨h0, h1, h2⟩
  · intro a' t' k' x1 x2 hb
    rw [off_tg hoff hk58] at hb
    by_cases e : a' ≠ a ∨ k' ≠ k
    · rw [at0 e]
      refine ⟨fun hf => ?_, fun κ hf h4 j hj hj2 => ?_⟩
      · rw [off_okR hoff hk58]
        exact (sW a' t' k' x1 x2 hb).1 hf
      · rw [off_okR hoff hk58]
        exact (sW a' t' k' x1 x2 hb).2 κ hf h4 j hj hj2
    · have e1 : a' = a := by omega
      have e2 : k' = k := by omega
      subst e1; subst e2
      have := Ob.inj ⟨x1, x2, Or.inl hb⟩ ho
      subst this
      refine ⟨fun hf => ?_, fun κ hf => by omega⟩
      rw [st_eq, off_okR hoff hk58]
      exact h3 hf hb
  · intro p κ hκ hp
    rw [off_tg hoff hk58] at hp
    have hpa : p ≠ a := pa (by omega)
    rw [at0 (Or.inl hpa), at0 (Or.inl hpa)]
    obtain ⟨s1, s2, s3⟩ := sS p κ hκ hp
    refine ⟨s1, ?_, s3⟩
    rw [hoq _ (sim_addr hS ho.ne0 (by omega) hpa)]
    exact s2
  · have ha := hS.pos ho.ne0
    have : nx (st σ a k 0 z) = nx σ := st_ne (by omega)
    unfold SimN
    rw [this, hz]
    exact ⟨sN.1, sN.2.1, fun a' h => sN.2.2 a' (by rw [← off_tg hoff hk58]; exact h)⟩
/-- an owned array is written -/
theorem sim_aput {X : Cxt} {σ σ' : St} {H H' : Heap} {a : Int} {t k κ : Nat} (hS : Sim X σ H) (ho : Ob σ a t) (hf : kf t k = 10 + κ) (hp : σ a k (-1) ≠ -1) (hoff : Off σ σ' a k) (hm : σ' a k (-1) = σ a k (-1))
    (hc : H'[cb X + (σ a k (-1)).toNat]? = some (arrV (cA X κ) (kl t k) (fun j => zel X κ (σ' a k (j : Int))))) (hz : H'.size = H.size) (hoq : ∀ r : Nat, r ≠ cb X + (σ a k (-1)).toNat → H'[r]? = H[r]?)
    (hel : ∀ j : Int, 0 ≤ j → j < kl t k → zok κ (σ' a k j)) (hw : 4 ≤ κ → tg σ a = (t : Int) → ∀ j : Int, 0 ≤ j → j < kl t k → σ' a k j = -1 ∨ okR σ (kt t k) (σ' a k j)) : Sim X σ' H' := by
  have hk58 : k < 58 := zf_lt (t := t) (by omega)
  obtain ⟨sO, sA, sF, sR, sW, sS, sN⟩ := id hS
  obtain ⟨b1, b2, b3, b4, b5, b6⟩ := sA a t k κ ho hf hp
  have pa : ∀ {p : Int}, 18 < tg σ p → p ≠ a := fun h e => by
    have := ho.small
    rw [e] at h
    omega
  have obp : ∀ {a' : Int} {t' : Nat}, Ob σ a' t' → cb X + a'.toNat ≠ cb X + (σ a k (-1)).toNat := by
    intro a' t' hb
    refine sim_addr hS (by omega) hb.ne0 (fun e => ?_)
    have := hb.small
    rw [e] at this
    omega
  refine ⟨?_, ?_, ?_, ?_, ?_, ?_, ?_⟩
  · intro a' t' hb
    rw [off_ob hoff hk58] at hb
    obtain ⟨q', hq', hO⟩ := sO a' t' hb
    refine ⟨q', hq', (t_OB.kept hO (hoq _ (obp hb))).to fun j _ => ?_⟩
    by_cases e : a' ≠ a ∨ j ≠ k
    · rw [off_zval hoff e]
    · have e1 : a' = a := by omega
      have e2 : j = k := by omega
      subst e1; subst e2
      have := hb.inj ho
      subst this
      unfold zval
      rw [hf, Nat.add_comm 10 κ]
      show jR X _ = jR X _
      rw [hm]
  · intro a' t' k' κ' hb hf' hp'
    rw [off_ob hoff hk58] at hb
    by_cases e : a' ≠ a ∨ k' ≠ k
    · rw [hoff _ _ e] at hp' ⊢
      obtain ⟨p1, p2, p3, p4, p5, p6⟩ := sA a' t' k' κ' hb hf' hp'
      have hpa : σ a' k' (-1) ≠ a := pa (by omega)
      refine ⟨p1, by rw [off_tg hoff hk58]; exact p2, by rw [hoff _ _ (Or.inl hpa)]; exact p3, by rw [hoff _ _ (Or.inl hpa)]; exact p4, ?_, by rw [hoff _ _ e]; exact p6⟩
      rw [hoq _ (sim_addr hS (by omega) (by omega) (fun z => ?_)), p5, hoff _ _ e]
      rw [z] at p3 p4
      omega
    · have e1 : a' = a := by omega
      have e2 : k' = k := by omega
      subst e1; subst e2
      have := hb.inj ho
      subst this
      have : κ' = κ := by omega
      subst this
      rw [hm]
      have hpa : σ a' k' (-1) ≠ a' := pa (by omega)
      exact ⟨b1, by rw [off_tg hoff hk58]; exact b2, by rw [hoff _ _ (Or.inl hpa)]; exact b3, by rw [hoff _ _ (Or.inl hpa)]; exact b4, hc, hel⟩
  · intro a' t' k' κ' x1 x2 hb hf'
    rw [off_tg hoff hk58] at hb
    by_cases e : a' ≠ a ∨ k' ≠ k
    · rw [hoff _ _ e]
      exact sF a' t' k' κ' x1 x2 hb hf'
    · have e1 : a' = a := by omega
      have e2 : k' = k := by omega
      subst e1; subst e2
      rw [hm]
      exact hp
  · intro a' t' k' hb
    rw [off_ob hoff hk58] at hb
    by_cases e : a' ≠ a ∨ k' ≠ k
    · rw [hoff _ _ e]
      exact sR a' t' k' hb
    · have e1 : a' = a := by omega
      have e2 : k' = k := by omega
      subst e1; subst e2
      have := hb.inj ho
      subst this
      exact ⟨fun h => by omega, fun h => by omega, fun h => by omega⟩
  · intro a' t' k' x1 x2 hb
    rw [off_tg hoff hk58] at hb
    by_cases e : a' ≠ a ∨ k' ≠ k
    · rw [hoff _ _ e]
      refine ⟨fun hf => ?_, fun κ hf h4 j hj hj2 => ?_⟩
      · rw [off_okR hoff hk58]
        exact (sW a' t' k' x1 x2 hb).1 hf
      · rw [off_okR hoff hk58]
        exact (sW a' t' k' x1 x2 hb).2 κ hf h4 j hj hj2
    · have e1 : a' = a := by omega
      have e2 : k' = k := by omega
      subst e1; subst e2
      have := Ob.inj ⟨x1, x2, Or.inl hb⟩ ho
      subst this
      refine ⟨fun hf => by omega, fun κ' hf' h4 j hj hj2 => ?_⟩
      have : κ' = κ := by omega
      subst this
      rw [off_okR hoff hk58]
      exact hw h4 hb j hj hj2
  · intro p κ' hκ hp'
    rw [off_tg hoff hk58] at hp'
    have hpa : p ≠ a := pa (by omega)
    rw [hoff _ _ (Or.inl hpa), hoff _ _ (Or.inl hpa)]
    obtain ⟨s1, s2, s3⟩ := sS p κ' hκ hp'
    refine ⟨s1, ?_, s3⟩
    rw [hoq _ (sim_addr hS (by omega) (by omega) (fun z => ?_))]
    · exact s2
    · rw [z] at hp'
      omega
  · have ha := hS.pos ho.ne0
    have : nx σ' = nx σ := by
      show σ' (-1) 0 0 = σ (-1) 0 0
      rw [hoff _ _ (Or.inl (by omega))]
    unfold SimN
    rw [this, hz]
    exact ⟨sN.1, sN.2.1, fun a' h => sN.2.2 a' (by rw [← off_tg hoff hk58]; exact h)⟩
