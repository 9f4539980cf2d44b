/-! THROWABLES: Fault's constructor; must -/
set_option maxRecDepth 100000
theorem sim_put5 {X : Cxt} {σ : St} {H H' : Heap} {a z : Int} {t k : Nat} {q : vw_C} (hS : Sim X σ H) (h0 : 0 < t ∧ t ≤ 18) (ha : tg σ a = -(t : Int)) (hq : zcl[t - 1]? = some q) (hk : kf t k = 5)
    (hc : t_OB (cb X + a.toNat) ((cD X).1 (t - 1)) q.2.2 ((cD X).2 (t - 1)) H' (updV (zval X σ a t) k (jR X z)))
    (hz : H'.size = H.size) (hoq : ∀ r : Nat, r ≠ cb X + a.toNat → H'[r]? = H[r]?) : Sim X (st σ a k (-1) z) H' := by
  have hk58 : k < 58 := zf_lt (t := t) (by omega)
  have ho : Ob σ a t := ⟨h0.1, h0.2, Or.inr ha⟩
  have hoff := off_st σ a k (-1) z
  obtain ⟨sO, sA, sF, sR, sW, sS, sN⟩ := id hS
  have at0 : ∀ {a' : Int} {k' : Nat}, (a' ≠ a ∨ k' ≠ k) → st σ a k (-1) z a' k' = σ a' k' := fun h => st_off h
  have keyk : ∀ {a' : Int} {t' k' κ : Nat}, Ob σ a' t' → kf t' k' = 10 + κ → (a' ≠ a ∨ k' ≠ k) := by
    intro a' t' k' κ hb hf
    by_cases e : a' = a
    · subst e
      have := hb.inj ho
      subst this
      exact Or.inr (fun e => by subst e; omega)
    · exact Or.inl e
  have pa : ∀ {p : Int}, 18 < tg σ p → p ≠ a := fun h e => by
    rw [e] at h
    omega
  refine ⟨?_, ?_, ?_, ?_, ?_, ?_, ?_⟩
  · intro a' t' hb
    rw [off_ob hoff hk58] at hb
    by_cases e : a' = a
    · subst e
      have := hb.inj ho
      subst this
      refine ⟨q, hq, t_OB.to hc fun j _ => ?_⟩
      unfold updV
      by_cases ej : j = k
      · rw [if_pos ej, ej, zval_q (by omega), st_eq]
      · rw [if_neg ej, off_zval hoff (Or.inr ej)]
    · obtain ⟨q', hq', hO⟩ := sO a' t' hb
      refine ⟨q', hq', (t_OB.kept hO (hoq _ (sim_addr hS ho.ne0 hb.ne0 e))).to fun j _ => ?_⟩
      rw [off_zval hoff (Or.inl e)]
  · intro a' t' k' κ hb hf hp
    rw [off_ob hoff hk58] at hb
    have hne := keyk hb hf
    rw [at0 hne] at hp ⊢
    obtain ⟨p1, p2, p3, p4, p5, p6⟩ := sA a' t' k' κ hb hf hp
    have hpa : σ a' k' (-1) ≠ a := pa (by omega)
    refine ⟨p1, by rw [off_tg hoff hk58]; exact p2, by rw [at0 (Or.inl hpa)]; exact p3, by rw [at0 (Or.inl hpa)]; exact p4, ?_, by rw [at0 hne]; exact p6⟩
    rw [hoq _ (sim_addr hS ho.ne0 (by omega) hpa), p5, at0 hne]
  · intro a' t' k' κ x1 x2 hb hf
    rw [off_tg hoff hk58] at hb
    rw [at0 (keyk ⟨x1, x2, Or.inl hb⟩ hf)]
    exact sF a' t' k' κ x1 x2 hb hf
  · intro a' t' k' hb
    rw [off_ob hoff hk58] at hb
    by_cases e : a' ≠ a ∨ k' ≠ k
    · rw [at0 e]
      exact sR a' t' k' hb
    · have e1 : a' = a := by omega
      have e2 : k' = k := by omega
      subst e1; subst e2
      have := hb.inj ho
      subst this
      exact ⟨fun h => by omega, fun h => by omega, fun h => by omega⟩
  · intro a' t' k' x1 x2 hb
    rw [off_tg hoff hk58] at hb
    have e : a' ≠ a := fun e => by rw [e] at hb; omega
    rw [at0 (Or.inl e)]
    refine ⟨fun hf => ?_, fun κ hf h4 j hj hj2 => ?_⟩
    · rw [off_okR hoff hk58]
      exact (sW a' t' k' x1 x2 hb).1 hf
    · rw [off_okR hoff hk58]
      exact (sW a' t' k' x1 x2 hb).2 κ hf h4 j hj hj2
  · intro p κ hκ hp
    rw [off_tg hoff hk58] at hp
    have hpa : p ≠ a := pa (by omega)
    rw [at0 (Or.inl hpa), at0 (Or.inl hpa)]
    obtain ⟨s1, s2, s3⟩ := sS p κ hκ hp
    refine ⟨s1, ?_, s3⟩
    rw [hoq _ (sim_addr hS ho.ne0 (by omega) hpa)]
    exact s2
  · have ha := hS.pos ho.ne0
    have : nx (st σ a k (-1) z) = nx σ := st_ne (by omega)
    unfold SimN
    rw [this, hz]
    exact ⟨sN.1, sN.2.1, fun a' h => sN.2.2 a' (by rw [← off_tg hoff hk58]; exact h)⟩
theorem fit_5 {X : Cxt} {t k : Nat} (hz : (isObj (zty t k) || isArr (zty t k)) = true) (z : Int) : ∀ ty : FieldType, zty t k = ty → narrow ty (jR X z) = jR X z ∧ fits ty (jR X z) = true := by
  intro ty h
  rw [← h]
  cases hc : zty t k with
  | object C => rcases jR_or X z with e | ⟨x, e⟩ <;> rw [e] <;> exact ⟨rfl, rfl⟩
  | array C => rcases jR_or X z with e | ⟨x, e⟩ <;> rw [e] <;> exact ⟨rfl, rfl⟩
  | _ => rw [hc] at hz; cases hz
section ZV
variable {X : Cxt} {p : Program} {l : Launch} {e : Env} {R : Room} {s : State} {m : MethodId} {args : Array Value} {below : List Frame} {meth : Method} {c : Code} {H : Heap} {locs : List Loc} {cells slots : Nat} {Q : State → Prop}
variable {cc : ByteArray} {nL : Nat} {own : String} {ret : Option FieldType} {pc : Nat} {ls : Array Slot} {rest : List Value} {σ : St} {a : Int} {t : Nat} {C : String} {T : u_T} {N : Nat} {ref : String} {index : Nat}
theorem z_put5 (k : Nat) {z : Int} (K : MCx X p s m args meth c cc nL own ret) (hw : Wc X σ s.heap H locs) (h0 : 0 < t ∧ t ≤ 18) (ht : tg σ a = -(t : Int)) (hq : zcl[t - 1]? = some (C, T, N)) (hk : k < N) (hkf : kf t k = 5) (hty : (isObj (zty t k) || isArr (zty t k)) = true)
    (hl : Cond.fieldLink own index ref (T k).2.1 (T k).2.2.1 ∈ lw_all) (hsame : ∀ x, s.fieldFound? (T k).1 (T k).2.1 (T k).2.2.1 = some x → s.fieldFound? ref (T k).2.1 (T k).2.2.1 = some x) (hfin : (T k).2.2.2 = false) (hd : decode cc pc = .ok (.putfield index, 3))
    (kk : ∀ (H1 : Heap) (locs1 : List Loc), Wc X (st σ a k (-1) z) s.heap H1 locs1 → W p l e R s m args below meth c H1 locs1 cells slots Q (F0 m (pc + 3) ls rest)) : W p l e R s m args below meth c H locs cells slots Q (F0 m pc ls (jR X z :: jR X a :: rest)) := by
  have ho : Ob σ a t := ⟨h0.1, h0.2, Or.inr ht⟩
  obtain ⟨q', hq', cell, q1, q2, q3, q4⟩ := id (hw.1.1 a t ho)
  cases hq'.symm.trans hq
  obtain ⟨cf, kfd, fi, f, kC, hi, hsl, hst, hfc, hkC, hkd, hlay, hpd, hul⟩ := z_fld K ho.1 hq hk
  have hap := z_apart K ho.1 hq
  obtain ⟨hf1, hf2⟩ := fit_5 (X := X) hty z _ rfl
  have hfl : hasFlag f.accessFlags Acc.final = false := by
    unfold u_lay at hul
    rw [if_neg (by rw [hfin]; decide)] at hul
    obtain ⟨_, _, _, _, _, _, -, -, hf', -, hfl, -⟩ := Cond.lays_spec hul
    cases hi.symm.trans hf'
    exact hfl
  obtain ⟨u1, u2⟩ := u_fits hfc hkC hkd hlay hi hpd hf1 hf2
  rw [jR_ref (X := X) (hw.1.pos ho.ne0).1]
  refine W.putK K.x K.b (f := f) ⟨K.o, K.ts _ hl, ⟨_, _, _, hsame _ hi⟩, hst⟩ ⟨hfl, u1, by rw [q2]; exact u2⟩ q1 q3 (by rw [hsl]; exact k2_hasslot (q4 k hk)) rfl rfl hd fun H' e1 e2 e3 => ?_
  refine kk H' _ ⟨sim_put5 hw.1 h0 ht hq hkf ?_ e2 e3, hw.2.put e2 e3 (Nat.le_add_right _ _)⟩
  rw [hsl] at e1
  exact ⟨_, e1, q2, q3, t_set q4 hap hk _⟩
end ZV
theorem tg_st5 {σ : St} {a a' z : Int} {k : Nat} (h : k ≠ 99) : tg (st σ a k (-1) z) a' = tg σ a' := tg_st h
/-- nothing but one thing changed -/
def Kz (a : Int) (σ σ' : St) : Prop := ∀ b, b ≠ a → σ' b = σ b
theorem kz_rf (a : Int) (σ : St) : Kz a σ σ := fun _ _ => rfl
theorem kz_st {σ σ' : St} {a j z : Int} {k : Nat} (h : Kz a σ σ') : Kz a σ (st σ' a k j z) := fun b hb => by
  rw [← h b hb]
  funext f i
  exact st_ne (fun q => hb q.1)
theorem kz_seal {σ σ' : St} {a : Int} (h : Kz a σ σ') : Kz a σ (sealz σ' [a]) := fun b hb => by
  rw [← h b hb]
  funext f i
  unfold sealz
  rw [if_neg (fun q => hb (List.mem_singleton.mp q.2.2))]
section ZW2
variable {X : Cxt} {l : Launch} {σ : St} {a : Int}
set_option maxHeartbeats 4000000 in
theorem met_J0_init_2 (ht : tg σ a = -2) : MetT l yJ0_init_2 (ws_ yJ0_init_2 cJ0_init_2 5 none) (zrm 1 0 0) (ZP X σ [jR X a, jR X (-1), jR X (-1), jI 0, jI 0]) (ZQ X (qV (fun σ' => Kz a σ σ' ∧ tg σ' a = -2)) (fun _ _ => False)) 0 0 (zA X) := by
  refine z_start (own := "java/lang/Throwable") (lv := [(0, jR X a), (1, jR X (-1)), (2, jR X (-1)), (3, jI 0), (4, jI 0)]) (by decide) rfl (by simp [lv_args, jR_cat, jI_cat, jL_cat]) (by simp [lg_sl, jR_cat, jI_cat, jL_cat]) (fun p e s m below meth c ls K _ _ hw hl => ?_)
  have h0 : 0 ≤ a := (hw.1.pos (a := a) (by rw [ht]; decide)).1
  obtain ⟨⟨u, hU⟩, -⟩ := K.env.2.2.2.2.2.1
  obtain ⟨⟨v, hV⟩, -⟩ := K.env.2.2.2.2.2.2
  have tgs : ∀ {σ' : St} {k : Nat} {z : Int}, k ≠ 99 → tg σ' a = -2 → tg (st σ' a k (-1) z) a = -2 := fun hk h => by rw [tg_st hk]; exact h
  have kis : ∀ {σ' : St} {k : Nat} {z : Int}, Kz a σ σ' → Kz a σ (st σ' a k (-1) z) := fun h => kz_st h
  refine z_aload_n (pc := 0) K dJ0_init_2_0 rfl (lv_at hl 0 rfl) ?_
  refine z_objI (pc := 1) K h0 q152 q127 q128 hl.1 ⟨by decide, by decide⟩ (by decide) dJ0_init_2_1 ?_
  refine z_aload_n (pc := 4) K dJ0_init_2_4 rfl (lv_at hl 0 rfl) ?_
  refine z_aload_n (pc := 5) K dJ0_init_2_5 rfl (lv_at hl 0 rfl) ?_
  refine z_put5 (pc := 6) (t := 2) 0 K hw (by decide) ht zq2 (by decide) kf_2_0 zt_2_0 q182 (fun _ h => h) rfl dJ0_init_2_6 (fun H1 locs1 hw1 => ?_)
  have t1 := tgs (k := 0) (z := a) (by decide) ht
  have k1 := kis (k := 0) (z := a) (kz_rf a σ)
  refine z_aload_n (pc := 9) K dJ0_init_2_9 rfl (lv_at hl 0 rfl) ?_
  refine va_gets (pc := 10) K.x K.b hU hw1.2 K.o (K.ts _ q153) (fun _ h => h) dJ0_init_2_10 ?_
  refine z_put5 (pc := 13) (t := 2) 1 K hw1 (by decide) t1 zq2 (by decide) kf_2_1 zt_2_1 q183 (fun _ h => h) rfl dJ0_init_2_13 (fun H2 locs2 hw2 => ?_)
  have t2 := tgs (k := 1) (z := u) (by decide) t1
  have k2 := kis (k := 1) (z := u) k1
  refine z_aload_n (pc := 16) K dJ0_init_2_16 rfl (lv_at hl 0 rfl) ?_
  refine va_gets (pc := 17) K.x K.b hV hw2.2 K.o (K.ts _ q155) (fun _ h => h) dJ0_init_2_17 ?_
  refine z_put5 (pc := 20) (t := 2) 2 K hw2 (by decide) t2 zq2 (by decide) kf_2_2 zt_2_2 q184 (fun _ h => h) rfl dJ0_init_2_20 (fun H3 locs3 hw3 => ?_)
  have t3 := tgs (k := 2) (z := v) (by decide) t2
  have k3 := kis (k := 2) (z := v) k2
  refine lv_iload (pc := 23) K.x K.b dJ0_init_2_23 (lv_at hl 4 rfl) ?_
  refine z_if_eq (x := 0) (pc := 25) (tgt := 36) K ⟨by decide, by decide⟩ dJ0_init_2_25 (by decide) (fun _ => ?_) (fun hc => absurd rfl hc)
  refine z_aload_n (pc := 36) K dJ0_init_2_36 rfl (lv_at hl 0 rfl) ?_
  refine z_null (pc := 37) K dJ0_init_2_37 ?_
  refine z_put5 (pc := 38) (t := 2) 1 K hw3 (by decide) t3 zq2 (by decide) kf_2_1 zt_2_1 q183 (fun _ h => h) rfl dJ0_init_2_38 (fun H4 locs4 hw4 => ?_)
  have t4 := tgs (k := 1) (z := -1) (by decide) t3
  have k4 := kis (k := 1) (z := -1) k3
  refine z_aload_n (pc := 41) K dJ0_init_2_41 rfl (lv_at hl 0 rfl) ?_
  refine z_aload_n (pc := 42) K dJ0_init_2_42 rfl (lv_at hl 1 rfl) ?_
  refine z_put5 (pc := 43) (t := 2) 3 K hw4 (by decide) t4 zq2 (by decide) kf_2_3 zt_2_3 q181 (fun _ h => h) rfl dJ0_init_2_43 (fun H5 locs5 hw5 => ?_)
  have t5 := tgs (k := 3) (z := -1) (by decide) t4
  have k5 := kis (k := 3) (z := -1) k4
  refine z_aload_n (pc := 46) K dJ0_init_2_46 rfl (lv_at hl 0 rfl) ?_
  refine z_aload_n (pc := 47) K dJ0_init_2_47 rfl (lv_at hl 2 rfl) ?_
  refine z_put5 (pc := 48) (t := 2) 0 K hw5 (by decide) t5 zq2 (by decide) kf_2_0 zt_2_0 q182 (fun _ h => h) rfl dJ0_init_2_48 (fun H6 locs6 hw6 => ?_)
  have t6 := tgs (k := 0) (z := -1) (by decide) t5
  have k6 := kis (k := 0) (z := -1) k5
  refine lv_iload_n (pc := 51) K.x K.b dJ0_init_2_51 rfl (lv_at hl 3 rfl) ?_
  refine z_if_ne (x := 0) (pc := 52) (tgt := 60) K ⟨by decide, by decide⟩ dJ0_init_2_52 (by decide) (fun _ => ?_) (fun hc => absurd rfl hc)
  refine z_aload_n (pc := 55) K dJ0_init_2_55 rfl (lv_at hl 0 rfl) ?_
  refine z_null (pc := 56) K dJ0_init_2_56 ?_
  refine z_put5 (pc := 57) (t := 2) 2 K hw6 (by decide) t6 zq2 (by decide) kf_2_2 zt_2_2 q184 (fun _ h => h) rfl dJ0_init_2_57 (fun H7 locs7 hw7 => ?_)
  exact z_vret (pc := 60) K hw7 ⟨kis k6, tgs (by decide) t6⟩ dJ0_init_2_60
theorem met_J1_init (ht : tg σ a = -2) : MetT l yJ1_init (ws_ yJ1_init cJ1_init 5 none) (zrm 2 0 0) (ZP X σ [jR X a, jR X (-1), jR X (-1), jI 0, jI 0]) (ZQ X (qV (fun σ' => Kz a σ σ' ∧ tg σ' a = -2)) (fun _ _ => False)) 0 0 (zA X) := by
  refine z_start (own := "java/lang/Exception") (lv := [(0, jR X a), (1, jR X (-1)), (2, jR X (-1)), (3, jI 0), (4, jI 0)]) (by decide) rfl (by simp [lv_args, jR_cat, jI_cat, jL_cat]) (by simp [lg_sl, jR_cat, jI_cat, jL_cat]) (fun p e s m below meth c ls K _ _ hw hl => ?_)
  have h0 : 0 ≤ a := (hw.1.pos (a := a) (by rw [ht]; decide)).1
  refine z_aload_n (pc := 0) K dJ1_init_0 rfl (lv_at hl 0 rfl) ?_
  refine z_aload_n (pc := 1) K dJ1_init_1 rfl (lv_at hl 1 rfl) ?_
  refine z_aload_n (pc := 2) K dJ1_init_2 rfl (lv_at hl 2 rfl) ?_
  refine lv_iload_n (pc := 3) K.x K.b dJ1_init_3 rfl (lv_at hl 3 rfl) ?_
  refine lv_iload (pc := 4) K.x K.b dJ1_init_4 (lv_at hl 4 rfl) ?_
  refine zc_v (pc := 6) (maxL := 5) K hw (met_J0_init_2 ht) (i_I (n := 4) (As := [jR X (-1), jR X (-1), jI 0, jI 0]) K h0 (by decide) rfl q173 q174 q175 rfl rfl dJ1_init_6) (locw K q175 q91) ⟨by decide, by decide⟩ hl.1 dJ1_init_6 (Nat.le_of_ble_eq_true rfl) ⟨Nat.le_refl _, Nat.le_refl _⟩ (fun σ' H1 locs1 hv hw1 => ?_)
  exact z_vret (pc := 9) K hw1 hv dJ1_init_9
/-- a new Fault is whole -/
theorem seal2 {σ : St} {a : Int} (ht : tg σ a = -2) : ∀ x ∈ [a], ∃ t : Nat, 0 < t ∧ t ≤ 18 ∧ tg σ x = -(t : Int) ∧ SealOk (sealz σ [a]) x t := by
  intro x hx
  have : x = a := List.mem_singleton.mp hx
  subst this
  refine ⟨2, by decide, by decide, ht, fun k κ h => ?_, fun k h => ?_, fun k κ h => ?_⟩
  · have hk : k < 58 := zf_lt (t := 2) (by omega)
    have : ∀ k, k < 58 → kf 2 k < 10 := by decide
    have := this k hk
    omega
  · have hk : k < 58 := zf_lt (t := 2) (by omega)
    have : ∀ k, k < 58 → kf 2 k ≠ 3 := by decide
    exact absurd h (this k hk)
  · have hk : k < 58 := zf_lt (t := 2) (by omega)
    have : ∀ k, k < 58 → kf 2 k < 10 := by decide
    have := this k hk
    omega
def wp_X2_init (σ : St) (a0 : Int) (Q : St → Prop) : Prop := ∀ σ1 : St, Kz a0 σ σ1 → tg σ1 a0 = 2 → Q σ1
theorem met_X2_init (X : Cxt) (l : Launch) (σ : St) (a : Int) (ht : tg σ a = -2) (Q : St → Prop) (h : wp_X2_init σ a Q) : MetT l yX2_init (ws_ yX2_init cX2_init 1 none) (zrm 3 0 0) (ZP X σ [jR X a]) (ZQ X (qV (fun σ' => Ki a σ σ' ∧ tg σ' a = 2 ∧ Q σ')) (fun _ _ => False)) 0 0 (zA X) := by
  refine z_start (own := "CombTable$Fault") (lv := [(0, jR X a)]) (by decide) rfl (by simp [lv_args, jR_cat, jI_cat, jL_cat]) (by simp [lg_sl, jR_cat, jI_cat, jL_cat]) (fun p e s m below meth c ls K _ _ hw hl => ?_)
  have h0 : 0 ≤ a := (hw.1.pos (a := a) (by rw [ht]; decide)).1
  refine z_aload_n (pc := 0) K dX2_init_0 rfl (lv_at hl 0 rfl) ?_
  refine z_null (pc := 1) K dX2_init_1 ?_
  refine z_null (pc := 2) K dX2_init_2 ?_
  refine z_iconst (pc := 3) K dX2_init_3 ?_
  refine z_iconst (pc := 4) K dX2_init_4 ?_
  refine zc_v (pc := 5) (maxL := 5) K hw (met_J1_init ht) (i_I (n := 4) (As := [jR X (-1), jR X (-1), jI 0, jI 0]) K h0 (by decide) rfl q170 q171 q172 rfl rfl dX2_init_5) (locw K q172 q92) ⟨by decide, by decide⟩ hl.1 dX2_init_5 (Nat.le_of_ble_eq_true rfl) ⟨Nat.le_refl _, Nat.le_refl _⟩ (fun σ' H1 locs1 hv hw1 => ?_)
  obtain ⟨hk, ht'⟩ := hv
  have hw2 : Wc X (sealz σ' [a]) s.heap H1 locs1 := ⟨sim_seal hw1.1 (seal2 ht'), hw1.2⟩
  have k2 : Kz a σ (sealz σ' [a]) := kz_seal hk
  have t2 : tg (sealz σ' [a]) a = 2 := by rw [seal_tg (List.mem_singleton.mpr rfl), ht']; rfl
  exact z_vret (pc := 8) K hw2 ⟨fun b _ hb => k2 b hb, t2, h _ k2 t2⟩ dX2_init_8
end ZW2
