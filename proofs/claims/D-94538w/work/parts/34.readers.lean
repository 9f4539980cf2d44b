/-! printed by gen/walk2.py -/
set_option maxRecDepth 100000
def ws_X9_one : List (Int × Nat) := [(2, 6), (2, 7), (6, 1), (6, 2), (6, 3), (6, 4), (6, 5), (6, 6), (7, 1), (7, 2), (7, 3), (7, 4), (7, 5), (7, 6), (8, 1), (8, 2), (8, 3), (8, 4), (8, 5), (8, 6), (8, 8), (9, 1), (9, 2), (9, 3), (9, 4), (9, 5), (9, 6)]
theorem wo_X9_one : wsOk ws_X9_one = true := rfl
def wp_X9_one_b31 (a0 : Int) (o1 : Int) (k1 : Nat) (n1 : Int) (x2 : Int) (Q : Int → St → Prop) (E : Int → St → Prop) (σ0 : St) (σ : St) (s1 : Int) : Prop :=
  wp_X6_must σ a0 s1 4 (fun σ4 => Kp ws_X6_must σ σ4 → rng ((σ4 a0 8 0) + 1) ∧ ∀ σ11 : St, σ11 = st σ4 a0 8 0 ((σ4 a0 8 0) + 1) → wp_X6_next σ11 a0 (fun σ18 => Kp ws_X6_next σ11 σ18 → Q (-1) σ18)) (fun x σx => Kp ws_X6_must σ σx → E x σx)
def wp_X9_one (σ : St) (a0 : Int) (o1 : Int) (k1 : Nat) (n1 : Int) (x2 : Int) (Q : Int → St → Prop) (E : Int → St → Prop) : Prop :=
  wp_X6_is σ a0 (-36) (fun r1 => (if r1 = 0 then
    wp_X6_known σ a0 o1 k1 n1 x2 (fun r7 σ10 => Kp ws_X6_known σ σ10 → Q r7 σ10) (fun x σx => Kp ws_X6_known σ σx → E x σx)
    else
    (if σ a0 8 0 < 8 then
      (wp_X9_one_b31 a0 o1 k1 n1 x2 Q E σ σ 1)
      else
      (wp_X9_one_b31 a0 o1 k1 n1 x2 Q E σ σ 0))))
set_option maxHeartbeats 4000000 in
theorem wk_X9_one_b31_0 {X : Cxt} {p : Program} {l : Launch} {e : Env} {s : State} {m : MethodId} {args : Array Value} {below : List Frame} {meth : Method} {c : Code} (a0 : Int) (o1 : Int) (k1 : Nat) (n1 : Int) (x2 : Int) (Q : Int → St → Prop) (E : Int → St → Prop) (σ0 : St) (K : MCx X p s m args meth c cX9_one 3 "CombTable$MinutesReader" (some .int)) (hex : c.exceptionTable.isEmpty = true) (hfa1 : kf 4 k1 = 15) (hna1 : ((kl 4 k1 : Nat) : Int) = n1) (hka1 : kt 4 k1 = 11) (hx2 : rng x2) : ∀ (σ : St) (s1 : Int) (H : Heap) (locs : List Loc) (ls : Array Slot), wp_X9_one_b31 a0 o1 k1 n1 x2 Q E σ0 σ s1 → Wc X σ s.heap H locs → Kp ws_X9_one σ0 σ → tg σ a0 = 8 → (0 ≤ s1 ∧ s1 ≤ 1) → lv_has ls 3 [(0, jR X a0)] → W p l e (zrm 9 0 0) s m args below meth c H locs 0 0 (MQT below (ZQ X (qI (fun r σ' => Kp ws_X9_one σ0 σ' ∧ Q r σ')) (fun x σ' => tg σ' x = 2 ∧ Kp ws_X9_one σ0 σ' ∧ E x σ')) args s 0 0 (zA X)) (F0 m 31 ls [jI s1, jR X a0]) := by
  intro σ s1 H locs ls h hw hk ht0 hs1 hl
  refine z_iconst (pc := 31) K dX9_one_31 ?_
  refine zt_v (pc := 32) (maxL := 3) K hw (met_X6_must_8 X l σ a0 s1 4 ht0 hs1 ⟨by decide, by decide⟩ _ _ h) (i_VU (n := 2) (t := 8) (As := [jI s1, jI 4]) (owner := "CombTable$Reader") K hw (ob ht0) zq8 (by decide) (by decide) q1043 q1044 q758 q1045 (dcl_of K q758 q759) rfl rfl dX9_one_32) (locw K q759 q97) ⟨by decide, by decide⟩ hl.1 dX9_one_32 (Nat.le_of_ble_eq_true rfl) ⟨Nat.le_refl _, Nat.le_refl _⟩ (fun σ4 _ _ hq3 hw5 => ?_) (fun x σx _ _ hx0 hqx hwx => ?_)
  rotate_left
  · obtain ⟨htx, hkx, h⟩ := hqx
    have h := h hkx
    exact z_out K hwx hx0 ⟨htx, kp_trans wo_X9_one hk hkx (fun _ q => q) (by decide), h⟩ (no_cov hex 32)
  obtain ⟨hk6, h⟩ := hq3
  have h := h hk6
  have hk7 := kp_trans wo_X9_one hk hk6 (fun _ q => q) (by decide)
  have hg8 : tg σ4 a0 = 8 := kp_tg hk6 wo_X6_must ht0 (by decide)
  refine z_aload_n (pc := 35) K dX9_one_35 rfl (lv_at hl 0 rfl) ?_
  refine lv_dup (pc := 36) K.x K.b dX9_one_36 (jR_cat _ _) ?_
  refine z_get (pc := 37) (t := 8) (k := 8) K hw5 (ob (t := 8) hg8) zq8 (by decide) q454 (fun _ h => h) dX9_one_37 (zval_i kf_8_8) ?_
  refine z_iconst (pc := 40) K dX9_one_40 ?_
  refine z_iadd (pc := 41) K dX9_one_41 ?_
  obtain ⟨hr9, h⟩ := h
  refine z_puti (pc := 42) (t := 8) 8 K hw5 (ob hg8) zq8 (by decide) kf_8_8 zt_8_8 hr9 q454 (fun _ h => h) rfl dX9_one_42 (fun _ _ hw10 => ?_)
  obtain ⟨σ11, e12⟩ : ∃ z, z = st σ4 a0 8 0 ((σ4 a0 8 0) + 1) := ⟨_, rfl⟩
  have h := h σ11 e12
  have hw10 := wc_e e12 hw10
  have hk13 := kp_e e12 hk7 wo_X9_one (by decide) hg8 (t := 8) (by decide)
  have hg14 : tg σ11 a0 = 8 := (tg_e e12 (by decide)).trans hg8
  refine z_aload_n (pc := 45) K dX9_one_45 rfl (lv_at hl 0 rfl) ?_
  refine zc_v (pc := 46) (maxL := 2) K hw10 (met_X6_next_8 X l σ11 a0 hg14 _ h) (i_VU (n := 0) (t := 8) (As := []) (owner := "CombTable$Reader") K hw10 (ob hg14) zq8 (by decide) (by decide) q1056 q1057 q666 q1058 (dcl_of K q666 q672) rfl rfl dX9_one_46) (locw K q672 q97) ⟨by decide, by decide⟩ hl.1 dX9_one_46 (Nat.le_of_ble_eq_true rfl) ⟨Nat.le_refl _, Nat.le_refl _⟩ (fun σ18 _ _ hq17 hw19 => ?_)
  obtain ⟨hk20, h⟩ := hq17
  have h := h hk20
  have hk21 := kp_trans wo_X9_one hk13 hk20 (fun _ q => q) (by decide)
  have hg22 : tg σ18 a0 = 8 := kp_tg hk20 wo_X6_next hg14 (by decide)
  refine z_iconst (pc := 49) K dX9_one_49 ?_
  exact z_iret (pc := 50) K hw19 ⟨by decide, by decide⟩ ⟨hk21, h⟩ dX9_one_50
set_option maxHeartbeats 4000000 in
theorem met_X9_one_0 (X : Cxt) (l : Launch) (σ : St) (a0 : Int) (o1 : Int) (k1 : Nat) (n1 : Int) (x2 : Int) (ht0 : tg σ a0 = 8) (ht1 : tg σ o1 = 4) (hfa1 : kf 4 k1 = 15) (hna1 : ((kl 4 k1 : Nat) : Int) = n1) (hka1 : kt 4 k1 = 11) (hx2 : rng x2) (Q : Int → St → Prop) (E : Int → St → Prop) (h : wp_X9_one σ a0 o1 k1 n1 x2 Q E) : MetT l yX9_one (ws_ yX9_one cX9_one 3 (some .int)) (zrm 9 0 0) (ZP X σ [jR X a0, jR X (σ o1 k1 (-1)), jI x2]) (ZQ X (qI (fun r σ' => Kp ws_X9_one σ σ' ∧ Q r σ')) (fun x σ' => tg σ' x = 2 ∧ Kp ws_X9_one σ σ' ∧ E x σ')) 0 0 (zA X) := by
  refine z_start (own := "CombTable$MinutesReader") (lv := [(0, jR X a0), (1, jR X (σ o1 k1 (-1))), (2, jI x2)]) (by decide) rfl (by simp [lv_args, jR_cat, jI_cat, jL_cat]) (by simp [lg_sl, jR_cat, jI_cat, jL_cat]) (fun p e s m below meth c ls K hex _ hw hl => ?_)
  have hk : Kp ws_X9_one σ σ := kp_rf σ
  refine z_aload_n (pc := 0) K dX9_one_0 rfl (lv_at hl 0 rfl) ?_
  refine z_ldcS (pc := 1) (i := 34) K (-36) (by decide) (tx := "any") rfl dX9_one_1 ?_
  refine zr_z (pc := 3) (maxL := 3) K hw (met_X6_is_8 X l σ a0 (-36) ht0 ⟨by decide, by decide⟩ _ h) (i_VU (n := 1) (t := 8) (As := [jR X (-36)]) (owner := "CombTable$Reader") K hw (ob ht0) zq8 (by decide) (by decide) q1037 q1038 q699 q1039 (dcl_of K q699 q705) rfl rfl dX9_one_3) (locw K q705 q97) ⟨by decide, by decide⟩ hl.1 dX9_one_3 (Nat.le_of_ble_eq_true rfl) ⟨Nat.le_refl _, Nat.le_refl _⟩ (fun r1 _ _ hr2 h hw5 => ?_)
  refine z_if_ne (pc := 6) (tgt := 16) K (b01r hr2) dX9_one_6 (by decide) (fun hc6 => ?_) (fun hc6 => ?_)
  · have h := ite_t h hc6
    refine z_aload_n (pc := 9) K dX9_one_9 rfl (lv_at hl 0 rfl) ?_
    refine z_aload_n (pc := 10) K dX9_one_10 rfl (lv_at hl 1 rfl) ?_
    refine lv_iload_n (pc := 11) K.x K.b dX9_one_11 rfl (lv_at hl 2 rfl) ?_
    refine zt_i (pc := 12) (maxL := 4) K hw5 (met_X6_known_8_0 X l σ a0 o1 k1 n1 x2 ht0 ht1 hfa1 hna1 hka1 hx2 _ _ h) (i_VU (n := 2) (t := 8) (As := [jR X (σ o1 k1 (-1)), jI x2]) (owner := "CombTable$Reader") K hw5 (ob ht0) zq8 (by decide) (by decide) q1053 q1054 q861 q1055 (dcl_of K q861 q862) rfl rfl dX9_one_12) (locw K q862 q97) ⟨by decide, by decide⟩ hl.1 dX9_one_12 (Nat.le_of_ble_eq_true rfl) ⟨Nat.le_refl _, Nat.le_refl _⟩ (fun r7 σ10 _ _ hr8 hq9 hw11 => ?_) (fun x σx _ _ hx0 hqx hwx => ?_)
    rotate_left
    · obtain ⟨htx, hkx, h⟩ := hqx
      have h := h hkx
      exact z_out K hwx hx0 ⟨htx, kp_trans wo_X9_one hk hkx (fun _ q => q) (by decide), h⟩ (no_cov hex 12)
    obtain ⟨hk12, h⟩ := hq9
    have h := h hk12
    have hk13 := kp_trans wo_X9_one hk hk12 (fun _ q => q) (by decide)
    have hg14 : tg σ10 a0 = 8 := kp_tg hk12 wo_X6_known ht0 (by decide)
    have hg15 : tg σ10 o1 = 4 := kp_tg hk12 wo_X6_known ht1 (by decide)
    rw [show σ o1 k1 (-1) = σ10 o1 k1 (-1) from ptr_k hk12 ht1 (by decide)] at hl
    exact z_iret (pc := 15) K hw11 hr8 ⟨hk13, h⟩ dX9_one_15
  · have h := ite_f h hc6
    refine z_aload_n (pc := 16) K dX9_one_16 rfl (lv_at hl 0 rfl) ?_
    refine z_aload_n (pc := 17) K dX9_one_17 rfl (lv_at hl 0 rfl) ?_
    refine z_get (pc := 18) (t := 8) (k := 8) K hw5 (ob (t := 8) ht0) zq8 (by decide) q454 (fun _ h => h) dX9_one_18 (zval_i kf_8_8) ?_
    refine z_bipush (pc := 21) K dX9_one_21 (by decide) ?_
    refine z_icmp_ge (pc := 23) (tgt := 30) K (z_rI hw5 (ob (t := 8) ht0) kf_8_8) ⟨by decide, by decide⟩ dX9_one_23 (by decide) (fun hc16 => ?_) (fun hc16 => ?_)
    · have h := ite_t h hc16
      refine z_iconst (pc := 26) K dX9_one_26 ?_
      refine z_goto (pc := 27) (tgt := 31) K dX9_one_27 (by decide) ?_
      exact wk_X9_one_b31_0 a0 o1 k1 n1 x2 Q E σ K hex hfa1 hna1 hka1 hx2 σ 1 _ _ _ h hw5 hk ht0 ⟨by decide, by decide⟩ (lv_sub hl [0] rfl)
    · have h := ite_f h hc16
      refine z_iconst (pc := 30) K dX9_one_30 ?_
      exact wk_X9_one_b31_0 a0 o1 k1 n1 x2 Q E σ K hex hfa1 hna1 hka1 hx2 σ 0 _ _ _ h hw5 hk ht0 ⟨by decide, by decide⟩ (lv_sub hl [0] rfl)
set_option maxHeartbeats 4000000 in
theorem wk_X9_one_b31_1 {X : Cxt} {p : Program} {l : Launch} {e : Env} {s : State} {m : MethodId} {args : Array Value} {below : List Frame} {meth : Method} {c : Code} (a0 : Int) (o1 : Int) (k1 : Nat) (n1 : Int) (x2 : Int) (Q : Int → St → Prop) (E : Int → St → Prop) (σ0 : St) (K : MCx X p s m args meth c cX9_one 3 "CombTable$MinutesReader" (some .int)) (hex : c.exceptionTable.isEmpty = true) (hfa1 : kf 4 k1 = 16) (hna1 : ((kl 4 k1 : Nat) : Int) = n1) (hka1 : kt 4 k1 = 12) (hx2 : rng x2) : ∀ (σ : St) (s1 : Int) (H : Heap) (locs : List Loc) (ls : Array Slot), wp_X9_one_b31 a0 o1 k1 n1 x2 Q E σ0 σ s1 → Wc X σ s.heap H locs → Kp ws_X9_one σ0 σ → tg σ a0 = 8 → (0 ≤ s1 ∧ s1 ≤ 1) → lv_has ls 3 [(0, jR X a0)] → W p l e (zrm 9 0 0) s m args below meth c H locs 0 0 (MQT below (ZQ X (qI (fun r σ' => Kp ws_X9_one σ0 σ' ∧ Q r σ')) (fun x σ' => tg σ' x = 2 ∧ Kp ws_X9_one σ0 σ' ∧ E x σ')) args s 0 0 (zA X)) (F0 m 31 ls [jI s1, jR X a0]) := by
  intro σ s1 H locs ls h hw hk ht0 hs1 hl
  refine z_iconst (pc := 31) K dX9_one_31 ?_
  refine zt_v (pc := 32) (maxL := 3) K hw (met_X6_must_8 X l σ a0 s1 4 ht0 hs1 ⟨by decide, by decide⟩ _ _ h) (i_VU (n := 2) (t := 8) (As := [jI s1, jI 4]) (owner := "CombTable$Reader") K hw (ob ht0) zq8 (by decide) (by decide) q1043 q1044 q758 q1045 (dcl_of K q758 q759) rfl rfl dX9_one_32) (locw K q759 q97) ⟨by decide, by decide⟩ hl.1 dX9_one_32 (Nat.le_of_ble_eq_true rfl) ⟨Nat.le_refl _, Nat.le_refl _⟩ (fun σ4 _ _ hq3 hw5 => ?_) (fun x σx _ _ hx0 hqx hwx => ?_)
  rotate_left
  · obtain ⟨htx, hkx, h⟩ := hqx
    have h := h hkx
    exact z_out K hwx hx0 ⟨htx, kp_trans wo_X9_one hk hkx (fun _ q => q) (by decide), h⟩ (no_cov hex 32)
  obtain ⟨hk6, h⟩ := hq3
  have h := h hk6
  have hk7 := kp_trans wo_X9_one hk hk6 (fun _ q => q) (by decide)
  have hg8 : tg σ4 a0 = 8 := kp_tg hk6 wo_X6_must ht0 (by decide)
  refine z_aload_n (pc := 35) K dX9_one_35 rfl (lv_at hl 0 rfl) ?_
  refine lv_dup (pc := 36) K.x K.b dX9_one_36 (jR_cat _ _) ?_
  refine z_get (pc := 37) (t := 8) (k := 8) K hw5 (ob (t := 8) hg8) zq8 (by decide) q454 (fun _ h => h) dX9_one_37 (zval_i kf_8_8) ?_
  refine z_iconst (pc := 40) K dX9_one_40 ?_
  refine z_iadd (pc := 41) K dX9_one_41 ?_
  obtain ⟨hr9, h⟩ := h
  refine z_puti (pc := 42) (t := 8) 8 K hw5 (ob hg8) zq8 (by decide) kf_8_8 zt_8_8 hr9 q454 (fun _ h => h) rfl dX9_one_42 (fun _ _ hw10 => ?_)
  obtain ⟨σ11, e12⟩ : ∃ z, z = st σ4 a0 8 0 ((σ4 a0 8 0) + 1) := ⟨_, rfl⟩
  have h := h σ11 e12
  have hw10 := wc_e e12 hw10
  have hk13 := kp_e e12 hk7 wo_X9_one (by decide) hg8 (t := 8) (by decide)
  have hg14 : tg σ11 a0 = 8 := (tg_e e12 (by decide)).trans hg8
  refine z_aload_n (pc := 45) K dX9_one_45 rfl (lv_at hl 0 rfl) ?_
  refine zc_v (pc := 46) (maxL := 2) K hw10 (met_X6_next_8 X l σ11 a0 hg14 _ h) (i_VU (n := 0) (t := 8) (As := []) (owner := "CombTable$Reader") K hw10 (ob hg14) zq8 (by decide) (by decide) q1056 q1057 q666 q1058 (dcl_of K q666 q672) rfl rfl dX9_one_46) (locw K q672 q97) ⟨by decide, by decide⟩ hl.1 dX9_one_46 (Nat.le_of_ble_eq_true rfl) ⟨Nat.le_refl _, Nat.le_refl _⟩ (fun σ18 _ _ hq17 hw19 => ?_)
  obtain ⟨hk20, h⟩ := hq17
  have h := h hk20
  have hk21 := kp_trans wo_X9_one hk13 hk20 (fun _ q => q) (by decide)
  have hg22 : tg σ18 a0 = 8 := kp_tg hk20 wo_X6_next hg14 (by decide)
  refine z_iconst (pc := 49) K dX9_one_49 ?_
  exact z_iret (pc := 50) K hw19 ⟨by decide, by decide⟩ ⟨hk21, h⟩ dX9_one_50
set_option maxHeartbeats 4000000 in
theorem met_X9_one_1 (X : Cxt) (l : Launch) (σ : St) (a0 : Int) (o1 : Int) (k1 : Nat) (n1 : Int) (x2 : Int) (ht0 : tg σ a0 = 8) (ht1 : tg σ o1 = 4) (hfa1 : kf 4 k1 = 16) (hna1 : ((kl 4 k1 : Nat) : Int) = n1) (hka1 : kt 4 k1 = 12) (hx2 : rng x2) (Q : Int → St → Prop) (E : Int → St → Prop) (h : wp_X9_one σ a0 o1 k1 n1 x2 Q E) : MetT l yX9_one (ws_ yX9_one cX9_one 3 (some .int)) (zrm 9 0 0) (ZP X σ [jR X a0, jR X (σ o1 k1 (-1)), jI x2]) (ZQ X (qI (fun r σ' => Kp ws_X9_one σ σ' ∧ Q r σ')) (fun x σ' => tg σ' x = 2 ∧ Kp ws_X9_one σ σ' ∧ E x σ')) 0 0 (zA X) := by
  refine z_start (own := "CombTable$MinutesReader") (lv := [(0, jR X a0), (1, jR X (σ o1 k1 (-1))), (2, jI x2)]) (by decide) rfl (by simp [lv_args, jR_cat, jI_cat, jL_cat]) (by simp [lg_sl, jR_cat, jI_cat, jL_cat]) (fun p e s m below meth c ls K hex _ hw hl => ?_)
  have hk : Kp ws_X9_one σ σ := kp_rf σ
  refine z_aload_n (pc := 0) K dX9_one_0 rfl (lv_at hl 0 rfl) ?_
  refine z_ldcS (pc := 1) (i := 34) K (-36) (by decide) (tx := "any") rfl dX9_one_1 ?_
  refine zr_z (pc := 3) (maxL := 3) K hw (met_X6_is_8 X l σ a0 (-36) ht0 ⟨by decide, by decide⟩ _ h) (i_VU (n := 1) (t := 8) (As := [jR X (-36)]) (owner := "CombTable$Reader") K hw (ob ht0) zq8 (by decide) (by decide) q1037 q1038 q699 q1039 (dcl_of K q699 q705) rfl rfl dX9_one_3) (locw K q705 q97) ⟨by decide, by decide⟩ hl.1 dX9_one_3 (Nat.le_of_ble_eq_true rfl) ⟨Nat.le_refl _, Nat.le_refl _⟩ (fun r1 _ _ hr2 h hw5 => ?_)
  refine z_if_ne (pc := 6) (tgt := 16) K (b01r hr2) dX9_one_6 (by decide) (fun hc6 => ?_) (fun hc6 => ?_)
  · have h := ite_t h hc6
    refine z_aload_n (pc := 9) K dX9_one_9 rfl (lv_at hl 0 rfl) ?_
    refine z_aload_n (pc := 10) K dX9_one_10 rfl (lv_at hl 1 rfl) ?_
    refine lv_iload_n (pc := 11) K.x K.b dX9_one_11 rfl (lv_at hl 2 rfl) ?_
    refine zt_i (pc := 12) (maxL := 4) K hw5 (met_X6_known_8_1 X l σ a0 o1 k1 n1 x2 ht0 ht1 hfa1 hna1 hka1 hx2 _ _ h) (i_VU (n := 2) (t := 8) (As := [jR X (σ o1 k1 (-1)), jI x2]) (owner := "CombTable$Reader") K hw5 (ob ht0) zq8 (by decide) (by decide) q1053 q1054 q861 q1055 (dcl_of K q861 q862) rfl rfl dX9_one_12) (locw K q862 q97) ⟨by decide, by decide⟩ hl.1 dX9_one_12 (Nat.le_of_ble_eq_true rfl) ⟨Nat.le_refl _, Nat.le_refl _⟩ (fun r7 σ10 _ _ hr8 hq9 hw11 => ?_) (fun x σx _ _ hx0 hqx hwx => ?_)
    rotate_left
    · obtain ⟨htx, hkx, h⟩ := hqx
      have h := h hkx
      exact z_out K hwx hx0 ⟨htx, kp_trans wo_X9_one hk hkx (fun _ q => q) (by decide), h⟩ (no_cov hex 12)
    obtain ⟨hk12, h⟩ := hq9
    have h := h hk12
    have hk13 := kp_trans wo_X9_one hk hk12 (fun _ q => q) (by decide)
    have hg14 : tg σ10 a0 = 8 := kp_tg hk12 wo_X6_known ht0 (by decide)
    have hg15 : tg σ10 o1 = 4 := kp_tg hk12 wo_X6_known ht1 (by decide)
    rw [show σ o1 k1 (-1) = σ10 o1 k1 (-1) from ptr_k hk12 ht1 (by decide)] at hl
    exact z_iret (pc := 15) K hw11 hr8 ⟨hk13, h⟩ dX9_one_15
  · have h := ite_f h hc6
    refine z_aload_n (pc := 16) K dX9_one_16 rfl (lv_at hl 0 rfl) ?_
    refine z_aload_n (pc := 17) K dX9_one_17 rfl (lv_at hl 0 rfl) ?_
    refine z_get (pc := 18) (t := 8) (k := 8) K hw5 (ob (t := 8) ht0) zq8 (by decide) q454 (fun _ h => h) dX9_one_18 (zval_i kf_8_8) ?_
    refine z_bipush (pc := 21) K dX9_one_21 (by decide) ?_
    refine z_icmp_ge (pc := 23) (tgt := 30) K (z_rI hw5 (ob (t := 8) ht0) kf_8_8) ⟨by decide, by decide⟩ dX9_one_23 (by decide) (fun hc16 => ?_) (fun hc16 => ?_)
    · have h := ite_t h hc16
      refine z_iconst (pc := 26) K dX9_one_26 ?_
      refine z_goto (pc := 27) (tgt := 31) K dX9_one_27 (by decide) ?_
      exact wk_X9_one_b31_1 a0 o1 k1 n1 x2 Q E σ K hex hfa1 hna1 hka1 hx2 σ 1 _ _ _ h hw5 hk ht0 ⟨by decide, by decide⟩ (lv_sub hl [0] rfl)
    · have h := ite_f h hc16
      refine z_iconst (pc := 30) K dX9_one_30 ?_
      exact wk_X9_one_b31_1 a0 o1 k1 n1 x2 Q E σ K hex hfa1 hna1 hka1 hx2 σ 0 _ _ _ h hw5 hk ht0 ⟨by decide, by decide⟩ (lv_sub hl [0] rfl)
def ws_X9_read : List (Int × Nat) := [(2, 6), (2, 7), (5, 0), (5, 1), (5, 2), (6, 1), (6, 2), (6, 3), (6, 4), (6, 5), (6, 6), (7, 1), (7, 2), (7, 3), (7, 4), (7, 5), (7, 6), (8, 1), (8, 2), (8, 3), (8, 4), (8, 5), (8, 6), (8, 8), (9, 1), (9, 2), (9, 3), (9, 4), (9, 5), (9, 6)]
theorem wo_X9_read : wsOk ws_X9_read = true := rfl
def wp_X9_read_b115 (a0 : Int) (o1 : Int) (Q : St → Prop) (E : Int → St → Prop) (σ0 : St) (L14 : St → Prop) (σ : St) (s1 : Int) : Prop :=
  wp_X6_must σ a0 s1 4 (fun σ4 => Kp ws_X6_must σ σ4 → wp_X9_one σ4 a0 (σ4 (σ4 (σ4 a0 9 0) 8 0) 0 0) 0 8 (σ4 (σ4 (σ4 (σ4 a0 9 0) 8 0) 0 0) 3 0) (fun r13 σ16 => Kp ws_X9_one σ4 σ16 → (0 ≤ σ4 o1 2 0 ∧ σ4 o1 2 0 < 24) ∧ ∀ σ24 : St, σ24 = st σ16 o1 0 (σ4 o1 2 0) r13 → wp_X9_one σ24 a0 (σ24 (σ24 (σ24 a0 9 0) 8 0) 0 0) 1 10 (σ24 (σ24 (σ24 (σ24 a0 9 0) 8 0) 0 0) 4 0) (fun r32 σ35 => Kp ws_X9_one σ24 σ35 → (0 ≤ σ24 o1 2 0 ∧ σ24 o1 2 0 < 24) ∧ ∀ σ43 : St, σ43 = st σ35 o1 1 (σ24 o1 2 0) r32 → rng ((σ43 o1 2 0) + 1) ∧ ∀ σ50 : St, σ50 = st σ43 o1 2 0 ((σ43 o1 2 0) + 1) → wp_X6_sign σ50 a0 59 (fun σ58 => Kp ws_X6_sign σ50 σ58 → (L14 σ58)) (fun x σx => Kp ws_X6_sign σ50 σx → E x σx)) (fun x σx => Kp ws_X9_one σ24 σx → E x σx)) (fun x σx => Kp ws_X9_one σ4 σx → E x σx)) (fun x σx => Kp ws_X6_must σ σx → E x σx)
def wp_X9_read_b96 (a0 : Int) (o1 : Int) (Q : St → Prop) (E : Int → St → Prop) (σ0 : St) (L14 : St → Prop) (σ : St) (s1 : Int) : Prop :=
  wp_X6_must σ a0 s1 3 (fun σ4 => Kp ws_X6_must σ σ4 → (if σ4 o1 2 0 < 24 then
    (wp_X9_read_b115 a0 o1 Q E σ0 L14 σ4 1)
    else
    (wp_X9_read_b115 a0 o1 Q E σ0 L14 σ4 0))) (fun x σx => Kp ws_X6_must σ σx → E x σx)
def wp_X9_read_b91 (a0 : Int) (o1 : Int) (Q : St → Prop) (E : Int → St → Prop) (σ0 : St) (L14 : St → Prop) (σ : St) : Prop :=
  (wp_X9_read_b96 a0 o1 Q E σ0 L14 σ 1)
def wp_X9_read_b43 (a0 : Int) (o1 : Int) (Q : St → Prop) (E : Int → St → Prop) (σ0 : St) (L14 : St → Prop) (σ : St) (s1 : Int) : Prop :=
  wp_X6_must σ a0 s1 1 (fun σ4 => Kp ws_X6_must σ σ4 → wp_X6_is σ4 a0 (-36) (fun r10 => (if r10 = 0 then
    wp_X6_of σ4 a0 (σ4 (σ4 (σ4 a0 9 0) 8 0) 0 0) 0 8 (σ4 (σ4 (σ4 (σ4 a0 9 0) 8 0) 0 0) 3 0) (fun r19 => (if r19 = (-1) then
      (wp_X9_read_b96 a0 o1 Q E σ0 L14 σ4 0)
      else
      (wp_X9_read_b91 a0 o1 Q E σ0 L14 σ4)))
    else
    (wp_X9_read_b91 a0 o1 Q E σ0 L14 σ4)))) (fun x σx => Kp ws_X6_must σ σx → E x σx)
def wp_X9_read_b38 (a0 : Int) (o1 : Int) (Q : St → Prop) (E : Int → St → Prop) (σ0 : St) (L14 : St → Prop) (σ : St) : Prop :=
  (wp_X9_read_b43 a0 o1 Q E σ0 L14 σ 1)
def lp_X9_read_14 (a0 : Int) (o1 : Int) (Q : St → Prop) (E : Int → St → Prop) (σ0 : St) : Nat → St → Prop
  | 0 => fun _ => False
  | n + 1 => fun σ  => 
    Kp ws_X9_read σ0 σ → (if σ a0 3 0 = 0 then
      Q σ
      else
      wp_X6_is σ a0 (-36) (fun r2 => (if r2 = 0 then
        wp_X6_isName σ a0 (fun r8 => (if r8 = 0 then
          (wp_X9_read_b43 a0 o1 Q E σ0 (lp_X9_read_14 a0 o1 Q E σ0 n) σ 0)
          else
          (wp_X9_read_b38 a0 o1 Q E σ0 (lp_X9_read_14 a0 o1 Q E σ0 n) σ)))
        else
        (wp_X9_read_b38 a0 o1 Q E σ0 (lp_X9_read_14 a0 o1 Q E σ0 n) σ))))
def wp_X9_read (σ : St) (a0 : Int) (o1 : Int) (Q : St → Prop) (E : Int → St → Prop) : Prop :=
  ∀ σ2 : St, σ2 = st σ o1 2 0 0 → ∀ σ8 : St, σ8 = st σ2 a0 8 0 0 → wp_X6_begin σ8 a0 (fun σ16 => Kp ws_X6_begin σ8 σ16 → (∃ kk, lp_X9_read_14 a0 o1 Q E σ kk σ16))
set_option maxHeartbeats 4000000 in
theorem wk_X9_read_b115 {X : Cxt} {p : Program} {l : Launch} {e : Env} {s : State} {m : MethodId} {args : Array Value} {below : List Frame} {meth : Method} {c : Code} (a0 : Int) (o1 : Int) (Q : St → Prop) (E : Int → St → Prop) (σ0 : St) (K : MCx X p s m args meth c cX9_read 2 "CombTable$MinutesReader" (none)) (hex : c.exceptionTable.isEmpty = true) (L14 : St → Prop) (hL14 : ∀ (σ : St) (H : Heap) (locs : List Loc) (ls : Array Slot), L14 σ → Wc X σ s.heap H locs → Kp ws_X9_read σ0 σ → tg σ a0 = 8 → tg σ o1 = 5 → lv_has ls 2 [(0, jR X a0), (1, jR X o1)] → W p l e (zrm 10 0 0) s m args below meth c H locs 0 0 (MQT below (ZQ X (qV (fun σ' => Kp ws_X9_read σ0 σ' ∧ Q σ')) (fun x σ' => tg σ' x = 2 ∧ Kp ws_X9_read σ0 σ' ∧ E x σ')) args s 0 0 (zA X)) (F0 m 14 ls [])) : ∀ (σ : St) (s1 : Int) (H : Heap) (locs : List Loc) (ls : Array Slot), wp_X9_read_b115 a0 o1 Q E σ0 L14 σ s1 → Wc X σ s.heap H locs → Kp ws_X9_read σ0 σ → tg σ a0 = 8 → tg σ o1 = 5 → (0 ≤ s1 ∧ s1 ≤ 1) → lv_has ls 2 [(0, jR X a0), (1, jR X o1)] → W p l e (zrm 10 0 0) s m args below meth c H locs 0 0 (MQT below (ZQ X (qV (fun σ' => Kp ws_X9_read σ0 σ' ∧ Q σ')) (fun x σ' => tg σ' x = 2 ∧ Kp ws_X9_read σ0 σ' ∧ E x σ')) args s 0 0 (zA X)) (F0 m 115 ls [jI s1, jR X a0]) := by
  intro σ s1 H locs ls h hw hk ht0 ht1 hs1 hl
  refine z_iconst (pc := 115) K dX9_read_115 ?_
  refine zt_v (pc := 116) (maxL := 3) K hw (met_X6_must_8 X l σ a0 s1 4 ht0 hs1 ⟨by decide, by decide⟩ _ _ h) (i_VU (n := 2) (t := 8) (As := [jI s1, jI 4]) (owner := "CombTable$Reader") K hw (ob ht0) zq8 (by decide) (by decide) q1043 q1044 q758 q1045 (dcl_of K q758 q759) rfl rfl dX9_read_116) (locw K q759 q97) ⟨by decide, by decide⟩ hl.1 dX9_read_116 (Nat.le_of_ble_eq_true rfl) ⟨Nat.le_refl _, Nat.le_refl _⟩ (fun σ4 _ _ hq3 hw5 => ?_) (fun x σx _ _ hx0 hqx hwx => ?_)
  rotate_left
  · obtain ⟨htx, hkx, h⟩ := hqx
    have h := h hkx
    exact z_out K hwx hx0 ⟨htx, kp_trans wo_X9_read hk hkx (fun _ q => q) (by decide), h⟩ (no_cov hex 116)
  obtain ⟨hk6, h⟩ := hq3
  have h := h hk6
  have hk7 := kp_trans wo_X9_read hk hk6 (fun _ q => q) (by decide)
  have hg8 : tg σ4 a0 = 8 := kp_tg hk6 wo_X6_must ht0 (by decide)
  have hg9 : tg σ4 o1 = 5 := kp_tg hk6 wo_X6_must ht1 (by decide)
  refine z_aload_n (pc := 119) K dX9_read_119 rfl (lv_at hl 1 rfl) ?_
  refine z_getN (pc := 120) (t := 5) (k := 0) K hw5 (ob (t := 5) hg9) zq5 (by decide) q354 (fun _ h => h) dX9_read_120 (zval_p (κ := 1) kf_5_0) ?_
  refine z_aload_n (pc := 123) K dX9_read_123 rfl (lv_at hl 1 rfl) ?_
  refine z_getN (pc := 124) (t := 5) (k := 2) K hw5 (ob (t := 5) hg9) zq5 (by decide) q359 (fun _ h => h) dX9_read_124 (zval_i kf_5_2) ?_
  refine z_aload_n (pc := 127) K dX9_read_127 rfl (lv_at hl 0 rfl) ?_
  refine z_aload_n (pc := 128) K dX9_read_128 rfl (lv_at hl 0 rfl) ?_
  refine z_get (pc := 129) (t := 8) (k := 9) K hw5 (ob (t := 8) hg8) zq8 (by decide) q455 (fun _ h => h) dX9_read_129 (zval_r kf_8_9) ?_
  have hg10 : tg σ4 (σ4 a0 9 0) = 1 := (z_tg (t := 8) (r := 1) hw5 hg8 ⟨by decide, by decide⟩ kf_8_9 kn_8_9 kt_8_9 (by decide) (by decide))
  refine z_getN (pc := 132) (t := 1) (k := 8) K hw5 (ob (t := 1) hg10) zq1 (by decide) q525 (fun _ h => h) dX9_read_132 (zval_r kf_1_8) ?_
  have hg11 : tg σ4 (σ4 (σ4 a0 9 0) 8 0) = 3 := (z_tg (t := 1) (r := 3) hw5 hg10 ⟨by decide, by decide⟩ kf_1_8 kn_1_8 kt_1_8 (by decide) (by decide))
  refine z_getN (pc := 135) (t := 3) (k := 0) K hw5 (ob (t := 3) hg11) zq3 (by decide) q301 (fun _ h => h) dX9_read_135 (zval_r kf_3_0) ?_
  have hg12 : tg σ4 (σ4 (σ4 (σ4 a0 9 0) 8 0) 0 0) = 4 := (z_tg (t := 3) (r := 4) hw5 hg11 ⟨by decide, by decide⟩ kf_3_0 kn_3_0 kt_3_0 (by decide) (by decide))
  refine z_getN (pc := 138) (t := 4) (k := 0) K hw5 (ob (t := 4) hg12) zq4 (by decide) q243 (fun _ h => h) dX9_read_138 (zval_p (κ := 5) kf_4_0) ?_
  refine z_aload_n (pc := 141) K dX9_read_141 rfl (lv_at hl 0 rfl) ?_
  refine z_get (pc := 142) (t := 8) (k := 9) K hw5 (ob (t := 8) hg8) zq8 (by decide) q455 (fun _ h => h) dX9_read_142 (zval_r kf_8_9) ?_
  refine z_getN (pc := 145) (t := 1) (k := 8) K hw5 (ob (t := 1) hg10) zq1 (by decide) q525 (fun _ h => h) dX9_read_145 (zval_r kf_1_8) ?_
  refine z_getN (pc := 148) (t := 3) (k := 0) K hw5 (ob (t := 3) hg11) zq3 (by decide) q301 (fun _ h => h) dX9_read_148 (zval_r kf_3_0) ?_
  refine z_getN (pc := 151) (t := 4) (k := 3) K hw5 (ob (t := 4) hg12) zq4 (by decide) q257 (fun _ h => h) dX9_read_151 (zval_i kf_4_3) ?_
  refine zt_i (pc := 154) (maxL := 3) K hw5 (met_X9_one_0 X l σ4 a0 (σ4 (σ4 (σ4 a0 9 0) 8 0) 0 0) 0 8 (σ4 (σ4 (σ4 (σ4 a0 9 0) 8 0) 0 0) 3 0) hg8 hg12 kf_4_0 kl_4_0 kt_4_0 (z_rI hw5 (ob (t := 4) hg12) kf_4_3) _ _ h) (i_V (n := 2) (t := 8) (As := [jR X (σ4 (σ4 (σ4 (σ4 a0 9 0) 8 0) 0 0) 0 (-1)), jI (σ4 (σ4 (σ4 (σ4 a0 9 0) 8 0) 0 0) 3 0)]) K hw5 (ob hg8) zq8 (by decide) q1049 q1051 qs8 (sg_of K q1052) rfl rfl dX9_read_154) (locw K q1052 q100) ⟨by decide, by decide⟩ hl.1 dX9_read_154 (Nat.le_of_ble_eq_true rfl) ⟨Nat.le_refl _, Nat.le_refl _⟩ (fun r13 σ16 _ _ hr14 hq15 hw17 => ?_) (fun x σx _ _ hx0 hqx hwx => ?_)
  rotate_left
  · obtain ⟨htx, hkx, h⟩ := hqx
    have h := h hkx
    exact z_out K hwx hx0 ⟨htx, kp_trans wo_X9_read hk7 hkx (fun _ q => q) (by decide), h⟩ (no_cov hex 154)
  obtain ⟨hk18, h⟩ := hq15
  have h := h hk18
  have hk19 := kp_trans wo_X9_read hk7 hk18 (fun _ q => q) (by decide)
  have hg20 : tg σ16 a0 = 8 := kp_tg hk18 wo_X9_one hg8 (by decide)
  have hg21 : tg σ16 o1 = 5 := kp_tg hk18 wo_X9_one hg9 (by decide)
  rw [show σ4 o1 0 (-1) = σ16 o1 0 (-1) from ptr_k hk18 hg9 (by decide)]
  obtain ⟨hj22, h⟩ := h
  refine z_iast (pc := 157) (t := 5) K hw17 hg21 ⟨by decide, by decide⟩ kf_5_0 kl_5_0 hj22 (by decide) hr14 dX9_read_157 (fun _ _ hw23 => ?_)
  obtain ⟨σ24, e25⟩ : ∃ z, z = st σ16 o1 0 (σ4 o1 2 0) r13 := ⟨_, rfl⟩
  have h := h σ24 e25
  have hw23 := wc_e e25 hw23
  have hk26 := kp_e e25 hk19 wo_X9_read hj22.1 hg21 (t := 5) (by decide)
  have hg27 : tg σ24 a0 = 8 := (tg_e e25 (by decide)).trans hg20
  have hg28 : tg σ24 o1 = 5 := (tg_e e25 (by decide)).trans hg21
  refine z_aload_n (pc := 158) K dX9_read_158 rfl (lv_at hl 1 rfl) ?_
  refine z_getN (pc := 159) (t := 5) (k := 1) K hw23 (ob (t := 5) hg28) zq5 (by decide) q357 (fun _ h => h) dX9_read_159 (zval_p (κ := 1) kf_5_1) ?_
  refine z_aload_n (pc := 162) K dX9_read_162 rfl (lv_at hl 1 rfl) ?_
  refine z_getN (pc := 163) (t := 5) (k := 2) K hw23 (ob (t := 5) hg28) zq5 (by decide) q359 (fun _ h => h) dX9_read_163 (zval_i kf_5_2) ?_
  refine z_aload_n (pc := 166) K dX9_read_166 rfl (lv_at hl 0 rfl) ?_
  refine z_aload_n (pc := 167) K dX9_read_167 rfl (lv_at hl 0 rfl) ?_
  refine z_get (pc := 168) (t := 8) (k := 9) K hw23 (ob (t := 8) hg27) zq8 (by decide) q455 (fun _ h => h) dX9_read_168 (zval_r kf_8_9) ?_
  have hg29 : tg σ24 (σ24 a0 9 0) = 1 := (z_tg (t := 8) (r := 1) hw23 hg27 ⟨by decide, by decide⟩ kf_8_9 kn_8_9 kt_8_9 (by decide) (by decide))
  refine z_getN (pc := 171) (t := 1) (k := 8) K hw23 (ob (t := 1) hg29) zq1 (by decide) q525 (fun _ h => h) dX9_read_171 (zval_r kf_1_8) ?_
  have hg30 : tg σ24 (σ24 (σ24 a0 9 0) 8 0) = 3 := (z_tg (t := 1) (r := 3) hw23 hg29 ⟨by decide, by decide⟩ kf_1_8 kn_1_8 kt_1_8 (by decide) (by decide))
  refine z_getN (pc := 174) (t := 3) (k := 0) K hw23 (ob (t := 3) hg30) zq3 (by decide) q301 (fun _ h => h) dX9_read_174 (zval_r kf_3_0) ?_
  have hg31 : tg σ24 (σ24 (σ24 (σ24 a0 9 0) 8 0) 0 0) = 4 := (z_tg (t := 3) (r := 4) hw23 hg30 ⟨by decide, by decide⟩ kf_3_0 kn_3_0 kt_3_0 (by decide) (by decide))
  refine z_getN (pc := 177) (t := 4) (k := 1) K hw23 (ob (t := 4) hg31) zq4 (by decide) q249 (fun _ h => h) dX9_read_177 (zval_p (κ := 6) kf_4_1) ?_
  refine z_aload_n (pc := 180) K dX9_read_180 rfl (lv_at hl 0 rfl) ?_
  refine z_get (pc := 181) (t := 8) (k := 9) K hw23 (ob (t := 8) hg27) zq8 (by decide) q455 (fun _ h => h) dX9_read_181 (zval_r kf_8_9) ?_
  refine z_getN (pc := 184) (t := 1) (k := 8) K hw23 (ob (t := 1) hg29) zq1 (by decide) q525 (fun _ h => h) dX9_read_184 (zval_r kf_1_8) ?_
  refine z_getN (pc := 187) (t := 3) (k := 0) K hw23 (ob (t := 3) hg30) zq3 (by decide) q301 (fun _ h => h) dX9_read_187 (zval_r kf_3_0) ?_
  refine z_getN (pc := 190) (t := 4) (k := 4) K hw23 (ob (t := 4) hg31) zq4 (by decide) q264 (fun _ h => h) dX9_read_190 (zval_i kf_4_4) ?_
  refine zt_i (pc := 193) (maxL := 3) K hw23 (met_X9_one_1 X l σ24 a0 (σ24 (σ24 (σ24 a0 9 0) 8 0) 0 0) 1 10 (σ24 (σ24 (σ24 (σ24 a0 9 0) 8 0) 0 0) 4 0) hg27 hg31 kf_4_1 kl_4_1 kt_4_1 (z_rI hw23 (ob (t := 4) hg31) kf_4_4) _ _ h) (i_V (n := 2) (t := 8) (As := [jR X (σ24 (σ24 (σ24 (σ24 a0 9 0) 8 0) 0 0) 1 (-1)), jI (σ24 (σ24 (σ24 (σ24 a0 9 0) 8 0) 0 0) 4 0)]) K hw23 (ob hg27) zq8 (by decide) q1049 q1051 qs8 (sg_of K q1052) rfl rfl dX9_read_193) (locw K q1052 q100) ⟨by decide, by decide⟩ hl.1 dX9_read_193 (Nat.le_of_ble_eq_true rfl) ⟨Nat.le_refl _, Nat.le_refl _⟩ (fun r32 σ35 _ _ hr33 hq34 hw36 => ?_) (fun x σx _ _ hx0 hqx hwx => ?_)
  rotate_left
  · obtain ⟨htx, hkx, h⟩ := hqx
    have h := h hkx
    exact z_out K hwx hx0 ⟨htx, kp_trans wo_X9_read hk26 hkx (fun _ q => q) (by decide), h⟩ (no_cov hex 193)
  obtain ⟨hk37, h⟩ := hq34
  have h := h hk37
  have hk38 := kp_trans wo_X9_read hk26 hk37 (fun _ q => q) (by decide)
  have hg39 : tg σ35 a0 = 8 := kp_tg hk37 wo_X9_one hg27 (by decide)
  have hg40 : tg σ35 o1 = 5 := kp_tg hk37 wo_X9_one hg28 (by decide)
  rw [show σ24 o1 1 (-1) = σ35 o1 1 (-1) from ptr_k hk37 hg28 (by decide)]
  obtain ⟨hj41, h⟩ := h
  refine z_iast (pc := 196) (t := 5) K hw36 hg40 ⟨by decide, by decide⟩ kf_5_1 kl_5_1 hj41 (by decide) hr33 dX9_read_196 (fun _ _ hw42 => ?_)
  obtain ⟨σ43, e44⟩ : ∃ z, z = st σ35 o1 1 (σ24 o1 2 0) r32 := ⟨_, rfl⟩
  have h := h σ43 e44
  have hw42 := wc_e e44 hw42
  have hk45 := kp_e e44 hk38 wo_X9_read hj41.1 hg40 (t := 5) (by decide)
  have hg46 : tg σ43 a0 = 8 := (tg_e e44 (by decide)).trans hg39
  have hg47 : tg σ43 o1 = 5 := (tg_e e44 (by decide)).trans hg40
  refine z_aload_n (pc := 197) K dX9_read_197 rfl (lv_at hl 1 rfl) ?_
  refine lv_dup (pc := 198) K.x K.b dX9_read_198 (jR_cat _ _) ?_
  refine z_getN (pc := 199) (t := 5) (k := 2) K hw42 (ob (t := 5) hg47) zq5 (by decide) q359 (fun _ h => h) dX9_read_199 (zval_i kf_5_2) ?_
  refine z_iconst (pc := 202) K dX9_read_202 ?_
  refine z_iadd (pc := 203) K dX9_read_203 ?_
  obtain ⟨hr48, h⟩ := h
  refine z_putiN (pc := 204) (t := 5) 2 K hw42 (ob hg47) zq5 (by decide) kf_5_2 zt_5_2 hr48 q359 (fun _ h => h) rfl dX9_read_204 (fun _ _ hw49 => ?_)
  obtain ⟨σ50, e51⟩ : ∃ z, z = st σ43 o1 2 0 ((σ43 o1 2 0) + 1) := ⟨_, rfl⟩
  have h := h σ50 e51
  have hw49 := wc_e e51 hw49
  have hk52 := kp_e e51 hk45 wo_X9_read (by decide) hg47 (t := 5) (by decide)
  have hg53 : tg σ50 a0 = 8 := (tg_e e51 (by decide)).trans hg46
  have hg54 : tg σ50 o1 = 5 := (tg_e e51 (by decide)).trans hg47
  refine z_aload_n (pc := 207) K dX9_read_207 rfl (lv_at hl 0 rfl) ?_
  refine z_bipush (pc := 208) K dX9_read_208 (by decide) ?_
  refine zt_v (pc := 210) (maxL := 2) K hw49 (met_X6_sign_8 X l σ50 a0 59 hg53 ⟨by decide, by decide⟩ _ _ h) (i_VU (n := 1) (t := 8) (As := [jI 59]) (owner := "CombTable$Reader") K hw49 (ob hg53) zq8 (by decide) (by decide) q1059 q1060 q876 q1061 (dcl_of K q876 q877) rfl rfl dX9_read_210) (locw K q877 q97) ⟨by decide, by decide⟩ hl.1 dX9_read_210 (Nat.le_of_ble_eq_true rfl) ⟨Nat.le_refl _, Nat.le_refl _⟩ (fun σ58 _ _ hq57 hw59 => ?_) (fun x σx _ _ hx0 hqx hwx => ?_)
  rotate_left
  · obtain ⟨htx, hkx, h⟩ := hqx
    have h := h hkx
    exact z_out K hwx hx0 ⟨htx, kp_trans wo_X9_read hk52 hkx (fun _ q => q) (by decide), h⟩ (no_cov hex 210)
  obtain ⟨hk60, h⟩ := hq57
  have h := h hk60
  have hk61 := kp_trans wo_X9_read hk52 hk60 (fun _ q => q) (by decide)
  have hg62 : tg σ58 a0 = 8 := kp_tg hk60 wo_X6_sign hg53 (by decide)
  have hg63 : tg σ58 o1 = 5 := kp_tg hk60 wo_X6_sign hg54 (by decide)
  refine z_goto (pc := 213) (tgt := 14) K dX9_read_213 (by decide) ?_
  exact hL14 σ58 _ _ _ h hw59 hk61 hg62 hg63 (lv_sub hl [0, 1] rfl)
set_option maxHeartbeats 4000000 in
theorem wk_X9_read_b96 {X : Cxt} {p : Program} {l : Launch} {e : Env} {s : State} {m : MethodId} {args : Array Value} {below : List Frame} {meth : Method} {c : Code} (a0 : Int) (o1 : Int) (Q : St → Prop) (E : Int → St → Prop) (σ0 : St) (K : MCx X p s m args meth c cX9_read 2 "CombTable$MinutesReader" (none)) (hex : c.exceptionTable.isEmpty = true) (L14 : St → Prop) (hL14 : ∀ (σ : St) (H : Heap) (locs : List Loc) (ls : Array Slot), L14 σ → Wc X σ s.heap H locs → Kp ws_X9_read σ0 σ → tg σ a0 = 8 → tg σ o1 = 5 → lv_has ls 2 [(0, jR X a0), (1, jR X o1)] → W p l e (zrm 10 0 0) s m args below meth c H locs 0 0 (MQT below (ZQ X (qV (fun σ' => Kp ws_X9_read σ0 σ' ∧ Q σ')) (fun x σ' => tg σ' x = 2 ∧ Kp ws_X9_read σ0 σ' ∧ E x σ')) args s 0 0 (zA X)) (F0 m 14 ls [])) : ∀ (σ : St) (s1 : Int) (H : Heap) (locs : List Loc) (ls : Array Slot), wp_X9_read_b96 a0 o1 Q E σ0 L14 σ s1 → Wc X σ s.heap H locs → Kp ws_X9_read σ0 σ → tg σ a0 = 8 → tg σ o1 = 5 → (0 ≤ s1 ∧ s1 ≤ 1) → lv_has ls 2 [(0, jR X a0), (1, jR X o1)] → W p l e (zrm 10 0 0) s m args below meth c H locs 0 0 (MQT below (ZQ X (qV (fun σ' => Kp ws_X9_read σ0 σ' ∧ Q σ')) (fun x σ' => tg σ' x = 2 ∧ Kp ws_X9_read σ0 σ' ∧ E x σ')) args s 0 0 (zA X)) (F0 m 96 ls [jI s1, jR X a0]) := by
  intro σ s1 H locs ls h hw hk ht0 ht1 hs1 hl
  refine z_iconst (pc := 96) K dX9_read_96 ?_
  refine zt_v (pc := 97) (maxL := 3) K hw (met_X6_must_8 X l σ a0 s1 3 ht0 hs1 ⟨by decide, by decide⟩ _ _ h) (i_VU (n := 2) (t := 8) (As := [jI s1, jI 3]) (owner := "CombTable$Reader") K hw (ob ht0) zq8 (by decide) (by decide) q1043 q1044 q758 q1045 (dcl_of K q758 q759) rfl rfl dX9_read_97) (locw K q759 q97) ⟨by decide, by decide⟩ hl.1 dX9_read_97 (Nat.le_of_ble_eq_true rfl) ⟨Nat.le_refl _, Nat.le_refl _⟩ (fun σ4 _ _ hq3 hw5 => ?_) (fun x σx _ _ hx0 hqx hwx => ?_)
  rotate_left
  · obtain ⟨htx, hkx, h⟩ := hqx
    have h := h hkx
    exact z_out K hwx hx0 ⟨htx, kp_trans wo_X9_read hk hkx (fun _ q => q) (by decide), h⟩ (no_cov hex 97)
  obtain ⟨hk6, h⟩ := hq3
  have h := h hk6
  have hk7 := kp_trans wo_X9_read hk hk6 (fun _ q => q) (by decide)
  have hg8 : tg σ4 a0 = 8 := kp_tg hk6 wo_X6_must ht0 (by decide)
  have hg9 : tg σ4 o1 = 5 := kp_tg hk6 wo_X6_must ht1 (by decide)
  refine z_aload_n (pc := 100) K dX9_read_100 rfl (lv_at hl 0 rfl) ?_
  refine z_aload_n (pc := 101) K dX9_read_101 rfl (lv_at hl 1 rfl) ?_
  refine z_getN (pc := 102) (t := 5) (k := 2) K hw5 (ob (t := 5) hg9) zq5 (by decide) q359 (fun _ h => h) dX9_read_102 (zval_i kf_5_2) ?_
  refine z_bipush (pc := 105) K dX9_read_105 (by decide) ?_
  refine z_icmp_ge (pc := 107) (tgt := 114) K (z_rI hw5 (ob (t := 5) hg9) kf_5_2) ⟨by decide, by decide⟩ dX9_read_107 (by decide) (fun hc10 => ?_) (fun hc10 => ?_)
  · have h := ite_t h hc10
    refine z_iconst (pc := 110) K dX9_read_110 ?_
    refine z_goto (pc := 111) (tgt := 115) K dX9_read_111 (by decide) ?_
    exact wk_X9_read_b115 a0 o1 Q E σ0 K hex L14 hL14 σ4 1 _ _ _ h hw5 hk7 hg8 hg9 ⟨by decide, by decide⟩ (lv_sub hl [0, 1] rfl)
  · have h := ite_f h hc10
    refine z_iconst (pc := 114) K dX9_read_114 ?_
    exact wk_X9_read_b115 a0 o1 Q E σ0 K hex L14 hL14 σ4 0 _ _ _ h hw5 hk7 hg8 hg9 ⟨by decide, by decide⟩ (lv_sub hl [0, 1] rfl)
set_option maxHeartbeats 4000000 in
theorem wk_X9_read_b91 {X : Cxt} {p : Program} {l : Launch} {e : Env} {s : State} {m : MethodId} {args : Array Value} {below : List Frame} {meth : Method} {c : Code} (a0 : Int) (o1 : Int) (Q : St → Prop) (E : Int → St → Prop) (σ0 : St) (K : MCx X p s m args meth c cX9_read 2 "CombTable$MinutesReader" (none)) (hex : c.exceptionTable.isEmpty = true) (L14 : St → Prop) (hL14 : ∀ (σ : St) (H : Heap) (locs : List Loc) (ls : Array Slot), L14 σ → Wc X σ s.heap H locs → Kp ws_X9_read σ0 σ → tg σ a0 = 8 → tg σ o1 = 5 → lv_has ls 2 [(0, jR X a0), (1, jR X o1)] → W p l e (zrm 10 0 0) s m args below meth c H locs 0 0 (MQT below (ZQ X (qV (fun σ' => Kp ws_X9_read σ0 σ' ∧ Q σ')) (fun x σ' => tg σ' x = 2 ∧ Kp ws_X9_read σ0 σ' ∧ E x σ')) args s 0 0 (zA X)) (F0 m 14 ls [])) : ∀ (σ : St) (H : Heap) (locs : List Loc) (ls : Array Slot), wp_X9_read_b91 a0 o1 Q E σ0 L14 σ → Wc X σ s.heap H locs → Kp ws_X9_read σ0 σ → tg σ a0 = 8 → tg σ o1 = 5 → lv_has ls 2 [(0, jR X a0), (1, jR X o1)] → W p l e (zrm 10 0 0) s m args below meth c H locs 0 0 (MQT below (ZQ X (qV (fun σ' => Kp ws_X9_read σ0 σ' ∧ Q σ')) (fun x σ' => tg σ' x = 2 ∧ Kp ws_X9_read σ0 σ' ∧ E x σ')) args s 0 0 (zA X)) (F0 m 91 ls [jR X a0]) := by
  intro σ H locs ls h hw hk ht0 ht1 hl
  refine z_iconst (pc := 91) K dX9_read_91 ?_
  refine z_goto (pc := 92) (tgt := 96) K dX9_read_92 (by decide) ?_
  exact wk_X9_read_b96 a0 o1 Q E σ0 K hex L14 hL14 σ 1 _ _ _ h hw hk ht0 ht1 ⟨by decide, by decide⟩ (lv_sub hl [0, 1] rfl)
set_option maxHeartbeats 4000000 in
theorem wk_X9_read_b43 {X : Cxt} {p : Program} {l : Launch} {e : Env} {s : State} {m : MethodId} {args : Array Value} {below : List Frame} {meth : Method} {c : Code} (a0 : Int) (o1 : Int) (Q : St → Prop) (E : Int → St → Prop) (σ0 : St) (K : MCx X p s m args meth c cX9_read 2 "CombTable$MinutesReader" (none)) (hex : c.exceptionTable.isEmpty = true) (L14 : St → Prop) (hL14 : ∀ (σ : St) (H : Heap) (locs : List Loc) (ls : Array Slot), L14 σ → Wc X σ s.heap H locs → Kp ws_X9_read σ0 σ → tg σ a0 = 8 → tg σ o1 = 5 → lv_has ls 2 [(0, jR X a0), (1, jR X o1)] → W p l e (zrm 10 0 0) s m args below meth c H locs 0 0 (MQT below (ZQ X (qV (fun σ' => Kp ws_X9_read σ0 σ' ∧ Q σ')) (fun x σ' => tg σ' x = 2 ∧ Kp ws_X9_read σ0 σ' ∧ E x σ')) args s 0 0 (zA X)) (F0 m 14 ls [])) : ∀ (σ : St) (s1 : Int) (H : Heap) (locs : List Loc) (ls : Array Slot), wp_X9_read_b43 a0 o1 Q E σ0 L14 σ s1 → Wc X σ s.heap H locs → Kp ws_X9_read σ0 σ → tg σ a0 = 8 → tg σ o1 = 5 → (0 ≤ s1 ∧ s1 ≤ 1) → lv_has ls 2 [(0, jR X a0), (1, jR X o1)] → W p l e (zrm 10 0 0) s m args below meth c H locs 0 0 (MQT below (ZQ X (qV (fun σ' => Kp ws_X9_read σ0 σ' ∧ Q σ')) (fun x σ' => tg σ' x = 2 ∧ Kp ws_X9_read σ0 σ' ∧ E x σ')) args s 0 0 (zA X)) (F0 m 43 ls [jI s1, jR X a0]) := by
  intro σ s1 H locs ls h hw hk ht0 ht1 hs1 hl
  refine z_iconst (pc := 43) K dX9_read_43 ?_
  refine zt_v (pc := 44) (maxL := 3) K hw (met_X6_must_8 X l σ a0 s1 1 ht0 hs1 ⟨by decide, by decide⟩ _ _ h) (i_VU (n := 2) (t := 8) (As := [jI s1, jI 1]) (owner := "CombTable$Reader") K hw (ob ht0) zq8 (by decide) (by decide) q1043 q1044 q758 q1045 (dcl_of K q758 q759) rfl rfl dX9_read_44) (locw K q759 q97) ⟨by decide, by decide⟩ hl.1 dX9_read_44 (Nat.le_of_ble_eq_true rfl) ⟨Nat.le_refl _, Nat.le_refl _⟩ (fun σ4 _ _ hq3 hw5 => ?_) (fun x σx _ _ hx0 hqx hwx => ?_)
  rotate_left
  · obtain ⟨htx, hkx, h⟩ := hqx
    have h := h hkx
    exact z_out K hwx hx0 ⟨htx, kp_trans wo_X9_read hk hkx (fun _ q => q) (by decide), h⟩ (no_cov hex 44)
  obtain ⟨hk6, h⟩ := hq3
  have h := h hk6
  have hk7 := kp_trans wo_X9_read hk hk6 (fun _ q => q) (by decide)
  have hg8 : tg σ4 a0 = 8 := kp_tg hk6 wo_X6_must ht0 (by decide)
  have hg9 : tg σ4 o1 = 5 := kp_tg hk6 wo_X6_must ht1 (by decide)
  refine z_aload_n (pc := 47) K dX9_read_47 rfl (lv_at hl 0 rfl) ?_
  refine z_aload_n (pc := 48) K dX9_read_48 rfl (lv_at hl 0 rfl) ?_
  refine z_ldcS (pc := 49) (i := 34) K (-36) (by decide) (tx := "any") rfl dX9_read_49 ?_
  refine zr_z (pc := 51) (maxL := 3) K hw5 (met_X6_is_8 X l σ4 a0 (-36) hg8 ⟨by decide, by decide⟩ _ h) (i_VU (n := 1) (t := 8) (As := [jR X (-36)]) (owner := "CombTable$Reader") K hw5 (ob hg8) zq8 (by decide) (by decide) q1037 q1038 q699 q1039 (dcl_of K q699 q705) rfl rfl dX9_read_51) (locw K q705 q97) ⟨by decide, by decide⟩ hl.1 dX9_read_51 (Nat.le_of_ble_eq_true rfl) ⟨Nat.le_refl _, Nat.le_refl _⟩ (fun r10 _ _ hr11 h hw14 => ?_)
  refine z_if_ne (pc := 54) (tgt := 91) K (b01r hr11) dX9_read_54 (by decide) (fun hc15 => ?_) (fun hc15 => ?_)
  · have h := ite_t h hc15
    refine z_aload_n (pc := 57) K dX9_read_57 rfl (lv_at hl 0 rfl) ?_
    refine z_aload_n (pc := 58) K dX9_read_58 rfl (lv_at hl 0 rfl) ?_
    refine z_get (pc := 59) (t := 8) (k := 9) K hw14 (ob (t := 8) hg8) zq8 (by decide) q455 (fun _ h => h) dX9_read_59 (zval_r kf_8_9) ?_
    have hg16 : tg σ4 (σ4 a0 9 0) = 1 := (z_tg (t := 8) (r := 1) hw14 hg8 ⟨by decide, by decide⟩ kf_8_9 kn_8_9 kt_8_9 (by decide) (by decide))
    refine z_getN (pc := 62) (t := 1) (k := 8) K hw14 (ob (t := 1) hg16) zq1 (by decide) q525 (fun _ h => h) dX9_read_62 (zval_r kf_1_8) ?_
    have hg17 : tg σ4 (σ4 (σ4 a0 9 0) 8 0) = 3 := (z_tg (t := 1) (r := 3) hw14 hg16 ⟨by decide, by decide⟩ kf_1_8 kn_1_8 kt_1_8 (by decide) (by decide))
    refine z_getN (pc := 65) (t := 3) (k := 0) K hw14 (ob (t := 3) hg17) zq3 (by decide) q301 (fun _ h => h) dX9_read_65 (zval_r kf_3_0) ?_
    have hg18 : tg σ4 (σ4 (σ4 (σ4 a0 9 0) 8 0) 0 0) = 4 := (z_tg (t := 3) (r := 4) hw14 hg17 ⟨by decide, by decide⟩ kf_3_0 kn_3_0 kt_3_0 (by decide) (by decide))
    refine z_getN (pc := 68) (t := 4) (k := 0) K hw14 (ob (t := 4) hg18) zq4 (by decide) q243 (fun _ h => h) dX9_read_68 (zval_p (κ := 5) kf_4_0) ?_
    refine z_aload_n (pc := 71) K dX9_read_71 rfl (lv_at hl 0 rfl) ?_
    refine z_get (pc := 72) (t := 8) (k := 9) K hw14 (ob (t := 8) hg8) zq8 (by decide) q455 (fun _ h => h) dX9_read_72 (zval_r kf_8_9) ?_
    refine z_getN (pc := 75) (t := 1) (k := 8) K hw14 (ob (t := 1) hg16) zq1 (by decide) q525 (fun _ h => h) dX9_read_75 (zval_r kf_1_8) ?_
    refine z_getN (pc := 78) (t := 3) (k := 0) K hw14 (ob (t := 3) hg17) zq3 (by decide) q301 (fun _ h => h) dX9_read_78 (zval_r kf_3_0) ?_
    refine z_getN (pc := 81) (t := 4) (k := 3) K hw14 (ob (t := 4) hg18) zq4 (by decide) q257 (fun _ h => h) dX9_read_81 (zval_i kf_4_3) ?_
    refine zr_i (pc := 84) (maxL := 4) K hw14 (met_X6_of_8_0 X l σ4 a0 (σ4 (σ4 (σ4 a0 9 0) 8 0) 0 0) 0 8 (σ4 (σ4 (σ4 (σ4 a0 9 0) 8 0) 0 0) 3 0) hg8 hg18 kf_4_0 kl_4_0 kt_4_0 (z_rI hw14 (ob (t := 4) hg18) kf_4_3) _ h) (i_VU (n := 2) (t := 8) (As := [jR X (σ4 (σ4 (σ4 (σ4 a0 9 0) 8 0) 0 0) 0 (-1)), jI (σ4 (σ4 (σ4 (σ4 a0 9 0) 8 0) 0 0) 3 0)]) (owner := "CombTable$Reader") K hw14 (ob hg8) zq8 (by decide) (by decide) q1046 q1047 q791 q1048 (dcl_of K q791 q792) rfl rfl dX9_read_84) (locw K q792 q97) ⟨by decide, by decide⟩ hl.1 dX9_read_84 (Nat.le_of_ble_eq_true rfl) ⟨Nat.le_refl _, Nat.le_refl _⟩ (fun r19 _ _ hr20 h hw23 => ?_)
    refine z_iconst (pc := 87) K dX9_read_87 ?_
    refine z_icmp_eq (pc := 88) (tgt := 95) K hr20 ⟨by decide, by decide⟩ dX9_read_88 (by decide) (fun hc24 => ?_) (fun hc24 => ?_)
    · have h := ite_t h hc24
      refine z_iconst (pc := 95) K dX9_read_95 ?_
      exact wk_X9_read_b96 a0 o1 Q E σ0 K hex L14 hL14 σ4 0 _ _ _ h hw23 hk7 hg8 hg9 ⟨by decide, by decide⟩ (lv_sub hl [0, 1] rfl)
    · have h := ite_f h hc24
      exact wk_X9_read_b91 a0 o1 Q E σ0 K hex L14 hL14 σ4 _ _ _ h hw23 hk7 hg8 hg9 (lv_sub hl [0, 1] rfl)
  · have h := ite_f h hc15
    exact wk_X9_read_b91 a0 o1 Q E σ0 K hex L14 hL14 σ4 _ _ _ h hw14 hk7 hg8 hg9 (lv_sub hl [0, 1] rfl)
set_option maxHeartbeats 4000000 in
theorem wk_X9_read_b38 {X : Cxt} {p : Program} {l : Launch} {e : Env} {s : State} {m : MethodId} {args : Array Value} {below : List Frame} {meth : Method} {c : Code} (a0 : Int) (o1 : Int) (Q : St → Prop) (E : Int → St → Prop) (σ0 : St) (K : MCx X p s m args meth c cX9_read 2 "CombTable$MinutesReader" (none)) (hex : c.exceptionTable.isEmpty = true) (L14 : St → Prop) (hL14 : ∀ (σ : St) (H : Heap) (locs : List Loc) (ls : Array Slot), L14 σ → Wc X σ s.heap H locs → Kp ws_X9_read σ0 σ → tg σ a0 = 8 → tg σ o1 = 5 → lv_has ls 2 [(0, jR X a0), (1, jR X o1)] → W p l e (zrm 10 0 0) s m args below meth c H locs 0 0 (MQT below (ZQ X (qV (fun σ' => Kp ws_X9_read σ0 σ' ∧ Q σ')) (fun x σ' => tg σ' x = 2 ∧ Kp ws_X9_read σ0 σ' ∧ E x σ')) args s 0 0 (zA X)) (F0 m 14 ls [])) : ∀ (σ : St) (H : Heap) (locs : List Loc) (ls : Array Slot), wp_X9_read_b38 a0 o1 Q E σ0 L14 σ → Wc X σ s.heap H locs → Kp ws_X9_read σ0 σ → tg σ a0 = 8 → tg σ o1 = 5 → lv_has ls 2 [(0, jR X a0), (1, jR X o1)] → W p l e (zrm 10 0 0) s m args below meth c H locs 0 0 (MQT below (ZQ X (qV (fun σ' => Kp ws_X9_read σ0 σ' ∧ Q σ')) (fun x σ' => tg σ' x = 2 ∧ Kp ws_X9_read σ0 σ' ∧ E x σ')) args s 0 0 (zA X)) (F0 m 38 ls [jR X a0]) := by
  intro σ H locs ls h hw hk ht0 ht1 hl
  refine z_iconst (pc := 38) K dX9_read_38 ?_
  refine z_goto (pc := 39) (tgt := 43) K dX9_read_39 (by decide) ?_
  exact wk_X9_read_b43 a0 o1 Q E σ0 K hex L14 hL14 σ 1 _ _ _ h hw hk ht0 ht1 ⟨by decide, by decide⟩ (lv_sub hl [0, 1] rfl)
set_option maxHeartbeats 4000000 in
theorem wk_X9_read_14 {X : Cxt} {p : Program} {l : Launch} {e : Env} {s : State} {m : MethodId} {args : Array Value} {below : List Frame} {meth : Method} {c : Code} (a0 : Int) (o1 : Int) (Q : St → Prop) (E : Int → St → Prop) (σ0 : St) (K : MCx X p s m args meth c cX9_read 2 "CombTable$MinutesReader" (none)) (hex : c.exceptionTable.isEmpty = true) : ∀ (n : Nat), ∀ (σ : St) (H : Heap) (locs : List Loc) (ls : Array Slot), lp_X9_read_14 a0 o1 Q E σ0 n σ → Wc X σ s.heap H locs → Kp ws_X9_read σ0 σ → tg σ a0 = 8 → tg σ o1 = 5 → lv_has ls 2 [(0, jR X a0), (1, jR X o1)] → W p l e (zrm 10 0 0) s m args below meth c H locs 0 0 (MQT below (ZQ X (qV (fun σ' => Kp ws_X9_read σ0 σ' ∧ Q σ')) (fun x σ' => tg σ' x = 2 ∧ Kp ws_X9_read σ0 σ' ∧ E x σ')) args s 0 0 (zA X)) (F0 m 14 ls []) := by
  intro n
  induction n with
  | zero => intro σ H locs ls h; exact h.elim
  | succ n ih =>
    intro σ H locs ls h hw hk ht0 ht1 hl
    have h := h hk
    refine z_aload_n (pc := 14) K dX9_read_14 rfl (lv_at hl 0 rfl) ?_
    refine z_get (pc := 15) (t := 8) (k := 3) K hw (ob (t := 8) ht0) zq8 (by decide) q388 (u_same (K.ts _ q389)) dX9_read_15 (zval_i kf_8_3) ?_
    refine z_if_eq (pc := 18) (tgt := 216) K (z_rI hw (ob (t := 8) ht0) kf_8_3) dX9_read_18 (by decide) (fun hc1 => ?_) (fun hc1 => ?_)
    · have h := ite_t h hc1
      exact z_vret (pc := 216) K hw ⟨hk, h⟩ dX9_read_216
    · have h := ite_f h hc1
      refine z_aload_n (pc := 21) K dX9_read_21 rfl (lv_at hl 0 rfl) ?_
      refine z_aload_n (pc := 22) K dX9_read_22 rfl (lv_at hl 0 rfl) ?_
      refine z_ldcS (pc := 23) (i := 34) K (-36) (by decide) (tx := "any") rfl dX9_read_23 ?_
      refine zr_z (pc := 25) (maxL := 3) K hw (met_X6_is_8 X l σ a0 (-36) ht0 ⟨by decide, by decide⟩ _ h) (i_VU (n := 1) (t := 8) (As := [jR X (-36)]) (owner := "CombTable$Reader") K hw (ob ht0) zq8 (by decide) (by decide) q1037 q1038 q699 q1039 (dcl_of K q699 q705) rfl rfl dX9_read_25) (locw K q705 q97) ⟨by decide, by decide⟩ hl.1 dX9_read_25 (Nat.le_of_ble_eq_true rfl) ⟨Nat.le_refl _, Nat.le_refl _⟩ (fun r2 _ _ hr3 h hw6 => ?_)
      refine z_if_ne (pc := 28) (tgt := 38) K (b01r hr3) dX9_read_28 (by decide) (fun hc7 => ?_) (fun hc7 => ?_)
      · have h := ite_t h hc7
        refine z_aload_n (pc := 31) K dX9_read_31 rfl (lv_at hl 0 rfl) ?_
        refine zr_z (pc := 32) (maxL := 1) K hw6 (met_X6_isName_8 X l σ a0 ht0 _ h) (i_VU (n := 0) (t := 8) (As := []) (owner := "CombTable$Reader") K hw6 (ob ht0) zq8 (by decide) (by decide) q1040 q1041 q784 q1042 (dcl_of K q784 q785) rfl rfl dX9_read_32) (locw K q785 q97) ⟨by decide, by decide⟩ hl.1 dX9_read_32 (Nat.le_of_ble_eq_true rfl) ⟨Nat.le_refl _, Nat.le_refl _⟩ (fun r8 _ _ hr9 h hw12 => ?_)
        refine z_if_eq (pc := 35) (tgt := 42) K (b01r hr9) dX9_read_35 (by decide) (fun hc13 => ?_) (fun hc13 => ?_)
        · have h := ite_t h hc13
          refine z_iconst (pc := 42) K dX9_read_42 ?_
          exact wk_X9_read_b43 a0 o1 Q E σ0 K hex (lp_X9_read_14 a0 o1 Q E σ0 n) ih σ 0 _ _ _ h hw12 hk ht0 ht1 ⟨by decide, by decide⟩ (lv_sub hl [0, 1] rfl)
        · have h := ite_f h hc13
          exact wk_X9_read_b38 a0 o1 Q E σ0 K hex (lp_X9_read_14 a0 o1 Q E σ0 n) ih σ _ _ _ h hw12 hk ht0 ht1 (lv_sub hl [0, 1] rfl)
      · have h := ite_f h hc7
        exact wk_X9_read_b38 a0 o1 Q E σ0 K hex (lp_X9_read_14 a0 o1 Q E σ0 n) ih σ _ _ _ h hw6 hk ht0 ht1 (lv_sub hl [0, 1] rfl)
set_option maxHeartbeats 4000000 in
theorem met_X9_read (X : Cxt) (l : Launch) (σ : St) (a0 : Int) (o1 : Int) (ht0 : tg σ a0 = 8) (ht1 : tg σ o1 = 5) (Q : St → Prop) (E : Int → St → Prop) (h : wp_X9_read σ a0 o1 Q E) : MetT l yX9_read (ws_ yX9_read cX9_read 2 (none)) (zrm 10 0 0) (ZP X σ [jR X a0, jR X o1]) (ZQ X (qV (fun σ' => Kp ws_X9_read σ σ' ∧ Q σ')) (fun x σ' => tg σ' x = 2 ∧ Kp ws_X9_read σ σ' ∧ E x σ')) 0 0 (zA X) := by
  refine z_start (own := "CombTable$MinutesReader") (lv := [(0, jR X a0), (1, jR X o1)]) (by decide) rfl (by simp [lv_args, jR_cat, jI_cat, jL_cat]) (by simp [lg_sl, jR_cat, jI_cat, jL_cat]) (fun p e s m below meth c ls K hex _ hw hl => ?_)
  have hk : Kp ws_X9_read σ σ := kp_rf σ
  refine z_aload_n (pc := 0) K dX9_read_0 rfl (lv_at hl 1 rfl) ?_
  refine z_iconst (pc := 1) K dX9_read_1 ?_
  refine z_putiN (pc := 2) (t := 5) 2 K hw (ob ht1) zq5 (by decide) kf_5_2 zt_5_2 ⟨by decide, by decide⟩ q359 (fun _ h => h) rfl dX9_read_2 (fun _ _ hw1 => ?_)
  obtain ⟨σ2, e3⟩ : ∃ z, z = st σ o1 2 0 0 := ⟨_, rfl⟩
  have h := h σ2 e3
  have hw1 := wc_e e3 hw1
  have hk4 := kp_e e3 hk wo_X9_read (by decide) ht1 (t := 5) (by decide)
  have hg5 : tg σ2 a0 = 8 := (tg_e e3 (by decide)).trans ht0
  have hg6 : tg σ2 o1 = 5 := (tg_e e3 (by decide)).trans ht1
  refine z_aload_n (pc := 5) K dX9_read_5 rfl (lv_at hl 0 rfl) ?_
  refine z_iconst (pc := 6) K dX9_read_6 ?_
  refine z_puti (pc := 7) (t := 8) 8 K hw1 (ob hg5) zq8 (by decide) kf_8_8 zt_8_8 ⟨by decide, by decide⟩ q454 (fun _ h => h) rfl dX9_read_7 (fun _ _ hw7 => ?_)
  obtain ⟨σ8, e9⟩ : ∃ z, z = st σ2 a0 8 0 0 := ⟨_, rfl⟩
  have h := h σ8 e9
  have hw7 := wc_e e9 hw7
  have hk10 := kp_e e9 hk4 wo_X9_read (by decide) hg5 (t := 8) (by decide)
  have hg11 : tg σ8 a0 = 8 := (tg_e e9 (by decide)).trans hg5
  have hg12 : tg σ8 o1 = 5 := (tg_e e9 (by decide)).trans hg6
  refine z_aload_n (pc := 10) K dX9_read_10 rfl (lv_at hl 0 rfl) ?_
  refine zc_v (pc := 11) (maxL := 1) K hw7 (met_X6_begin_8 X l σ8 a0 hg11 _ h) (i_VU (n := 0) (t := 8) (As := []) (owner := "CombTable$Reader") K hw7 (ob hg11) zq8 (by decide) (by decide) q1033 q1034 q663 q1035 (dcl_of K q663 q664) rfl rfl dX9_read_11) (locw K q664 q97) ⟨by decide, by decide⟩ hl.1 dX9_read_11 (Nat.le_of_ble_eq_true rfl) ⟨Nat.le_refl _, Nat.le_refl _⟩ (fun σ16 _ _ hq15 hw17 => ?_)
  obtain ⟨hk18, h⟩ := hq15
  have h := h hk18
  have hk19 := kp_trans wo_X9_read hk10 hk18 (fun _ q => q) (by decide)
  have hg20 : tg σ16 a0 = 8 := kp_tg hk18 wo_X6_begin hg11 (by decide)
  have hg21 : tg σ16 o1 = 5 := kp_tg hk18 wo_X6_begin hg12 (by decide)
  obtain ⟨nf22, h⟩ := h
  exact wk_X9_read_14 a0 o1 Q E σ K hex nf22 σ16 _ _ _ h hw17 hk19 hg20 hg21 (lv_sub hl [0, 1] rfl)
def ws_X7_comb : List (Int × Nat) := [(2, 6), (2, 7), (4, 2), (4, 6), (6, 1), (6, 2), (6, 3), (6, 4), (6, 5), (6, 6), (6, 9), (7, 1), (7, 2), (7, 3), (7, 4), (7, 5), (7, 6), (8, 1), (8, 2), (8, 3), (8, 4), (8, 5), (8, 6), (9, 1), (9, 2), (9, 3), (9, 4), (9, 5), (9, 6)]
theorem wo_X7_comb : wsOk ws_X7_comb = true := rfl
def wp_X7_comb_b55 (a0 : Int) (Q : St → Prop) (E : Int → St → Prop) (σ0 : St) (L29 : St → Prop) (σ : St) (s1 : Int) : Prop :=
  wp_X6_must σ a0 s1 4 (fun σ4 => Kp ws_X6_must σ σ4 → (σ4 a0 8 0) ≠ -1 ∧ wp_X6_number σ4 a0 1 6 (fun r11 σ14 => Kp ws_X6_number σ4 σ14 → (0 ≤ σ4 (σ4 a0 8 0) 6 0 ∧ σ4 (σ4 a0 8 0) 6 0 < 6) ∧ ∀ σ22 : St, σ22 = st σ14 (σ4 a0 8 0) 2 (σ4 (σ4 a0 8 0) 6 0) r11 → (σ22 a0 8 0) ≠ -1 ∧ rng ((σ22 (σ22 a0 8 0) 6 0) + 1) ∧ ∀ σ30 : St, σ30 = st σ22 (σ22 a0 8 0) 6 0 ((σ22 (σ22 a0 8 0) 6 0) + 1) → (L29 σ30)) (fun x σx => Kp ws_X6_number σ4 σx → E x σx)) (fun x σx => Kp ws_X6_must σ σx → E x σx)
def lp_X7_comb_29 (a0 : Int) (Q : St → Prop) (E : Int → St → Prop) (σ0 : St) : Nat → St → Prop
  | 0 => fun _ => False
  | n + 1 => fun σ  => 
    Kp ws_X7_comb σ0 σ → (if σ a0 3 0 = 2 then
      (σ a0 8 0) ≠ -1 ∧ (if σ (σ a0 8 0) 6 0 < 6 then
        (wp_X7_comb_b55 a0 Q E σ0 (lp_X7_comb_29 a0 Q E σ0 n) σ 1)
        else
        (wp_X7_comb_b55 a0 Q E σ0 (lp_X7_comb_29 a0 Q E σ0 n) σ 0))
      else
      Q σ)
def wp_X7_comb (σ : St) (a0 : Int) (Q : St → Prop) (E : Int → St → Prop) : Prop :=
  ∀ σ2 : St, σ2 = st σ a0 9 0 1 → (σ2 a0 8 0) ≠ -1 ∧ wp_X6_number σ2 a0 1 6 (fun r8 σ11 => Kp ws_X6_number σ2 σ11 → ∀ σ18 : St, σ18 = st σ11 (σ2 a0 8 0) 2 0 r8 → (σ18 a0 8 0) ≠ -1 ∧ ∀ σ25 : St, σ25 = st σ18 (σ18 a0 8 0) 6 0 1 → (∃ kk, lp_X7_comb_29 a0 Q E σ kk σ25)) (fun x σx => Kp ws_X6_number σ2 σx → E x σx)
set_option maxHeartbeats 4000000 in
theorem wk_X7_comb_b55 {X : Cxt} {p : Program} {l : Launch} {e : Env} {s : State} {m : MethodId} {args : Array Value} {below : List Frame} {meth : Method} {c : Code} (a0 : Int) (Q : St → Prop) (E : Int → St → Prop) (σ0 : St) (K : MCx X p s m args meth c cX7_comb 1 "CombTable$TableReader" (none)) (hex : c.exceptionTable.isEmpty = true) (L29 : St → Prop) (hL29 : ∀ (σ : St) (H : Heap) (locs : List Loc) (ls : Array Slot), L29 σ → Wc X σ s.heap H locs → Kp ws_X7_comb σ0 σ → tg σ a0 = 6 → lv_has ls 1 [(0, jR X a0)] → W p l e (zrm 6 0 0) s m args below meth c H locs 0 0 (MQT below (ZQ X (qV (fun σ' => Kp ws_X7_comb σ0 σ' ∧ Q σ')) (fun x σ' => tg σ' x = 2 ∧ Kp ws_X7_comb σ0 σ' ∧ E x σ')) args s 0 0 (zA X)) (F0 m 29 ls [])) : ∀ (σ : St) (s1 : Int) (H : Heap) (locs : List Loc) (ls : Array Slot), wp_X7_comb_b55 a0 Q E σ0 L29 σ s1 → Wc X σ s.heap H locs → Kp ws_X7_comb σ0 σ → tg σ a0 = 6 → (0 ≤ s1 ∧ s1 ≤ 1) → lv_has ls 1 [(0, jR X a0)] → W p l e (zrm 6 0 0) s m args below meth c H locs 0 0 (MQT below (ZQ X (qV (fun σ' => Kp ws_X7_comb σ0 σ' ∧ Q σ')) (fun x σ' => tg σ' x = 2 ∧ Kp ws_X7_comb σ0 σ' ∧ E x σ')) args s 0 0 (zA X)) (F0 m 55 ls [jI s1, jR X a0]) := by
  intro σ s1 H locs ls h hw hk ht0 hs1 hl
  refine z_iconst (pc := 55) K dX7_comb_55 ?_
  refine zt_v (pc := 56) (maxL := 3) K hw (met_X6_must_6 X l σ a0 s1 4 ht0 hs1 ⟨by decide, by decide⟩ _ _ h) (i_VU (n := 2) (t := 6) (As := [jI s1, jI 4]) (owner := "CombTable$Reader") K hw (ob ht0) zq6 (by decide) (by decide) q754 q755 q758 q757 (dcl_of K q758 q759) rfl rfl dX7_comb_56) (locw K q759 q97) ⟨by decide, by decide⟩ hl.1 dX7_comb_56 (Nat.le_of_ble_eq_true rfl) ⟨Nat.le_refl _, Nat.le_refl _⟩ (fun σ4 _ _ hq3 hw5 => ?_) (fun x σx _ _ hx0 hqx hwx => ?_)
  rotate_left
  · obtain ⟨htx, hkx, h⟩ := hqx
    have h := h hkx
    exact z_out K hwx hx0 ⟨htx, kp_trans wo_X7_comb hk hkx (fun _ q => q) (by decide), h⟩ (no_cov hex 56)
  obtain ⟨hk6, h⟩ := hq3
  have h := h hk6
  have hk7 := kp_trans wo_X7_comb hk hk6 (fun _ q => q) (by decide)
  have hg8 : tg σ4 a0 = 6 := kp_tg hk6 wo_X6_must ht0 (by decide)
  refine z_aload_n (pc := 59) K dX7_comb_59 rfl (lv_at hl 0 rfl) ?_
  refine z_get (pc := 60) (t := 6) (k := 8) K hw5 (ob (t := 6) hg8) zq6 (by decide) q378 (fun _ h => h) dX7_comb_60 (zval_r kf_6_8) ?_
  obtain ⟨hn10, h⟩ := h
  have hg9 : tg σ4 (σ4 a0 8 0) = 4 := okR_nn hn10 (by decide) (by decide) (z_ok (t := 6) (r := 4) hw5 hg8 ⟨by decide, by decide⟩ kf_6_8 kt_6_8)
  refine z_getN (pc := 63) (t := 4) (k := 2) K hw5 (ob (t := 4) hg9) zq4 (by decide) q255 (fun _ h => h) dX7_comb_63 (zval_p (κ := 1) kf_4_2) ?_
  refine z_aload_n (pc := 66) K dX7_comb_66 rfl (lv_at hl 0 rfl) ?_
  refine z_get (pc := 67) (t := 6) (k := 8) K hw5 (ob (t := 6) hg8) zq6 (by decide) q378 (fun _ h => h) dX7_comb_67 (zval_r kf_6_8) ?_
  refine z_getN (pc := 70) (t := 4) (k := 6) K hw5 (ob (t := 4) hg9) zq4 (by decide) q271 (fun _ h => h) dX7_comb_70 (zval_i kf_4_6) ?_
  refine z_aload_n (pc := 73) K dX7_comb_73 rfl (lv_at hl 0 rfl) ?_
  refine z_iconst (pc := 74) K dX7_comb_74 ?_
  refine z_bipush (pc := 75) K dX7_comb_75 (by decide) ?_
  refine zt_i (pc := 77) (maxL := 4) K hw5 (met_X6_number_6 X l σ4 a0 1 6 hg8 ⟨by decide, by decide⟩ ⟨by decide, by decide⟩ _ _ h) (i_VU (n := 2) (t := 6) (As := [jI 1, jI 6]) (owner := "CombTable$Reader") K hw5 (ob hg8) zq6 (by decide) (by decide) q795 q796 q799 q798 (dcl_of K q799 q800) rfl rfl dX7_comb_77) (locw K q800 q97) ⟨by decide, by decide⟩ hl.1 dX7_comb_77 (Nat.le_of_ble_eq_true rfl) ⟨Nat.le_refl _, Nat.le_refl _⟩ (fun r11 σ14 _ _ hr12 hq13 hw15 => ?_) (fun x σx _ _ hx0 hqx hwx => ?_)
  rotate_left
  · obtain ⟨htx, hkx, h⟩ := hqx
    have h := h hkx
    exact z_out K hwx hx0 ⟨htx, kp_trans wo_X7_comb hk7 hkx (fun _ q => q) (by decide), h⟩ (no_cov hex 77)
  obtain ⟨hk16, h⟩ := hq13
  have h := h hk16
  have hk17 := kp_trans wo_X7_comb hk7 hk16 (fun _ q => q) (by decide)
  have hg18 : tg σ14 a0 = 6 := kp_tg hk16 wo_X6_number hg8 (by decide)
  have hg19 : tg σ14 (σ4 a0 8 0) = 4 := kp_tg hk16 wo_X6_number hg9 (by decide)
  rw [show σ4 (σ4 a0 8 0) 2 (-1) = σ14 (σ4 a0 8 0) 2 (-1) from ptr_k hk16 hg9 (by decide)]
  obtain ⟨hj20, h⟩ := h
  refine z_iast (pc := 80) (t := 4) K hw15 hg19 ⟨by decide, by decide⟩ kf_4_2 kl_4_2 hj20 (by decide) hr12 dX7_comb_80 (fun _ _ hw21 => ?_)
  obtain ⟨σ22, e23⟩ : ∃ z, z = st σ14 (σ4 a0 8 0) 2 (σ4 (σ4 a0 8 0) 6 0) r11 := ⟨_, rfl⟩
  have h := h σ22 e23
  have hw21 := wc_e e23 hw21
  have hk24 := kp_e e23 hk17 wo_X7_comb hj20.1 hg19 (t := 4) (by decide)
  have hg25 : tg σ22 a0 = 6 := (tg_e e23 (by decide)).trans hg18
  refine z_aload_n (pc := 81) K dX7_comb_81 rfl (lv_at hl 0 rfl) ?_
  refine z_get (pc := 82) (t := 6) (k := 8) K hw21 (ob (t := 6) hg25) zq6 (by decide) q378 (fun _ h => h) dX7_comb_82 (zval_r kf_6_8) ?_
  refine lv_dup (pc := 85) K.x K.b dX7_comb_85 (jR_cat _ _) ?_
  obtain ⟨hn27, h⟩ := h
  have hg26 : tg σ22 (σ22 a0 8 0) = 4 := okR_nn hn27 (by decide) (by decide) (z_ok (t := 6) (r := 4) hw21 hg25 ⟨by decide, by decide⟩ kf_6_8 kt_6_8)
  refine z_getN (pc := 86) (t := 4) (k := 6) K hw21 (ob (t := 4) hg26) zq4 (by decide) q271 (fun _ h => h) dX7_comb_86 (zval_i kf_4_6) ?_
  refine z_iconst (pc := 89) K dX7_comb_89 ?_
  refine z_iadd (pc := 90) K dX7_comb_90 ?_
  obtain ⟨hr28, h⟩ := h
  refine z_putiN (pc := 91) (t := 4) 6 K hw21 (ob hg26) zq4 (by decide) kf_4_6 zt_4_6 hr28 q271 (fun _ h => h) rfl dX7_comb_91 (fun _ _ hw29 => ?_)
  obtain ⟨σ30, e31⟩ : ∃ z, z = st σ22 (σ22 a0 8 0) 6 0 ((σ22 (σ22 a0 8 0) 6 0) + 1) := ⟨_, rfl⟩
  have h := h σ30 e31
  have hw29 := wc_e e31 hw29
  have hk32 := kp_e e31 hk24 wo_X7_comb (by decide) hg26 (t := 4) (by decide)
  have hg33 : tg σ30 a0 = 6 := (tg_e e31 (by decide)).trans hg25
  refine z_goto (pc := 94) (tgt := 29) K dX7_comb_94 (by decide) ?_
  exact hL29 σ30 _ _ _ h hw29 hk32 hg33 (lv_sub hl [0] rfl)
set_option maxHeartbeats 4000000 in
theorem wk_X7_comb_29 {X : Cxt} {p : Program} {l : Launch} {e : Env} {s : State} {m : MethodId} {args : Array Value} {below : List Frame} {meth : Method} {c : Code} (a0 : Int) (Q : St → Prop) (E : Int → St → Prop) (σ0 : St) (K : MCx X p s m args meth c cX7_comb 1 "CombTable$TableReader" (none)) (hex : c.exceptionTable.isEmpty = true) : ∀ (n : Nat), ∀ (σ : St) (H : Heap) (locs : List Loc) (ls : Array Slot), lp_X7_comb_29 a0 Q E σ0 n σ → Wc X σ s.heap H locs → Kp ws_X7_comb σ0 σ → tg σ a0 = 6 → lv_has ls 1 [(0, jR X a0)] → W p l e (zrm 6 0 0) s m args below meth c H locs 0 0 (MQT below (ZQ X (qV (fun σ' => Kp ws_X7_comb σ0 σ' ∧ Q σ')) (fun x σ' => tg σ' x = 2 ∧ Kp ws_X7_comb σ0 σ' ∧ E x σ')) args s 0 0 (zA X)) (F0 m 29 ls []) := by
  intro n
  induction n with
  | zero => intro σ H locs ls h; exact h.elim
  | succ n ih =>
    intro σ H locs ls h hw hk ht0 hl
    have h := h hk
    refine z_aload_n (pc := 29) K dX7_comb_29 rfl (lv_at hl 0 rfl) ?_
    refine z_get (pc := 30) (t := 6) (k := 3) K hw (ob (t := 6) ht0) zq6 (by decide) q390 (u_same (K.ts _ q391)) dX7_comb_30 (zval_i kf_6_3) ?_
    refine z_iconst (pc := 33) K dX7_comb_33 ?_
    refine z_icmp_ne (pc := 34) (tgt := 97) K (z_rI hw (ob (t := 6) ht0) kf_6_3) ⟨by decide, by decide⟩ dX7_comb_34 (by decide) (fun hc1 => ?_) (fun hc1 => ?_)
    · have h := ite_t h hc1
      refine z_aload_n (pc := 37) K dX7_comb_37 rfl (lv_at hl 0 rfl) ?_
      refine z_aload_n (pc := 38) K dX7_comb_38 rfl (lv_at hl 0 rfl) ?_
      refine z_get (pc := 39) (t := 6) (k := 8) K hw (ob (t := 6) ht0) zq6 (by decide) q378 (fun _ h => h) dX7_comb_39 (zval_r kf_6_8) ?_
      obtain ⟨hn3, h⟩ := h
      have hg2 : tg σ (σ a0 8 0) = 4 := okR_nn hn3 (by decide) (by decide) (z_ok (t := 6) (r := 4) hw ht0 ⟨by decide, by decide⟩ kf_6_8 kt_6_8)
      refine z_getN (pc := 42) (t := 4) (k := 6) K hw (ob (t := 4) hg2) zq4 (by decide) q271 (fun _ h => h) dX7_comb_42 (zval_i kf_4_6) ?_
      refine z_bipush (pc := 45) K dX7_comb_45 (by decide) ?_
      refine z_icmp_ge (pc := 47) (tgt := 54) K (z_rI hw (ob (t := 4) hg2) kf_4_6) ⟨by decide, by decide⟩ dX7_comb_47 (by decide) (fun hc4 => ?_) (fun hc4 => ?_)
      · have h := ite_t h hc4
        refine z_iconst (pc := 50) K dX7_comb_50 ?_
        refine z_goto (pc := 51) (tgt := 55) K dX7_comb_51 (by decide) ?_
        exact wk_X7_comb_b55 a0 Q E σ0 K hex (lp_X7_comb_29 a0 Q E σ0 n) ih σ 1 _ _ _ h hw hk ht0 ⟨by decide, by decide⟩ (lv_sub hl [0] rfl)
      · have h := ite_f h hc4
        refine z_iconst (pc := 54) K dX7_comb_54 ?_
        exact wk_X7_comb_b55 a0 Q E σ0 K hex (lp_X7_comb_29 a0 Q E σ0 n) ih σ 0 _ _ _ h hw hk ht0 ⟨by decide, by decide⟩ (lv_sub hl [0] rfl)
    · have h := ite_f h hc1
      exact z_vret (pc := 97) K hw ⟨hk, h⟩ dX7_comb_97
set_option maxHeartbeats 4000000 in
theorem met_X7_comb (X : Cxt) (l : Launch) (σ : St) (a0 : Int) (ht0 : tg σ a0 = 6) (Q : St → Prop) (E : Int → St → Prop) (h : wp_X7_comb σ a0 Q E) : MetT l yX7_comb (ws_ yX7_comb cX7_comb 1 (none)) (zrm 6 0 0) (ZP X σ [jR X a0]) (ZQ X (qV (fun σ' => Kp ws_X7_comb σ σ' ∧ Q σ')) (fun x σ' => tg σ' x = 2 ∧ Kp ws_X7_comb σ σ' ∧ E x σ')) 0 0 (zA X) := by
  refine z_start (own := "CombTable$TableReader") (lv := [(0, jR X a0)]) (by decide) rfl (by simp [lv_args, jR_cat, jI_cat, jL_cat]) (by simp [lg_sl, jR_cat, jI_cat, jL_cat]) (fun p e s m below meth c ls K hex _ hw hl => ?_)
  have hk : Kp ws_X7_comb σ σ := kp_rf σ
  refine z_aload_n (pc := 0) K dX7_comb_0 rfl (lv_at hl 0 rfl) ?_
  refine z_iconst (pc := 1) K dX7_comb_1 ?_
  refine z_putz (pc := 2) (t := 6) 9 K hw (ob ht0) zq6 (by decide) kf_6_9 zt_6_9 ⟨by decide, by decide⟩ q379 (fun _ h => h) rfl dX7_comb_2 (fun _ _ hw1 => ?_)
  obtain ⟨σ2, e3⟩ : ∃ z, z = st σ a0 9 0 1 := ⟨_, rfl⟩
  have h := h σ2 e3
  have hw1 := wc_e e3 hw1
  have hk4 := kp_e e3 hk wo_X7_comb (by decide) ht0 (t := 6) (by decide)
  have hg5 : tg σ2 a0 = 6 := (tg_e e3 (by decide)).trans ht0
  refine z_aload_n (pc := 5) K dX7_comb_5 rfl (lv_at hl 0 rfl) ?_
  refine z_get (pc := 6) (t := 6) (k := 8) K hw1 (ob (t := 6) hg5) zq6 (by decide) q378 (fun _ h => h) dX7_comb_6 (zval_r kf_6_8) ?_
  obtain ⟨hn7, h⟩ := h
  have hg6 : tg σ2 (σ2 a0 8 0) = 4 := okR_nn hn7 (by decide) (by decide) (z_ok (t := 6) (r := 4) hw1 hg5 ⟨by decide, by decide⟩ kf_6_8 kt_6_8)
  refine z_getN (pc := 9) (t := 4) (k := 2) K hw1 (ob (t := 4) hg6) zq4 (by decide) q255 (fun _ h => h) dX7_comb_9 (zval_p (κ := 1) kf_4_2) ?_
  refine z_iconst (pc := 12) K dX7_comb_12 ?_
  refine z_aload_n (pc := 13) K dX7_comb_13 rfl (lv_at hl 0 rfl) ?_
  refine z_iconst (pc := 14) K dX7_comb_14 ?_
  refine z_bipush (pc := 15) K dX7_comb_15 (by decide) ?_
  refine zt_i (pc := 17) (maxL := 4) K hw1 (met_X6_number_6 X l σ2 a0 1 6 hg5 ⟨by decide, by decide⟩ ⟨by decide, by decide⟩ _ _ h) (i_VU (n := 2) (t := 6) (As := [jI 1, jI 6]) (owner := "CombTable$Reader") K hw1 (ob hg5) zq6 (by decide) (by decide) q795 q796 q799 q798 (dcl_of K q799 q800) rfl rfl dX7_comb_17) (locw K q800 q97) ⟨by decide, by decide⟩ hl.1 dX7_comb_17 (Nat.le_of_ble_eq_true rfl) ⟨Nat.le_refl _, Nat.le_refl _⟩ (fun r8 σ11 _ _ hr9 hq10 hw12 => ?_) (fun x σx _ _ hx0 hqx hwx => ?_)
  rotate_left
  · obtain ⟨htx, hkx, h⟩ := hqx
    have h := h hkx
    exact z_out K hwx hx0 ⟨htx, kp_trans wo_X7_comb hk4 hkx (fun _ q => q) (by decide), h⟩ (no_cov hex 17)
  obtain ⟨hk13, h⟩ := hq10
  have h := h hk13
  have hk14 := kp_trans wo_X7_comb hk4 hk13 (fun _ q => q) (by decide)
  have hg15 : tg σ11 a0 = 6 := kp_tg hk13 wo_X6_number hg5 (by decide)
  have hg16 : tg σ11 (σ2 a0 8 0) = 4 := kp_tg hk13 wo_X6_number hg6 (by decide)
  rw [show σ2 (σ2 a0 8 0) 2 (-1) = σ11 (σ2 a0 8 0) 2 (-1) from ptr_k hk13 hg6 (by decide)]
  refine z_iast (pc := 20) (t := 4) K hw12 hg16 ⟨by decide, by decide⟩ kf_4_2 kl_4_2 ⟨by decide, by decide⟩ (by decide) hr9 dX7_comb_20 (fun _ _ hw17 => ?_)
  obtain ⟨σ18, e19⟩ : ∃ z, z = st σ11 (σ2 a0 8 0) 2 0 r8 := ⟨_, rfl⟩
  have h := h σ18 e19
  have hw17 := wc_e e19 hw17
  have hk20 := kp_e e19 hk14 wo_X7_comb (by decide) hg16 (t := 4) (by decide)
  have hg21 : tg σ18 a0 = 6 := (tg_e e19 (by decide)).trans hg15
  refine z_aload_n (pc := 21) K dX7_comb_21 rfl (lv_at hl 0 rfl) ?_
  refine z_get (pc := 22) (t := 6) (k := 8) K hw17 (ob (t := 6) hg21) zq6 (by decide) q378 (fun _ h => h) dX7_comb_22 (zval_r kf_6_8) ?_
  refine z_iconst (pc := 25) K dX7_comb_25 ?_
  obtain ⟨hn23, h⟩ := h
  have hg22 : tg σ18 (σ18 a0 8 0) = 4 := okR_nn hn23 (by decide) (by decide) (z_ok (t := 6) (r := 4) hw17 hg21 ⟨by decide, by decide⟩ kf_6_8 kt_6_8)
  refine z_putiN (pc := 26) (t := 4) 6 K hw17 (ob hg22) zq4 (by decide) kf_4_6 zt_4_6 ⟨by decide, by decide⟩ q271 (fun _ h => h) rfl dX7_comb_26 (fun _ _ hw24 => ?_)
  obtain ⟨σ25, e26⟩ : ∃ z, z = st σ18 (σ18 a0 8 0) 6 0 1 := ⟨_, rfl⟩
  have h := h σ25 e26
  have hw24 := wc_e e26 hw24
  have hk27 := kp_e e26 hk20 wo_X7_comb (by decide) hg22 (t := 4) (by decide)
  have hg28 : tg σ25 a0 = 6 := (tg_e e26 (by decide)).trans hg21
  obtain ⟨nf29, h⟩ := h
  exact wk_X7_comb_29 a0 Q E σ K hex nf29 σ25 _ _ _ h hw24 hk27 hg28 (lv_sub hl [0] rfl)
def ws_X7_fresh : List (Int × Nat) := [(2, 6), (2, 7), (6, 1), (6, 2), (6, 3), (6, 4), (6, 5), (6, 6), (7, 1), (7, 2), (7, 3), (7, 4), (7, 5), (7, 6), (8, 1), (8, 2), (8, 3), (8, 4), (8, 5), (8, 6), (9, 1), (9, 2), (9, 3), (9, 4), (9, 5), (9, 6)]
theorem wo_X7_fresh : wsOk ws_X7_fresh = true := rfl
def wp_X7_fresh_b59 (a0 : Int) (Q : Int → St → Prop) (E : Int → St → Prop) (σ0 : St) (σ : St) (s1 : Int) : Prop :=
  wp_X6_must σ a0 s1 3 (fun σ4 => Kp ws_X6_must σ σ4 → wp_X6_next σ4 a0 (fun σ12 => Kp ws_X6_next σ4 σ12 → Q (σ4 a0 6 0) σ12)) (fun x σx => Kp ws_X6_must σ σx → E x σx)
def wp_X7_fresh_b58 (a0 : Int) (Q : Int → St → Prop) (E : Int → St → Prop) (σ0 : St) (σ : St) : Prop :=
  (wp_X7_fresh_b59 a0 Q E σ0 σ 0)
def wp_X7_fresh (σ : St) (a0 : Int) (Q : Int → St → Prop) (E : Int → St → Prop) : Prop :=
  wp_X6_isName σ a0 (fun r1 => wp_X6_must σ a0 r1 1 (fun σ9 => Kp ws_X6_must σ σ9 → (σ9 a0 8 0) ≠ -1 ∧ wp_X6_of σ9 a0 (σ9 a0 8 0) 0 8 (σ9 (σ9 a0 8 0) 3 0) (fun r16 => (if r16 = (-1) then
    wp_X6_of σ9 a0 (σ9 a0 8 0) 1 10 (σ9 (σ9 a0 8 0) 4 0) (fun r22 => (if r22 = (-1) then
      (wp_X7_fresh_b59 a0 Q E σ σ9 1)
      else
      (wp_X7_fresh_b58 a0 Q E σ σ9)))
    else
    (wp_X7_fresh_b58 a0 Q E σ σ9)))) (fun x σx => Kp ws_X6_must σ σx → E x σx))
set_option maxHeartbeats 4000000 in
theorem wk_X7_fresh_b59 {X : Cxt} {p : Program} {l : Launch} {e : Env} {s : State} {m : MethodId} {args : Array Value} {below : List Frame} {meth : Method} {c : Code} (a0 : Int) (Q : Int → St → Prop) (E : Int → St → Prop) (σ0 : St) (K : MCx X p s m args meth c cX7_fresh 3 "CombTable$TableReader" (some .long)) (hex : c.exceptionTable.isEmpty = true) : ∀ (σ : St) (s1 : Int) (H : Heap) (locs : List Loc) (ls : Array Slot), wp_X7_fresh_b59 a0 Q E σ0 σ s1 → Wc X σ s.heap H locs → Kp ws_X7_fresh σ0 σ → tg σ a0 = 6 → (0 ≤ s1 ∧ s1 ≤ 1) → lv_has ls 3 [(0, jR X a0)] → W p l e (zrm 8 0 0) s m args below meth c H locs 0 0 (MQT below (ZQ X (qL (fun r σ' => Kp ws_X7_fresh σ0 σ' ∧ Q r σ')) (fun x σ' => tg σ' x = 2 ∧ Kp ws_X7_fresh σ0 σ' ∧ E x σ')) args s 0 0 (zA X)) (F0 m 59 ls [jI s1, jR X a0]) := by
  intro σ s1 H locs ls h hw hk ht0 hs1 hl
  refine z_iconst (pc := 59) K dX7_fresh_59 ?_
  refine zt_v (pc := 60) (maxL := 3) K hw (met_X6_must_6 X l σ a0 s1 3 ht0 hs1 ⟨by decide, by decide⟩ _ _ h) (i_VU (n := 2) (t := 6) (As := [jI s1, jI 3]) (owner := "CombTable$Reader") K hw (ob ht0) zq6 (by decide) (by decide) q754 q755 q758 q757 (dcl_of K q758 q759) rfl rfl dX7_fresh_60) (locw K q759 q97) ⟨by decide, by decide⟩ hl.1 dX7_fresh_60 (Nat.le_of_ble_eq_true rfl) ⟨Nat.le_refl _, Nat.le_refl _⟩ (fun σ4 _ _ hq3 hw5 => ?_) (fun x σx _ _ hx0 hqx hwx => ?_)
  rotate_left
  · obtain ⟨htx, hkx, h⟩ := hqx
    have h := h hkx
    exact z_out K hwx hx0 ⟨htx, kp_trans wo_X7_fresh hk hkx (fun _ q => q) (by decide), h⟩ (no_cov hex 60)
  obtain ⟨hk6, h⟩ := hq3
  have h := h hk6
  have hk7 := kp_trans wo_X7_fresh hk hk6 (fun _ q => q) (by decide)
  have hg8 : tg σ4 a0 = 6 := kp_tg hk6 wo_X6_must ht0 (by decide)
  refine z_aload_n (pc := 63) K dX7_fresh_63 rfl (lv_at hl 0 rfl) ?_
  refine z_get (pc := 64) (t := 6) (k := 6) K hw5 (ob (t := 6) hg8) zq6 (by decide) q399 (u_same (K.ts _ q400)) dX7_fresh_64 (zval_l kf_6_6) ?_
  refine lv_lstore_n (pc := 67) (lv' := [(1, jL (σ4 a0 6 0)), (0, jR X a0)]) K.x K.b dX7_fresh_67 rfl hl (by decide) (by simp [jR_cat]) (fun ls hl => ?_)
  refine z_aload_n (pc := 68) K dX7_fresh_68 rfl (lv_at hl 1 rfl) ?_
  refine zc_v (pc := 69) (maxL := 2) K hw5 (met_X6_next_6 X l σ4 a0 hg8 _ h) (i_VU (n := 0) (t := 6) (As := []) (owner := "CombTable$Reader") K hw5 (ob hg8) zq6 (by decide) (by decide) q768 q769 q666 q771 (dcl_of K q666 q672) rfl rfl dX7_fresh_69) (locw K q672 q97) ⟨by decide, by decide⟩ hl.1 dX7_fresh_69 (Nat.le_of_ble_eq_true rfl) ⟨Nat.le_refl _, Nat.le_refl _⟩ (fun σ12 _ _ hq11 hw13 => ?_)
  obtain ⟨hk14, h⟩ := hq11
  have h := h hk14
  have hk15 := kp_trans wo_X7_fresh hk7 hk14 (fun _ q => q) (by decide)
  have hg16 : tg σ12 a0 = 6 := kp_tg hk14 wo_X6_next hg8 (by decide)
  refine lv_lload_n (pc := 72) K.x K.b dX7_fresh_72 rfl (lv_at hl 0 rfl) ?_
  exact z_lret (pc := 73) K hw13 (z_rL hw5 (ob (t := 6) hg8) kf_6_6) ⟨hk15, h⟩ dX7_fresh_73
set_option maxHeartbeats 4000000 in
theorem wk_X7_fresh_b58 {X : Cxt} {p : Program} {l : Launch} {e : Env} {s : State} {m : MethodId} {args : Array Value} {below : List Frame} {meth : Method} {c : Code} (a0 : Int) (Q : Int → St → Prop) (E : Int → St → Prop) (σ0 : St) (K : MCx X p s m args meth c cX7_fresh 3 "CombTable$TableReader" (some .long)) (hex : c.exceptionTable.isEmpty = true) : ∀ (σ : St) (H : Heap) (locs : List Loc) (ls : Array Slot), wp_X7_fresh_b58 a0 Q E σ0 σ → Wc X σ s.heap H locs → Kp ws_X7_fresh σ0 σ → tg σ a0 = 6 → lv_has ls 3 [(0, jR X a0)] → W p l e (zrm 8 0 0) s m args below meth c H locs 0 0 (MQT below (ZQ X (qL (fun r σ' => Kp ws_X7_fresh σ0 σ' ∧ Q r σ')) (fun x σ' => tg σ' x = 2 ∧ Kp ws_X7_fresh σ0 σ' ∧ E x σ')) args s 0 0 (zA X)) (F0 m 58 ls [jR X a0]) := by
  intro σ H locs ls h hw hk ht0 hl
  refine z_iconst (pc := 58) K dX7_fresh_58 ?_
  exact wk_X7_fresh_b59 a0 Q E σ0 K hex σ 0 _ _ _ h hw hk ht0 ⟨by decide, by decide⟩ (lv_sub hl [0] rfl)
set_option maxHeartbeats 4000000 in
theorem met_X7_fresh (X : Cxt) (l : Launch) (σ : St) (a0 : Int) (ht0 : tg σ a0 = 6) (Q : Int → St → Prop) (E : Int → St → Prop) (h : wp_X7_fresh σ a0 Q E) : MetT l yX7_fresh (ws_ yX7_fresh cX7_fresh 3 (some .long)) (zrm 8 0 0) (ZP X σ [jR X a0]) (ZQ X (qL (fun r σ' => Kp ws_X7_fresh σ σ' ∧ Q r σ')) (fun x σ' => tg σ' x = 2 ∧ Kp ws_X7_fresh σ σ' ∧ E x σ')) 0 0 (zA X) := by
  refine z_start (own := "CombTable$TableReader") (lv := [(0, jR X a0)]) (by decide) rfl (by simp [lv_args, jR_cat, jI_cat, jL_cat]) (by simp [lg_sl, jR_cat, jI_cat, jL_cat]) (fun p e s m below meth c ls K hex _ hw hl => ?_)
  have hk : Kp ws_X7_fresh σ σ := kp_rf σ
  refine z_aload_n (pc := 0) K dX7_fresh_0 rfl (lv_at hl 0 rfl) ?_
  refine z_aload_n (pc := 1) K dX7_fresh_1 rfl (lv_at hl 0 rfl) ?_
  refine zr_z (pc := 2) (maxL := 1) K hw (met_X6_isName_6 X l σ a0 ht0 _ h) (i_VU (n := 0) (t := 6) (As := []) (owner := "CombTable$Reader") K hw (ob ht0) zq6 (by decide) (by decide) q780 q781 q784 q783 (dcl_of K q784 q785) rfl rfl dX7_fresh_2) (locw K q785 q97) ⟨by decide, by decide⟩ hl.1 dX7_fresh_2 (Nat.le_of_ble_eq_true rfl) ⟨Nat.le_refl _, Nat.le_refl _⟩ (fun r1 _ _ hr2 h hw5 => ?_)
  refine z_iconst (pc := 5) K dX7_fresh_5 ?_
  refine zt_v (pc := 6) (maxL := 3) K hw5 (met_X6_must_6 X l σ a0 r1 1 ht0 hr2 ⟨by decide, by decide⟩ _ _ h) (i_VU (n := 2) (t := 6) (As := [jI r1, jI 1]) (owner := "CombTable$Reader") K hw5 (ob ht0) zq6 (by decide) (by decide) q754 q755 q758 q757 (dcl_of K q758 q759) rfl rfl dX7_fresh_6) (locw K q759 q97) ⟨by decide, by decide⟩ hl.1 dX7_fresh_6 (Nat.le_of_ble_eq_true rfl) ⟨Nat.le_refl _, Nat.le_refl _⟩ (fun σ9 _ _ hq8 hw10 => ?_) (fun x σx _ _ hx0 hqx hwx => ?_)
  rotate_left
  · obtain ⟨htx, hkx, h⟩ := hqx
    have h := h hkx
    exact z_out K hwx hx0 ⟨htx, kp_trans wo_X7_fresh hk hkx (fun _ q => q) (by decide), h⟩ (no_cov hex 6)
  obtain ⟨hk11, h⟩ := hq8
  have h := h hk11
  have hk12 := kp_trans wo_X7_fresh hk hk11 (fun _ q => q) (by decide)
  have hg13 : tg σ9 a0 = 6 := kp_tg hk11 wo_X6_must ht0 (by decide)
  refine z_aload_n (pc := 9) K dX7_fresh_9 rfl (lv_at hl 0 rfl) ?_
  refine z_aload_n (pc := 10) K dX7_fresh_10 rfl (lv_at hl 0 rfl) ?_
  refine z_aload_n (pc := 11) K dX7_fresh_11 rfl (lv_at hl 0 rfl) ?_
  refine z_get (pc := 12) (t := 6) (k := 8) K hw10 (ob (t := 6) hg13) zq6 (by decide) q378 (fun _ h => h) dX7_fresh_12 (zval_r kf_6_8) ?_
  obtain ⟨hn15, h⟩ := h
  have hg14 : tg σ9 (σ9 a0 8 0) = 4 := okR_nn hn15 (by decide) (by decide) (z_ok (t := 6) (r := 4) hw10 hg13 ⟨by decide, by decide⟩ kf_6_8 kt_6_8)
  refine z_getN (pc := 15) (t := 4) (k := 0) K hw10 (ob (t := 4) hg14) zq4 (by decide) q244 (fun _ h => h) dX7_fresh_15 (zval_p (κ := 5) kf_4_0) ?_
  refine z_aload_n (pc := 18) K dX7_fresh_18 rfl (lv_at hl 0 rfl) ?_
  refine z_get (pc := 19) (t := 6) (k := 8) K hw10 (ob (t := 6) hg13) zq6 (by decide) q378 (fun _ h => h) dX7_fresh_19 (zval_r kf_6_8) ?_
  refine z_getN (pc := 22) (t := 4) (k := 3) K hw10 (ob (t := 4) hg14) zq4 (by decide) q258 (fun _ h => h) dX7_fresh_22 (zval_i kf_4_3) ?_
  refine zr_i (pc := 25) (maxL := 4) K hw10 (met_X6_of_6_0 X l σ9 a0 (σ9 a0 8 0) 0 8 (σ9 (σ9 a0 8 0) 3 0) hg13 hg14 kf_4_0 kl_4_0 kt_4_0 (z_rI hw10 (ob (t := 4) hg14) kf_4_3) _ h) (i_VU (n := 2) (t := 6) (As := [jR X (σ9 (σ9 a0 8 0) 0 (-1)), jI (σ9 (σ9 a0 8 0) 3 0)]) (owner := "CombTable$Reader") K hw10 (ob hg13) zq6 (by decide) (by decide) q787 q788 q791 q790 (dcl_of K q791 q792) rfl rfl dX7_fresh_25) (locw K q792 q97) ⟨by decide, by decide⟩ hl.1 dX7_fresh_25 (Nat.le_of_ble_eq_true rfl) ⟨Nat.le_refl _, Nat.le_refl _⟩ (fun r16 _ _ hr17 h hw20 => ?_)
  refine z_iconst (pc := 28) K dX7_fresh_28 ?_
  refine z_icmp_ne (pc := 29) (tgt := 58) K hr17 ⟨by decide, by decide⟩ dX7_fresh_29 (by decide) (fun hc21 => ?_) (fun hc21 => ?_)
  · have h := ite_t h hc21
    refine z_aload_n (pc := 32) K dX7_fresh_32 rfl (lv_at hl 0 rfl) ?_
    refine z_aload_n (pc := 33) K dX7_fresh_33 rfl (lv_at hl 0 rfl) ?_
    refine z_get (pc := 34) (t := 6) (k := 8) K hw20 (ob (t := 6) hg13) zq6 (by decide) q378 (fun _ h => h) dX7_fresh_34 (zval_r kf_6_8) ?_
    refine z_getN (pc := 37) (t := 4) (k := 1) K hw20 (ob (t := 4) hg14) zq4 (by decide) q250 (fun _ h => h) dX7_fresh_37 (zval_p (κ := 6) kf_4_1) ?_
    refine z_aload_n (pc := 40) K dX7_fresh_40 rfl (lv_at hl 0 rfl) ?_
    refine z_get (pc := 41) (t := 6) (k := 8) K hw20 (ob (t := 6) hg13) zq6 (by decide) q378 (fun _ h => h) dX7_fresh_41 (zval_r kf_6_8) ?_
    refine z_getN (pc := 44) (t := 4) (k := 4) K hw20 (ob (t := 4) hg14) zq4 (by decide) q263 (fun _ h => h) dX7_fresh_44 (zval_i kf_4_4) ?_
    refine zr_i (pc := 47) (maxL := 4) K hw20 (met_X6_of_6_1 X l σ9 a0 (σ9 a0 8 0) 1 10 (σ9 (σ9 a0 8 0) 4 0) hg13 hg14 kf_4_1 kl_4_1 kt_4_1 (z_rI hw20 (ob (t := 4) hg14) kf_4_4) _ h) (i_VU (n := 2) (t := 6) (As := [jR X (σ9 (σ9 a0 8 0) 1 (-1)), jI (σ9 (σ9 a0 8 0) 4 0)]) (owner := "CombTable$Reader") K hw20 (ob hg13) zq6 (by decide) (by decide) q787 q788 q791 q790 (dcl_of K q791 q792) rfl rfl dX7_fresh_47) (locw K q792 q97) ⟨by decide, by decide⟩ hl.1 dX7_fresh_47 (Nat.le_of_ble_eq_true rfl) ⟨Nat.le_refl _, Nat.le_refl _⟩ (fun r22 _ _ hr23 h hw26 => ?_)
    refine z_iconst (pc := 50) K dX7_fresh_50 ?_
    refine z_icmp_ne (pc := 51) (tgt := 58) K hr23 ⟨by decide, by decide⟩ dX7_fresh_51 (by decide) (fun hc27 => ?_) (fun hc27 => ?_)
    · have h := ite_t h hc27
      refine z_iconst (pc := 54) K dX7_fresh_54 ?_
      refine z_goto (pc := 55) (tgt := 59) K dX7_fresh_55 (by decide) ?_
      exact wk_X7_fresh_b59 a0 Q E σ K hex σ9 1 _ _ _ h hw26 hk12 hg13 ⟨by decide, by decide⟩ (lv_sub hl [0] rfl)
    · have h := ite_f h hc27
      exact wk_X7_fresh_b58 a0 Q E σ K hex σ9 _ _ _ h hw26 hk12 hg13 (lv_sub hl [0] rfl)
  · have h := ite_f h hc21
    exact wk_X7_fresh_b58 a0 Q E σ K hex σ9 _ _ _ h hw20 hk12 hg13 (lv_sub hl [0] rfl)
def ws_X7_kind : List (Int × Nat) := [(2, 6), (2, 7), (4, 1), (4, 4), (6, 1), (6, 2), (6, 3), (6, 4), (6, 5), (6, 6), (7, 1), (7, 2), (7, 3), (7, 4), (7, 5), (7, 6), (8, 1), (8, 2), (8, 3), (8, 4), (8, 5), (8, 6), (9, 1), (9, 2), (9, 3), (9, 4), (9, 5), (9, 6), (12, 1), (12, 2), (12, 3)]
theorem wo_X7_kind : wsOk ws_X7_kind = true := rfl
def wp_X7_kind_b99 (a0 : Int) (Q : St → Int → Prop) (E : Int → St → Int → Prop) (σ0 : St) (σ : St) (cr : Int) (v1 : Int) : Prop :=
  (σ a0 8 0) ≠ -1 ∧ (0 ≤ σ (σ a0 8 0) 4 0 ∧ σ (σ a0 8 0) 4 0 < 10) ∧ ∀ σ5 : St, σ5 = st σ (σ a0 8 0) 1 (σ (σ a0 8 0) 4 0) v1 → (σ5 a0 8 0) ≠ -1 ∧ rng ((σ5 (σ5 a0 8 0) 4 0) + 1) ∧ ∀ σ14 : St, σ14 = st σ5 (σ5 a0 8 0) 4 0 ((σ5 (σ5 a0 8 0) 4 0) + 1) → Q σ14 cr
def wp_X7_kind_b52 (a0 : Int) (Q : St → Int → Prop) (E : Int → St → Int → Prop) (σ0 : St) (σ : St) (cr : Int) (v1 : Int) : Prop :=
  wp_X6_find σ a0 (σ a0 10 0) 7 6 (fun r2 => (if r2 = (-1) then
    (wp_X7_kind_b99 a0 Q E σ0 σ cr v1)
    else
    rng (r2 + 1) ∧ ∀ σ10 : St, σ10 = st σ v1 2 0 (r2 + 1) → wp_X6_next σ10 a0 (fun σ18 => Kp ws_X6_next σ10 σ18 → (if σ18 v1 2 0 = 2 then
      wp_X6_number σ18 a0 1 99 (fun r25 σ28 => Kp ws_X6_number σ18 σ28 → ∀ σ35 : St, σ35 = st σ28 v1 3 0 r25 → (wp_X7_kind_b99 a0 Q E σ0 σ35 cr v1)) (fun x σx => Kp ws_X6_number σ18 σx → E x σx cr)
      else
      (wp_X7_kind_b99 a0 Q E σ0 σ18 cr v1)))))
def wp_X7_kind_b45 (a0 : Int) (Q : St → Int → Prop) (E : Int → St → Int → Prop) (σ0 : St) (σ : St) (cr : Int) (v1 : Int) (s0 : Int) (s1 : Int) : Prop :=
  ∀ σ2 : St, σ2 = st σ s0 1 0 s1 → wp_X6_next σ2 a0 (fun σ10 => Kp ws_X6_next σ2 σ10 → (wp_X7_kind_b52 a0 Q E σ0 σ10 cr v1))
def wp_X7_kind_b30 (a0 : Int) (Q : St → Int → Prop) (E : Int → St → Int → Prop) (σ0 : St) (σ : St) (cr : Int) (v1 : Int) : Prop :=
  wp_X6_is σ a0 (-34) (fun r1 => (if r1 = 0 then
    (wp_X7_kind_b45 a0 Q E σ0 σ cr v1 v1 2)
    else
    (wp_X7_kind_b45 a0 Q E σ0 σ cr v1 v1 1)))
def wp_X7_kind (σ : St) (a0 : Int) (cr : Int) (Q : St → Int → Prop) (E : Int → St → Int → Prop) : Prop :=
  5 ≤ cr ∧ ∀ σ4 : St, σ4 = nw σ 12 → wp_X7_fresh σ4 a0 (fun r11 σ14 => Kp ws_X7_fresh σ4 σ14 → wp_X14_init σ14 (nx σ) r11 (fun σ23 => Ki (nx σ) σ14 σ23 → tg σ23 (nx σ) = 12 → wp_X6_is σ23 a0 (-34) (fun r30 => (if r30 = 0 then
    wp_X6_is σ23 a0 (-35) (fun r36 => (if r36 = 0 then
      (wp_X7_kind_b52 a0 Q E σ σ23 (cr - 5) (nx σ))
      else
      (wp_X7_kind_b30 a0 Q E σ σ23 (cr - 5) (nx σ))))
    else
    (wp_X7_kind_b30 a0 Q E σ σ23 (cr - 5) (nx σ)))))) (fun x σx => Kp ws_X7_fresh σ4 σx → E x σx (cr - 5))
set_option maxHeartbeats 4000000 in
theorem wk_X7_kind_b99 {X : Cxt} {p : Program} {l : Launch} {e : Env} {s : State} {m : MethodId} {args : Array Value} {below : List Frame} {meth : Method} {c : Code} {C0 : Nat} (a0 : Int) (Q : St → Int → Prop) (E : Int → St → Int → Prop) (σ0 : St) (K : MCx X p s m args meth c cX7_kind 3 "CombTable$TableReader" (none)) (hex : c.exceptionTable.isEmpty = true) : ∀ (σ : St) (cr : Int) (v1 : Int) (cells slots : Nat) (H : Heap) (locs : List Loc) (ls : Array Slot), wp_X7_kind_b99 a0 Q E σ0 σ cr v1 → Wc X σ s.heap H locs → Kp ws_X7_kind σ0 σ → Cr C0 cells slots cr → tg σ a0 = 6 → tg σ v1 = 12 → lv_has ls 3 [(0, jR X a0), (1, jR X v1)] → W p l e (zrm 9 C0 C0) s m args below meth c H locs cells slots (MQA X below C0 (qVA (fun σ' cr => Kp ws_X7_kind σ0 σ' ∧ Q σ' cr)) (fun x σ' cr => tg σ' x = 2 ∧ Kp ws_X7_kind σ0 σ' ∧ E x σ' cr) args s) (F0 m 99 ls []) := by
  intro σ cr v1 cells slots H locs ls h hw hk hcr ht0 htv1 hl
  refine z_aload_n (pc := 99) K dX7_kind_99 rfl (lv_at hl 0 rfl) ?_
  refine z_get (pc := 100) (t := 6) (k := 8) K hw (ob (t := 6) ht0) zq6 (by decide) q378 (fun _ h => h) dX7_kind_100 (zval_r kf_6_8) ?_
  obtain ⟨hn2, h⟩ := h
  have hg1 : tg σ (σ a0 8 0) = 4 := okR_nn hn2 (by decide) (by decide) (z_ok (t := 6) (r := 4) hw ht0 ⟨by decide, by decide⟩ kf_6_8 kt_6_8)
  refine z_getN (pc := 103) (t := 4) (k := 1) K hw (ob (t := 4) hg1) zq4 (by decide) q250 (fun _ h => h) dX7_kind_103 (zval_p (κ := 6) kf_4_1) ?_
  refine z_aload_n (pc := 106) K dX7_kind_106 rfl (lv_at hl 0 rfl) ?_
  refine z_get (pc := 107) (t := 6) (k := 8) K hw (ob (t := 6) ht0) zq6 (by decide) q378 (fun _ h => h) dX7_kind_107 (zval_r kf_6_8) ?_
  refine z_getN (pc := 110) (t := 4) (k := 4) K hw (ob (t := 4) hg1) zq4 (by decide) q263 (fun _ h => h) dX7_kind_110 (zval_i kf_4_4) ?_
  refine z_aload_n (pc := 113) K dX7_kind_113 rfl (lv_at hl 1 rfl) ?_
  obtain ⟨hj3, h⟩ := h
  refine z_aastT (pc := 114) (t := 4) (κ := 6) (r := 12) K hw hg1 ⟨by decide, by decide⟩ kf_4_1 ⟨by decide, by decide⟩ kt_4_1 kl_4_1 hj3 (by decide) ⟨by decide, by decide⟩ htv1 zq12 rfl dX7_kind_114 (fun _ _ hw4 => ?_)
  obtain ⟨σ5, e6⟩ : ∃ z, z = st σ (σ a0 8 0) 1 (σ (σ a0 8 0) 4 0) v1 := ⟨_, rfl⟩
  have h := h σ5 e6
  have hw4 := wc_e e6 hw4
  have hk7 := kp_e e6 hk wo_X7_kind hj3.1 hg1 (t := 4) (by decide)
  have hg8 : tg σ5 a0 = 6 := (tg_e e6 (by decide)).trans ht0
  have hg9 : tg σ5 v1 = 12 := (tg_e e6 (by decide)).trans htv1
  refine z_aload_n (pc := 115) K dX7_kind_115 rfl (lv_at hl 0 rfl) ?_
  refine z_get (pc := 116) (t := 6) (k := 8) K hw4 (ob (t := 6) hg8) zq6 (by decide) q378 (fun _ h => h) dX7_kind_116 (zval_r kf_6_8) ?_
  refine lv_dup (pc := 119) K.x K.b dX7_kind_119 (jR_cat _ _) ?_
  obtain ⟨hn11, h⟩ := h
  have hg10 : tg σ5 (σ5 a0 8 0) = 4 := okR_nn hn11 (by decide) (by decide) (z_ok (t := 6) (r := 4) hw4 hg8 ⟨by decide, by decide⟩ kf_6_8 kt_6_8)
  refine z_getN (pc := 120) (t := 4) (k := 4) K hw4 (ob (t := 4) hg10) zq4 (by decide) q263 (fun _ h => h) dX7_kind_120 (zval_i kf_4_4) ?_
  refine z_iconst (pc := 123) K dX7_kind_123 ?_
  refine z_iadd (pc := 124) K dX7_kind_124 ?_
  obtain ⟨hr12, h⟩ := h
  refine z_putiN (pc := 125) (t := 4) 4 K hw4 (ob hg10) zq4 (by decide) kf_4_4 zt_4_4 hr12 q263 (fun _ h => h) rfl dX7_kind_125 (fun _ _ hw13 => ?_)
  obtain ⟨σ14, e15⟩ : ∃ z, z = st σ5 (σ5 a0 8 0) 4 0 ((σ5 (σ5 a0 8 0) 4 0) + 1) := ⟨_, rfl⟩
  have h := h σ14 e15
  have hw13 := wc_e e15 hw13
  have hk16 := kp_e e15 hk7 wo_X7_kind (by decide) hg10 (t := 4) (by decide)
  have hg17 : tg σ14 a0 = 6 := (tg_e e15 (by decide)).trans hg8
  have hg18 : tg σ14 v1 = 12 := (tg_e e15 (by decide)).trans hg9
  exact za_vret (pc := 128) K hw13 hcr ⟨hk16, h⟩ dX7_kind_128
set_option maxHeartbeats 4000000 in
theorem wk_X7_kind_b52 {X : Cxt} {p : Program} {l : Launch} {e : Env} {s : State} {m : MethodId} {args : Array Value} {below : List Frame} {meth : Method} {c : Code} {C0 : Nat} (a0 : Int) (Q : St → Int → Prop) (E : Int → St → Int → Prop) (σ0 : St) (K : MCx X p s m args meth c cX7_kind 3 "CombTable$TableReader" (none)) (hex : c.exceptionTable.isEmpty = true) : ∀ (σ : St) (cr : Int) (v1 : Int) (cells slots : Nat) (H : Heap) (locs : List Loc) (ls : Array Slot), wp_X7_kind_b52 a0 Q E σ0 σ cr v1 → Wc X σ s.heap H locs → Kp ws_X7_kind σ0 σ → Cr C0 cells slots cr → tg σ a0 = 6 → tg σ v1 = 12 → lv_has ls 3 [(0, jR X a0), (1, jR X v1)] → W p l e (zrm 9 C0 C0) s m args below meth c H locs cells slots (MQA X below C0 (qVA (fun σ' cr => Kp ws_X7_kind σ0 σ' ∧ Q σ' cr)) (fun x σ' cr => tg σ' x = 2 ∧ Kp ws_X7_kind σ0 σ' ∧ E x σ' cr) args s) (F0 m 52 ls []) := by
  intro σ cr v1 cells slots H locs ls h hw hk hcr ht0 htv1 hl
  refine z_aload_n (pc := 52) K dX7_kind_52 rfl (lv_at hl 0 rfl) ?_
  refine z_aload_n (pc := 53) K dX7_kind_53 rfl (lv_at hl 0 rfl) ?_
  refine z_get (pc := 54) (t := 6) (k := 10) K hw (ob (t := 6) ht0) zq6 (by decide) q380 (fun _ h => h) dX7_kind_54 (zval_r kf_6_10) ?_
  have hg1 : tg σ (σ a0 10 0) = 1 := (z_tg (t := 6) (r := 1) hw ht0 ⟨by decide, by decide⟩ kf_6_10 kn_6_10 kt_6_10 (by decide) (by decide))
  refine z_getN (pc := 57) (t := 1) (k := 7) K hw (ob (t := 1) hg1) zq1 (by decide) q522 (fun _ h => h) dX7_kind_57 (zval_p (κ := 4) kf_1_7) ?_
  refine zr_i (pc := 60) (maxL := 3) K hw (met_X6_find_6_1 X l σ a0 (σ a0 10 0) 7 6 ht0 hg1 kf_1_7 kl_1_7 kt_1_7 _ h) (i_VU (n := 1) (t := 6) (As := [jR X (σ (σ a0 10 0) 7 (-1))]) (owner := "CombTable$Reader") K hw (ob ht0) zq6 (by decide) (by decide) q692 q693 q696 q695 (dcl_of K q696 q697) rfl rfl dX7_kind_60) (locw K q697 q97) (zr_ok2A (by decide) (by decide)) hl.1 dX7_kind_60 (Nat.le_of_ble_eq_true rfl) (cr_le hcr) (fun r2 _ _ hr3 h hw6 => ?_)
  refine lv_istore_n (pc := 63) (lv' := [(2, jI r2), (0, jR X a0), (1, jR X v1)]) K.x K.b dX7_kind_63 rfl hl (by decide) (by simp [jR_cat]) (fun ls hl => ?_)
  refine lv_iload_n (pc := 64) K.x K.b dX7_kind_64 rfl (lv_at hl 0 rfl) ?_
  refine z_iconst (pc := 65) K dX7_kind_65 ?_
  refine z_icmp_eq (pc := 66) (tgt := 99) K hr3 ⟨by decide, by decide⟩ dX7_kind_66 (by decide) (fun hc7 => ?_) (fun hc7 => ?_)
  · have h := ite_t h hc7
    exact wk_X7_kind_b99 a0 Q E σ0 K hex σ cr v1 _ _ _ _ _ h hw6 hk hcr ht0 htv1 (lv_sub hl [1, 2] rfl)
  · have h := ite_f h hc7
    refine z_aload_n (pc := 69) K dX7_kind_69 rfl (lv_at hl 2 rfl) ?_
    refine lv_iload_n (pc := 70) K.x K.b dX7_kind_70 rfl (lv_at hl 0 rfl) ?_
    refine z_iconst (pc := 71) K dX7_kind_71 ?_
    refine z_iadd (pc := 72) K dX7_kind_72 ?_
    obtain ⟨hr8, h⟩ := h
    refine z_putiN (pc := 73) (t := 12) 2 K hw6 (ob htv1) zq12 (by decide) kf_12_2 zt_12_2 hr8 q832 (fun _ h => h) rfl dX7_kind_73 (fun _ _ hw9 => ?_)
    obtain ⟨σ10, e11⟩ : ∃ z, z = st σ v1 2 0 (r2 + 1) := ⟨_, rfl⟩
    have h := h σ10 e11
    have hw9 := wc_e e11 hw9
    have hk12 := kp_e e11 hk wo_X7_kind (by decide) htv1 (t := 12) (by decide)
    have hg13 : tg σ10 a0 = 6 := (tg_e e11 (by decide)).trans ht0
    have hg14 : tg σ10 v1 = 12 := (tg_e e11 (by decide)).trans htv1
    refine z_aload_n (pc := 76) K dX7_kind_76 rfl (lv_at hl 1 rfl) ?_
    refine zc_v (pc := 77) (maxL := 2) K hw9 (met_X6_next_6 X l σ10 a0 hg13 _ h) (i_VU (n := 0) (t := 6) (As := []) (owner := "CombTable$Reader") K hw9 (ob hg13) zq6 (by decide) (by decide) q768 q769 q666 q771 (dcl_of K q666 q672) rfl rfl dX7_kind_77) (locw K q672 q97) (zr_ok2A (by decide) (by decide)) hl.1 dX7_kind_77 (Nat.le_of_ble_eq_true rfl) (cr_le hcr) (fun σ18 _ _ hq17 hw19 => ?_)
    obtain ⟨hk20, h⟩ := hq17
    have h := h hk20
    have hk21 := kp_trans wo_X7_kind hk12 hk20 (fun _ q => q) (by decide)
    have hg22 : tg σ18 a0 = 6 := kp_tg hk20 wo_X6_next hg13 (by decide)
    have hg23 : tg σ18 v1 = 12 := kp_tg hk20 wo_X6_next hg14 (by decide)
    refine z_aload_n (pc := 80) K dX7_kind_80 rfl (lv_at hl 2 rfl) ?_
    refine z_getN (pc := 81) (t := 12) (k := 2) K hw19 (ob (t := 12) hg23) zq12 (by decide) q832 (fun _ h => h) dX7_kind_81 (zval_i kf_12_2) ?_
    refine z_iconst (pc := 84) K dX7_kind_84 ?_
    refine z_icmp_ne (pc := 85) (tgt := 99) K (z_rI hw19 (ob (t := 12) hg23) kf_12_2) ⟨by decide, by decide⟩ dX7_kind_85 (by decide) (fun hc24 => ?_) (fun hc24 => ?_)
    · have h := ite_t h hc24
      refine z_aload_n (pc := 88) K dX7_kind_88 rfl (lv_at hl 2 rfl) ?_
      refine z_aload_n (pc := 89) K dX7_kind_89 rfl (lv_at hl 1 rfl) ?_
      refine z_iconst (pc := 90) K dX7_kind_90 ?_
      refine z_bipush (pc := 91) K dX7_kind_91 (by decide) ?_
      refine zt_i (pc := 93) (maxL := 4) K hw19 (met_X6_number_6 X l σ18 a0 1 99 hg22 ⟨by decide, by decide⟩ ⟨by decide, by decide⟩ _ _ h) (i_VU (n := 2) (t := 6) (As := [jI 1, jI 99]) (owner := "CombTable$Reader") K hw19 (ob hg22) zq6 (by decide) (by decide) q795 q796 q799 q798 (dcl_of K q799 q800) rfl rfl dX7_kind_93) (locw K q800 q97) (zr_ok2A (by decide) (by decide)) hl.1 dX7_kind_93 (Nat.le_of_ble_eq_true rfl) (cr_le hcr) (fun r25 σ28 _ _ hr26 hq27 hw29 => ?_) (fun x σx _ _ hx0 hqx hwx => ?_)
      rotate_left
      · obtain ⟨htx, hkx, h⟩ := hqx
        have h := h hkx
        exact za_out K hwx hcr hx0 ⟨htx, kp_trans wo_X7_kind hk21 hkx (fun _ q => q) (by decide), h⟩ (no_cov hex 93)
      obtain ⟨hk30, h⟩ := hq27
      have h := h hk30
      have hk31 := kp_trans wo_X7_kind hk21 hk30 (fun _ q => q) (by decide)
      have hg32 : tg σ28 a0 = 6 := kp_tg hk30 wo_X6_number hg22 (by decide)
      have hg33 : tg σ28 v1 = 12 := kp_tg hk30 wo_X6_number hg23 (by decide)
      refine z_putiN (pc := 96) (t := 12) 3 K hw29 (ob hg33) zq12 (by decide) kf_12_3 zt_12_3 hr26 q835 (fun _ h => h) rfl dX7_kind_96 (fun _ _ hw34 => ?_)
      obtain ⟨σ35, e36⟩ : ∃ z, z = st σ28 v1 3 0 r25 := ⟨_, rfl⟩
      have h := h σ35 e36
      have hw34 := wc_e e36 hw34
      have hk37 := kp_e e36 hk31 wo_X7_kind (by decide) hg33 (t := 12) (by decide)
      have hg38 : tg σ35 a0 = 6 := (tg_e e36 (by decide)).trans hg32
      have hg39 : tg σ35 v1 = 12 := (tg_e e36 (by decide)).trans hg33
      exact wk_X7_kind_b99 a0 Q E σ0 K hex σ35 cr v1 _ _ _ _ _ h hw34 hk37 hcr hg38 hg39 (lv_sub hl [1, 2] rfl)
    · have h := ite_f h hc24
      exact wk_X7_kind_b99 a0 Q E σ0 K hex σ18 cr v1 _ _ _ _ _ h hw19 hk21 hcr hg22 hg23 (lv_sub hl [1, 2] rfl)
set_option maxHeartbeats 4000000 in
theorem wk_X7_kind_b45 {X : Cxt} {p : Program} {l : Launch} {e : Env} {s : State} {m : MethodId} {args : Array Value} {below : List Frame} {meth : Method} {c : Code} {C0 : Nat} (a0 : Int) (Q : St → Int → Prop) (E : Int → St → Int → Prop) (σ0 : St) (K : MCx X p s m args meth c cX7_kind 3 "CombTable$TableReader" (none)) (hex : c.exceptionTable.isEmpty = true) : ∀ (σ : St) (cr : Int) (v1 : Int) (s0 : Int) (s1 : Int) (cells slots : Nat) (H : Heap) (locs : List Loc) (ls : Array Slot), wp_X7_kind_b45 a0 Q E σ0 σ cr v1 s0 s1 → Wc X σ s.heap H locs → Kp ws_X7_kind σ0 σ → Cr C0 cells slots cr → tg σ a0 = 6 → tg σ v1 = 12 → tg σ s0 = 12 → rng s1 → lv_has ls 3 [(0, jR X a0), (1, jR X v1)] → W p l e (zrm 9 C0 C0) s m args below meth c H locs cells slots (MQA X below C0 (qVA (fun σ' cr => Kp ws_X7_kind σ0 σ' ∧ Q σ' cr)) (fun x σ' cr => tg σ' x = 2 ∧ Kp ws_X7_kind σ0 σ' ∧ E x σ' cr) args s) (F0 m 45 ls [jI s1, jR X s0]) := by
  intro σ cr v1 s0 s1 cells slots H locs ls h hw hk hcr ht0 htv1 hts0 hs1 hl
  refine z_putiN (pc := 45) (t := 12) 1 K hw (ob hts0) zq12 (by decide) kf_12_1 zt_12_1 hs1 q829 (fun _ h => h) rfl dX7_kind_45 (fun _ _ hw1 => ?_)
  obtain ⟨σ2, e3⟩ : ∃ z, z = st σ s0 1 0 s1 := ⟨_, rfl⟩
  have h := h σ2 e3
  have hw1 := wc_e e3 hw1
  have hk4 := kp_e e3 hk wo_X7_kind (by decide) hts0 (t := 12) (by decide)
  have hg5 : tg σ2 a0 = 6 := (tg_e e3 (by decide)).trans ht0
  have hg6 : tg σ2 v1 = 12 := (tg_e e3 (by decide)).trans htv1
  refine z_aload_n (pc := 48) K dX7_kind_48 rfl (lv_at hl 0 rfl) ?_
  refine zc_v (pc := 49) (maxL := 2) K hw1 (met_X6_next_6 X l σ2 a0 hg5 _ h) (i_VU (n := 0) (t := 6) (As := []) (owner := "CombTable$Reader") K hw1 (ob hg5) zq6 (by decide) (by decide) q768 q769 q666 q771 (dcl_of K q666 q672) rfl rfl dX7_kind_49) (locw K q672 q97) (zr_ok2A (by decide) (by decide)) hl.1 dX7_kind_49 (Nat.le_of_ble_eq_true rfl) (cr_le hcr) (fun σ10 _ _ hq9 hw11 => ?_)
  obtain ⟨hk12, h⟩ := hq9
  have h := h hk12
  have hk13 := kp_trans wo_X7_kind hk4 hk12 (fun _ q => q) (by decide)
  have hg14 : tg σ10 a0 = 6 := kp_tg hk12 wo_X6_next hg5 (by decide)
  have hg15 : tg σ10 v1 = 12 := kp_tg hk12 wo_X6_next hg6 (by decide)
  exact wk_X7_kind_b52 a0 Q E σ0 K hex σ10 cr v1 _ _ _ _ _ h hw11 hk13 hcr hg14 hg15 (lv_sub hl [0, 1] rfl)
set_option maxHeartbeats 4000000 in
theorem wk_X7_kind_b30 {X : Cxt} {p : Program} {l : Launch} {e : Env} {s : State} {m : MethodId} {args : Array Value} {below : List Frame} {meth : Method} {c : Code} {C0 : Nat} (a0 : Int) (Q : St → Int → Prop) (E : Int → St → Int → Prop) (σ0 : St) (K : MCx X p s m args meth c cX7_kind 3 "CombTable$TableReader" (none)) (hex : c.exceptionTable.isEmpty = true) : ∀ (σ : St) (cr : Int) (v1 : Int) (cells slots : Nat) (H : Heap) (locs : List Loc) (ls : Array Slot), wp_X7_kind_b30 a0 Q E σ0 σ cr v1 → Wc X σ s.heap H locs → Kp ws_X7_kind σ0 σ → Cr C0 cells slots cr → tg σ a0 = 6 → tg σ v1 = 12 → lv_has ls 3 [(0, jR X a0), (1, jR X v1)] → W p l e (zrm 9 C0 C0) s m args below meth c H locs cells slots (MQA X below C0 (qVA (fun σ' cr => Kp ws_X7_kind σ0 σ' ∧ Q σ' cr)) (fun x σ' cr => tg σ' x = 2 ∧ Kp ws_X7_kind σ0 σ' ∧ E x σ' cr) args s) (F0 m 30 ls []) := by
  intro σ cr v1 cells slots H locs ls h hw hk hcr ht0 htv1 hl
  refine z_aload_n (pc := 30) K dX7_kind_30 rfl (lv_at hl 1 rfl) ?_
  refine z_aload_n (pc := 31) K dX7_kind_31 rfl (lv_at hl 0 rfl) ?_
  refine z_ldcS (pc := 32) (i := 32) K (-34) (by decide) (tx := "opens") rfl dX7_kind_32 ?_
  refine zr_z (pc := 34) (maxL := 3) K hw (met_X6_is_6 X l σ a0 (-34) ht0 ⟨by decide, by decide⟩ _ h) (i_VU (n := 1) (t := 6) (As := [jR X (-34)]) (owner := "CombTable$Reader") K hw (ob ht0) zq6 (by decide) (by decide) q852 q853 q699 q855 (dcl_of K q699 q705) rfl rfl dX7_kind_34) (locw K q705 q97) (zr_ok2A (by decide) (by decide)) hl.1 dX7_kind_34 (Nat.le_of_ble_eq_true rfl) (cr_le hcr) (fun r1 _ _ hr2 h hw5 => ?_)
  refine z_if_eq (pc := 37) (tgt := 44) K (b01r hr2) dX7_kind_37 (by decide) (fun hc6 => ?_) (fun hc6 => ?_)
  · have h := ite_t h hc6
    refine z_iconst (pc := 44) K dX7_kind_44 ?_
    exact wk_X7_kind_b45 a0 Q E σ0 K hex σ cr v1 v1 2 _ _ _ _ _ h hw5 hk hcr ht0 htv1 htv1 ⟨by decide, by decide⟩ (lv_sub hl [0, 1] rfl)
  · have h := ite_f h hc6
    refine z_iconst (pc := 40) K dX7_kind_40 ?_
    refine z_goto (pc := 41) (tgt := 45) K dX7_kind_41 (by decide) ?_
    exact wk_X7_kind_b45 a0 Q E σ0 K hex σ cr v1 v1 1 _ _ _ _ _ h hw5 hk hcr ht0 htv1 htv1 ⟨by decide, by decide⟩ (lv_sub hl [0, 1] rfl)
set_option maxHeartbeats 4000000 in
theorem met_X7_kind (X : Cxt) (l : Launch) (σ : St) (a0 : Int) (ht0 : tg σ a0 = 6) (cr : Int) (hcr0 : 0 ≤ cr) (Q : St → Int → Prop) (E : Int → St → Int → Prop) (h : wp_X7_kind σ a0 cr Q E) : MetA X l yX7_kind (ws_ yX7_kind cX7_kind 3 (none)) 9 cr.toNat (ZP X σ [jR X a0]) (qVA (fun σ' cr => Kp ws_X7_kind σ σ' ∧ Q σ' cr)) (fun x σ' cr => tg σ' x = 2 ∧ Kp ws_X7_kind σ σ' ∧ E x σ' cr) := by
  have hcr : Cr cr.toNat 0 0 cr := by unfold Cr; omega
  refine z_startA (own := "CombTable$TableReader") (lv := [(0, jR X a0)]) (by decide) rfl (by simp [lv_args, jR_cat, jI_cat, jL_cat]) (by simp [lg_sl, jR_cat, jI_cat, jL_cat]) (fun p e s m below meth c ls _ K hex _ hw hl => ?_)
  have hk : Kp ws_X7_kind σ σ := kp_rf σ
  obtain ⟨hle1, h⟩ := h
  refine z_new (pc := 0) (t := 12) K hw (by decide) zq12 q823 q824 q109 (cr_fit hcr (u := 5) ⟨by decide, by decide⟩ hle1) dX7_kind_0 (fun _ hw2 => ?_)
  have hcr3 := cr_new hcr (n := 5) (u := 5) ⟨by decide, by decide⟩ hle1
  obtain ⟨σ4, e5⟩ : ∃ z, z = nw σ 12 := ⟨_, rfl⟩
  have h := h σ4 e5
  have hke6 : Ke σ σ4 := ke_nw hw e5
  have hz7 : tg σ (nx σ) = 0 := z0_kp hk wo_X7_kind hw.1.fresh
  have hw2 := wc_e e5 hw2
  have hk8 := kp_ke hk wo_X7_kind hke6
  have hg9 : tg σ4 a0 = 6 := ke_tg hke6 ht0 (by decide)
  have hg10 : tg σ4 (nx σ) = (-12) := tg_nw e5
  refine lv_dup (pc := 3) K.x K.b dX7_kind_3 (jR_cat _ _) ?_
  refine z_aload_n (pc := 4) K dX7_kind_4 rfl (lv_at hl 0 rfl) ?_
  refine zt_l (pc := 5) (maxL := 3) K hw2 (met_X7_fresh X l σ4 a0 hg9 _ _ h) (i_V (n := 0) (t := 6) (As := []) K hw2 (ob hg9) zq6 (by decide) q776 q778 qs4 (sg_of K q779) rfl rfl dX7_kind_5) (locw K q779 q98) (zr_ok2A (by decide) (by decide)) hl.1 dX7_kind_5 (Nat.le_of_ble_eq_true rfl) (cr_le hcr3) (fun r11 σ14 _ _ hr12 hq13 hw15 => ?_) (fun x σx _ _ hx0 hqx hwx => ?_)
  rotate_left
  · obtain ⟨htx, hkx, h⟩ := hqx
    have h := h hkx
    exact za_out K hwx hcr3 hx0 ⟨htx, kp_trans wo_X7_kind hk8 hkx (fun _ q => q) (by decide), h⟩ (no_cov hex 5)
  obtain ⟨hk16, h⟩ := hq13
  have h := h hk16
  have hk17 := kp_trans wo_X7_kind hk8 hk16 (fun _ q => q) (by decide)
  have hg18 : tg σ14 a0 = 6 := kp_tg hk16 wo_X7_fresh hg9 (by decide)
  have hg19 : tg σ14 (nx σ) = -12 := kp_tg hk16 wo_X7_fresh hg10 (by decide)
  refine zc_v (pc := 8) (maxL := 3) K hw15 (met_X14_init X l σ14 (nx σ) r11 hg19 hr12 _ h) (i_I (n := 1) (As := [jL r11]) K (hw15.1.pos (by rw [hg19]; decide)).1 (by decide) rfl q825 q826 q827 rfl rfl dX7_kind_8) (locw K q827 q109) (zr_ok2A (by decide) (by decide)) hl.1 dX7_kind_8 (Nat.le_of_ble_eq_true rfl) (cr_le hcr3) (fun σ23 _ _ hq22 hw24 => ?_)
  obtain ⟨hk25, hg26, h⟩ := hq22
  have h := h hk25 hg26
  have hk27 := kp_ki hk17 wo_X7_kind hk25 hz7
  have hg28 : tg σ23 a0 = 6 := ki_tg hk25 hg18 (by decide) hg19 (by decide)
  have hg29 : tg σ23 (nx σ) = 12 := hg26
  refine z_astore_n (pc := 11) (lv' := [(1, jR X (nx σ)), (0, jR X a0)]) K dX7_kind_11 rfl hl (by decide) (by simp [jR_cat]) (fun ls hl => ?_)
  refine z_aload_n (pc := 12) K dX7_kind_12 rfl (lv_at hl 1 rfl) ?_
  refine z_ldcS (pc := 13) (i := 32) K (-34) (by decide) (tx := "opens") rfl dX7_kind_13 ?_
  refine zr_z (pc := 15) (maxL := 3) K hw24 (met_X6_is_6 X l σ23 a0 (-34) hg28 ⟨by decide, by decide⟩ _ h) (i_VU (n := 1) (t := 6) (As := [jR X (-34)]) (owner := "CombTable$Reader") K hw24 (ob hg28) zq6 (by decide) (by decide) q852 q853 q699 q855 (dcl_of K q699 q705) rfl rfl dX7_kind_15) (locw K q705 q97) (zr_ok2A (by decide) (by decide)) hl.1 dX7_kind_15 (Nat.le_of_ble_eq_true rfl) (cr_le hcr3) (fun r30 _ _ hr31 h hw34 => ?_)
  refine z_if_ne (pc := 18) (tgt := 30) K (b01r hr31) dX7_kind_18 (by decide) (fun hc35 => ?_) (fun hc35 => ?_)
  · have h := ite_t h hc35
    refine z_aload_n (pc := 21) K dX7_kind_21 rfl (lv_at hl 1 rfl) ?_
    refine z_ldcS (pc := 22) (i := 33) K (-35) (by decide) (tx := "begins") rfl dX7_kind_22 ?_
    refine zr_z (pc := 24) (maxL := 3) K hw34 (met_X6_is_6 X l σ23 a0 (-35) hg28 ⟨by decide, by decide⟩ _ h) (i_VU (n := 1) (t := 6) (As := [jR X (-35)]) (owner := "CombTable$Reader") K hw34 (ob hg28) zq6 (by decide) (by decide) q852 q853 q699 q855 (dcl_of K q699 q705) rfl rfl dX7_kind_24) (locw K q705 q97) (zr_ok2A (by decide) (by decide)) hl.1 dX7_kind_24 (Nat.le_of_ble_eq_true rfl) (cr_le hcr3) (fun r36 _ _ hr37 h hw40 => ?_)
    refine z_if_eq (pc := 27) (tgt := 52) K (b01r hr37) dX7_kind_27 (by decide) (fun hc41 => ?_) (fun hc41 => ?_)
    · have h := ite_t h hc41
      exact wk_X7_kind_b52 a0 Q E σ K hex σ23 (cr - 5) (nx σ) _ _ _ _ _ h hw40 hk27 hcr3 hg28 hg29 (lv_sub hl [1, 0] rfl)
    · have h := ite_f h hc41
      exact wk_X7_kind_b30 a0 Q E σ K hex σ23 (cr - 5) (nx σ) _ _ _ _ _ h hw40 hk27 hcr3 hg28 hg29 (lv_sub hl [1, 0] rfl)
  · have h := ite_f h hc35
    exact wk_X7_kind_b30 a0 Q E σ K hex σ23 (cr - 5) (nx σ) _ _ _ _ _ h hw34 hk27 hcr3 hg28 hg29 (lv_sub hl [1, 0] rfl)
def ws_X7_line : List (Int × Nat) := [(2, 6), (2, 7), (4, 0), (4, 1), (4, 2), (4, 3), (4, 4), (4, 5), (4, 6), (4, 7), (4, 8), (6, 1), (6, 2), (6, 3), (6, 4), (6, 5), (6, 6), (6, 9), (7, 1), (7, 2), (7, 3), (7, 4), (7, 5), (7, 6), (8, 1), (8, 2), (8, 3), (8, 4), (8, 5), (8, 6), (9, 1), (9, 2), (9, 3), (9, 4), (9, 5), (9, 6), (12, 1), (12, 2), (12, 3), (12, 4)]
theorem wo_X7_line : wsOk ws_X7_line = true := rfl
def wp_X7_line_b171 (a0 : Int) (x1 : Int) (Q : St → Int → Prop) (E : Int → St → Int → Prop) (σ0 : St) (σ : St) (cr : Int) (v2 : Int) (v3 : Int) (s1 : Int) : Prop :=
  wp_X6_must σ a0 s1 3 (fun σ4 => Kp ws_X6_must σ σ4 → (σ4 a0 8 0) ≠ -1 ∧ (0 ≤ v2 ∧ v2 < 10) ∧ (σ4 (σ4 a0 8 0) 1 v2) ≠ -1 ∧ ∀ σ15 : St, σ15 = st σ4 (σ4 (σ4 a0 8 0) 1 v2) 4 0 (zor (σ4 (σ4 (σ4 a0 8 0) 1 v2) 4 0) (zshl 1 v3)) → (σ15 a0 8 0) ≠ -1 ∧ rng ((σ15 (σ15 a0 8 0) 5 0) + 1) ∧ ∀ σ23 : St, σ23 = st σ15 (σ15 a0 8 0) 5 0 ((σ15 (σ15 a0 8 0) 5 0) + 1) → wp_X6_next σ23 a0 (fun σ30 => Kp ws_X6_next σ23 σ30 → Q σ30 cr)) (fun x σx => Kp ws_X6_must σ σx → E x σx cr)
def wp_X7_line_b170 (a0 : Int) (x1 : Int) (Q : St → Int → Prop) (E : Int → St → Int → Prop) (σ0 : St) (σ : St) (cr : Int) (v2 : Int) (v3 : Int) : Prop :=
  (wp_X7_line_b171 a0 x1 Q E σ0 σ cr v2 v3 0)
def wp_X7_line (σ : St) (a0 : Int) (x1 : Int) (cr : Int) (Q : St → Int → Prop) (E : Int → St → Int → Prop) : Prop :=
  (if x1 = 0 then
    wp_X7_fresh σ a0 (fun r2 σ5 => Kp ws_X7_fresh σ σ5 → (σ5 a0 8 0) ≠ -1 ∧ 2 ≤ cr ∧ ∀ σ15 : St, σ15 = nw σ5 11 → wp_X6_number σ15 a0 1 6 (fun r23 σ26 => Kp ws_X6_number σ15 σ26 → wp_X13_init σ26 (nx σ5) r2 r23 (fun σ36 => Ki (nx σ5) σ26 σ36 → tg σ36 (nx σ5) = 11 → (0 ≤ σ5 (σ5 a0 8 0) 3 0 ∧ σ5 (σ5 a0 8 0) 3 0 < 8) ∧ ∀ σ46 : St, σ46 = st σ36 (σ5 a0 8 0) 0 (σ5 (σ5 a0 8 0) 3 0) (nx σ5) → (σ46 a0 8 0) ≠ -1 ∧ rng ((σ46 (σ46 a0 8 0) 3 0) + 1) ∧ ∀ σ54 : St, σ54 = st σ46 (σ46 a0 8 0) 3 0 ((σ46 (σ46 a0 8 0) 3 0) + 1) → Q σ54 (cr - 2))) (fun x σx => Kp ws_X6_number σ15 σx → E x σx (cr - 2))) (fun x σx => Kp ws_X7_fresh σ σx → E x σx cr)
    else
    (if x1 = 1 then
      wp_X7_kind σ a0 cr (fun σ62 cr64 => Kp ws_X7_kind σ σ62 → Q σ62 cr64) (fun x σx crx => Kp ws_X7_kind σ σx → E x σx crx)
      else
      (if x1 = 2 then
        (σ a0 8 0) ≠ -1 ∧ wp_X6_known σ a0 (σ a0 8 0) 1 10 (σ (σ a0 8 0) 4 0) (fun r72 σ75 => Kp ws_X6_known σ σ75 → wp_X6_isName σ75 a0 (fun r80 => wp_X6_must σ75 a0 r80 1 (fun σ88 => Kp ws_X6_must σ75 σ88 → (σ88 a0 8 0) ≠ -1 ∧ wp_X6_of σ88 a0 (σ88 a0 8 0) 1 10 (σ88 (σ88 a0 8 0) 4 0) (fun r95 => (if r95 = (-1) then
          (wp_X7_line_b170 a0 x1 Q E σ σ88 cr r72 r95)
          else
          (0 ≤ r72 ∧ r72 < 10) ∧ (σ88 (σ88 a0 8 0) 1 r72) ≠ -1 ∧ wp_X1_has σ88 (σ88 (σ88 (σ88 a0 8 0) 1 r72) 4 0) r95 (fun r104 => (if r104 = 0 then
            (wp_X7_line_b171 a0 x1 Q E σ σ88 cr r72 r95 1)
            else
            (wp_X7_line_b170 a0 x1 Q E σ σ88 cr r72 r95)))))) (fun x σx => Kp ws_X6_must σ75 σx → E x σx cr))) (fun x σx => Kp ws_X6_known σ σx → E x σx cr)
        else
        (if x1 = 3 then
          wp_X7_comb σ a0 (fun σ114 => Kp ws_X7_comb σ σ114 → Q σ114 cr) (fun x σx => Kp ws_X7_comb σ σx → E x σx cr)
          else
          (if x1 = 4 then
            (σ a0 8 0) ≠ -1 ∧ ∀ σ123 : St, σ123 = st σ (σ a0 8 0) 7 0 1 → Q σ123 cr
            else
            (σ a0 8 0) ≠ -1 ∧ ∀ σ130 : St, σ130 = st σ (σ a0 8 0) 8 0 1 → Q σ130 cr)))))
set_option maxHeartbeats 4000000 in
theorem wk_X7_line_b171 {X : Cxt} {p : Program} {l : Launch} {e : Env} {s : State} {m : MethodId} {args : Array Value} {below : List Frame} {meth : Method} {c : Code} {C0 : Nat} (a0 : Int) (x1 : Int) (Q : St → Int → Prop) (E : Int → St → Int → Prop) (σ0 : St) (K : MCx X p s m args meth c cX7_line 4 "CombTable$TableReader" (none)) (hex : c.exceptionTable.isEmpty = true) (hx1 : rng x1) : ∀ (σ : St) (cr : Int) (v2 : Int) (v3 : Int) (s1 : Int) (cells slots : Nat) (H : Heap) (locs : List Loc) (ls : Array Slot), wp_X7_line_b171 a0 x1 Q E σ0 σ cr v2 v3 s1 → Wc X σ s.heap H locs → Kp ws_X7_line σ0 σ → Cr C0 cells slots cr → tg σ a0 = 6 → rng v2 → rng v3 → (0 ≤ s1 ∧ s1 ≤ 1) → lv_has ls 4 [(0, jR X a0), (2, jI v2), (3, jI v3)] → W p l e (zrm 10 C0 C0) s m args below meth c H locs cells slots (MQA X below C0 (qVA (fun σ' cr => Kp ws_X7_line σ0 σ' ∧ Q σ' cr)) (fun x σ' cr => tg σ' x = 2 ∧ Kp ws_X7_line σ0 σ' ∧ E x σ' cr) args s) (F0 m 171 ls [jI s1, jR X a0]) := by
  intro σ cr v2 v3 s1 cells slots H locs ls h hw hk hcr ht0 hv2 hv3 hs1 hl
  refine z_iconst (pc := 171) K dX7_line_171 ?_
  refine zt_v (pc := 172) (maxL := 3) K hw (met_X6_must_6 X l σ a0 s1 3 ht0 hs1 ⟨by decide, by decide⟩ _ _ h) (i_VU (n := 2) (t := 6) (As := [jI s1, jI 3]) (owner := "CombTable$Reader") K hw (ob ht0) zq6 (by decide) (by decide) q754 q755 q758 q757 (dcl_of K q758 q759) rfl rfl dX7_line_172) (locw K q759 q97) (zr_ok2A (by decide) (by decide)) hl.1 dX7_line_172 (Nat.le_of_ble_eq_true rfl) (cr_le hcr) (fun σ4 _ _ hq3 hw5 => ?_) (fun x σx _ _ hx0 hqx hwx => ?_)
  rotate_left
  · obtain ⟨htx, hkx, h⟩ := hqx
    have h := h hkx
    exact za_out K hwx hcr hx0 ⟨htx, kp_trans wo_X7_line hk hkx (fun _ q => q) (by decide), h⟩ (no_cov hex 172)
  obtain ⟨hk6, h⟩ := hq3
  have h := h hk6
  have hk7 := kp_trans wo_X7_line hk hk6 (fun _ q => q) (by decide)
  have hg8 : tg σ4 a0 = 6 := kp_tg hk6 wo_X6_must ht0 (by decide)
  refine z_aload_n (pc := 175) K dX7_line_175 rfl (lv_at hl 0 rfl) ?_
  refine z_get (pc := 176) (t := 6) (k := 8) K hw5 (ob (t := 6) hg8) zq6 (by decide) q378 (fun _ h => h) dX7_line_176 (zval_r kf_6_8) ?_
  obtain ⟨hn10, h⟩ := h
  have hg9 : tg σ4 (σ4 a0 8 0) = 4 := okR_nn hn10 (by decide) (by decide) (z_ok (t := 6) (r := 4) hw5 hg8 ⟨by decide, by decide⟩ kf_6_8 kt_6_8)
  refine z_getN (pc := 179) (t := 4) (k := 1) K hw5 (ob (t := 4) hg9) zq4 (by decide) q250 (fun _ h => h) dX7_line_179 (zval_p (κ := 6) kf_4_1) ?_
  refine lv_iload_n (pc := 182) K.x K.b dX7_line_182 rfl (lv_at hl 1 rfl) ?_
  obtain ⟨hj11, h⟩ := h
  refine z_aald (pc := 183) (t := 4) (κ := 6) K hw5 hg9 ⟨by decide, by decide⟩ kf_4_1 ⟨by decide, by decide⟩ kl_4_1 hj11 (by decide) dX7_line_183 ?_
  refine lv_dup (pc := 184) K.x K.b dX7_line_184 (jR_cat _ _) ?_
  obtain ⟨hn13, h⟩ := h
  have hg12 : tg σ4 (σ4 (σ4 a0 8 0) 1 v2) = 12 := okR_nn hn13 (by decide) (by decide) (z_el (t := 4) (κ := 6) (r := 12) hw5 hg9 ⟨by decide, by decide⟩ kf_4_1 (by decide) kt_4_1 kl_4_1 hj11)
  refine z_getN (pc := 185) (t := 12) (k := 4) K hw5 (ob (t := 12) hg12) zq12 (by decide) q838 (fun _ h => h) dX7_line_185 (zval_i kf_12_4) ?_
  refine z_iconst (pc := 188) K dX7_line_188 ?_
  refine lv_iload_n (pc := 189) K.x K.b dX7_line_189 rfl (lv_at hl 2 rfl) ?_
  refine z_ishl (pc := 190) K dX7_line_190 ?_
  refine z_ior (pc := 191) K dX7_line_191 ?_
  refine z_putiN (pc := 192) (t := 12) 4 K hw5 (ob hg12) zq12 (by decide) kf_12_4 zt_12_4 (rng_toInt _) q838 (fun _ h => h) rfl dX7_line_192 (fun _ _ hw14 => ?_)
  obtain ⟨σ15, e16⟩ : ∃ z, z = st σ4 (σ4 (σ4 a0 8 0) 1 v2) 4 0 (zor (σ4 (σ4 (σ4 a0 8 0) 1 v2) 4 0) (zshl 1 v3)) := ⟨_, rfl⟩
  have h := h σ15 e16
  have hw14 := wc_e e16 hw14
  have hk17 := kp_e e16 hk7 wo_X7_line (by decide) hg12 (t := 12) (by decide)
  have hg18 : tg σ15 a0 = 6 := (tg_e e16 (by decide)).trans hg8
  refine z_aload_n (pc := 195) K dX7_line_195 rfl (lv_at hl 0 rfl) ?_
  refine z_get (pc := 196) (t := 6) (k := 8) K hw14 (ob (t := 6) hg18) zq6 (by decide) q378 (fun _ h => h) dX7_line_196 (zval_r kf_6_8) ?_
  refine lv_dup (pc := 199) K.x K.b dX7_line_199 (jR_cat _ _) ?_
  obtain ⟨hn20, h⟩ := h
  have hg19 : tg σ15 (σ15 a0 8 0) = 4 := okR_nn hn20 (by decide) (by decide) (z_ok (t := 6) (r := 4) hw14 hg18 ⟨by decide, by decide⟩ kf_6_8 kt_6_8)
  refine z_getN (pc := 200) (t := 4) (k := 5) K hw14 (ob (t := 4) hg19) zq4 (by decide) q268 (fun _ h => h) dX7_line_200 (zval_i kf_4_5) ?_
  refine z_iconst (pc := 203) K dX7_line_203 ?_
  refine z_iadd (pc := 204) K dX7_line_204 ?_
  obtain ⟨hr21, h⟩ := h
  refine z_putiN (pc := 205) (t := 4) 5 K hw14 (ob hg19) zq4 (by decide) kf_4_5 zt_4_5 hr21 q268 (fun _ h => h) rfl dX7_line_205 (fun _ _ hw22 => ?_)
  obtain ⟨σ23, e24⟩ : ∃ z, z = st σ15 (σ15 a0 8 0) 5 0 ((σ15 (σ15 a0 8 0) 5 0) + 1) := ⟨_, rfl⟩
  have h := h σ23 e24
  have hw22 := wc_e e24 hw22
  have hk25 := kp_e e24 hk17 wo_X7_line (by decide) hg19 (t := 4) (by decide)
  have hg26 : tg σ23 a0 = 6 := (tg_e e24 (by decide)).trans hg18
  refine z_aload_n (pc := 208) K dX7_line_208 rfl (lv_at hl 0 rfl) ?_
  refine zc_v (pc := 209) (maxL := 2) K hw22 (met_X6_next_6 X l σ23 a0 hg26 _ h) (i_VU (n := 0) (t := 6) (As := []) (owner := "CombTable$Reader") K hw22 (ob hg26) zq6 (by decide) (by decide) q768 q769 q666 q771 (dcl_of K q666 q672) rfl rfl dX7_line_209) (locw K q672 q97) (zr_ok2A (by decide) (by decide)) hl.1 dX7_line_209 (Nat.le_of_ble_eq_true rfl) (cr_le hcr) (fun σ30 _ _ hq29 hw31 => ?_)
  obtain ⟨hk32, h⟩ := hq29
  have h := h hk32
  have hk33 := kp_trans wo_X7_line hk25 hk32 (fun _ q => q) (by decide)
  have hg34 : tg σ30 a0 = 6 := kp_tg hk32 wo_X6_next hg26 (by decide)
  refine z_goto (pc := 212) (tgt := 241) K dX7_line_212 (by decide) ?_
  exact za_vret (pc := 241) K hw31 hcr ⟨hk33, h⟩ dX7_line_241
set_option maxHeartbeats 4000000 in
theorem wk_X7_line_b170 {X : Cxt} {p : Program} {l : Launch} {e : Env} {s : State} {m : MethodId} {args : Array Value} {below : List Frame} {meth : Method} {c : Code} {C0 : Nat} (a0 : Int) (x1 : Int) (Q : St → Int → Prop) (E : Int → St → Int → Prop) (σ0 : St) (K : MCx X p s m args meth c cX7_line 4 "CombTable$TableReader" (none)) (hex : c.exceptionTable.isEmpty = true) (hx1 : rng x1) : ∀ (σ : St) (cr : Int) (v2 : Int) (v3 : Int) (cells slots : Nat) (H : Heap) (locs : List Loc) (ls : Array Slot), wp_X7_line_b170 a0 x1 Q E σ0 σ cr v2 v3 → Wc X σ s.heap H locs → Kp ws_X7_line σ0 σ → Cr C0 cells slots cr → tg σ a0 = 6 → rng v2 → rng v3 → lv_has ls 4 [(0, jR X a0), (2, jI v2), (3, jI v3)] → W p l e (zrm 10 C0 C0) s m args below meth c H locs cells slots (MQA X below C0 (qVA (fun σ' cr => Kp ws_X7_line σ0 σ' ∧ Q σ' cr)) (fun x σ' cr => tg σ' x = 2 ∧ Kp ws_X7_line σ0 σ' ∧ E x σ' cr) args s) (F0 m 170 ls [jR X a0]) := by
  intro σ cr v2 v3 cells slots H locs ls h hw hk hcr ht0 hv2 hv3 hl
  refine z_iconst (pc := 170) K dX7_line_170 ?_
  exact wk_X7_line_b171 a0 x1 Q E σ0 K hex hx1 σ cr v2 v3 0 _ _ _ _ _ h hw hk hcr ht0 hv2 hv3 ⟨by decide, by decide⟩ (lv_sub hl [0, 1, 2] rfl)
set_option maxHeartbeats 4000000 in
theorem met_X7_line (X : Cxt) (l : Launch) (σ : St) (a0 : Int) (x1 : Int) (ht0 : tg σ a0 = 6) (hx1 : rng x1) (cr : Int) (hcr0 : 0 ≤ cr) (Q : St → Int → Prop) (E : Int → St → Int → Prop) (h : wp_X7_line σ a0 x1 cr Q E) : MetA X l yX7_line (ws_ yX7_line cX7_line 4 (none)) 10 cr.toNat (ZP X σ [jR X a0, jI x1]) (qVA (fun σ' cr => Kp ws_X7_line σ σ' ∧ Q σ' cr)) (fun x σ' cr => tg σ' x = 2 ∧ Kp ws_X7_line σ σ' ∧ E x σ' cr) := by
  have hcr : Cr cr.toNat 0 0 cr := by unfold Cr; omega
  refine z_startA (own := "CombTable$TableReader") (lv := [(0, jR X a0), (1, jI x1)]) (by decide) rfl (by simp [lv_args, jR_cat, jI_cat, jL_cat]) (by simp [lg_sl, jR_cat, jI_cat, jL_cat]) (fun p e s m below meth c ls _ K hex _ hw hl => ?_)
  have hk : Kp ws_X7_line σ σ := kp_rf σ
  refine lv_iload_n (pc := 0) K.x K.b dX7_line_0 rfl (lv_at hl 1 rfl) ?_
  by_cases hc1 : x1 = 0
  · have h := ite_t h hc1
    refine lv_tableIn (pc := 1) (tgt := 36) K.x K.b dX7_line_1 (by rw [rng_ofInt hx1]; omega) (by rw [rng_ofInt hx1]; omega) (off := 35) (by rw [rng_ofInt hx1, hc1]; rfl) (by decide) ?_
    refine z_aload_n (pc := 36) K dX7_line_36 rfl (lv_at hl 0 rfl) ?_
    refine zt_l (pc := 37) (maxL := 3) K hw (met_X7_fresh X l σ a0 ht0 _ _ h) (i_V (n := 0) (t := 6) (As := []) K hw (ob ht0) zq6 (by decide) q776 q778 qs4 (sg_of K q779) rfl rfl dX7_line_37) (locw K q779 q98) (zr_ok2A (by decide) (by decide)) hl.1 dX7_line_37 (Nat.le_of_ble_eq_true rfl) (cr_le hcr) (fun r2 σ5 _ _ hr3 hq4 hw6 => ?_) (fun x σx _ _ hx0 hqx hwx => ?_)
    rotate_left
    · obtain ⟨htx, hkx, h⟩ := hqx
      have h := h hkx
      exact za_out K hwx hcr hx0 ⟨htx, kp_trans wo_X7_line hk hkx (fun _ q => q) (by decide), h⟩ (no_cov hex 37)
    obtain ⟨hk7, h⟩ := hq4
    have h := h hk7
    have hk8 := kp_trans wo_X7_line hk hk7 (fun _ q => q) (by decide)
    have hg9 : tg σ5 a0 = 6 := kp_tg hk7 wo_X7_fresh ht0 (by decide)
    refine lv_lstore_n (pc := 40) (lv' := [(2, jL r2), (0, jR X a0), (1, jI x1)]) K.x K.b dX7_line_40 rfl hl (by decide) rfl (fun ls hl => ?_)
    refine z_aload_n (pc := 41) K dX7_line_41 rfl (lv_at hl 1 rfl) ?_
    refine z_get (pc := 42) (t := 6) (k := 8) K hw6 (ob (t := 6) hg9) zq6 (by decide) q378 (fun _ h => h) dX7_line_42 (zval_r kf_6_8) ?_
    obtain ⟨hn11, h⟩ := h
    have hg10 : tg σ5 (σ5 a0 8 0) = 4 := okR_nn hn11 (by decide) (by decide) (z_ok (t := 6) (r := 4) hw6 hg9 ⟨by decide, by decide⟩ kf_6_8 kt_6_8)
    refine z_getN (pc := 45) (t := 4) (k := 0) K hw6 (ob (t := 4) hg10) zq4 (by decide) q244 (fun _ h => h) dX7_line_45 (zval_p (κ := 5) kf_4_0) ?_
    refine z_aload_n (pc := 48) K dX7_line_48 rfl (lv_at hl 1 rfl) ?_
    refine z_get (pc := 49) (t := 6) (k := 8) K hw6 (ob (t := 6) hg9) zq6 (by decide) q378 (fun _ h => h) dX7_line_49 (zval_r kf_6_8) ?_
    refine z_getN (pc := 52) (t := 4) (k := 3) K hw6 (ob (t := 4) hg10) zq4 (by decide) q258 (fun _ h => h) dX7_line_52 (zval_i kf_4_3) ?_
    obtain ⟨hle12, h⟩ := h
    refine z_new (pc := 55) (t := 11) K hw6 (by decide) zq11 q793 q794 q108 (cr_fit hcr (u := 2) ⟨by decide, by decide⟩ hle12) dX7_line_55 (fun _ hw13 => ?_)
    have hcr14 := cr_new hcr (n := 2) (u := 2) ⟨by decide, by decide⟩ hle12
    obtain ⟨σ15, e16⟩ : ∃ z, z = nw σ5 11 := ⟨_, rfl⟩
    have h := h σ15 e16
    have hke17 : Ke σ5 σ15 := ke_nw hw6 e16
    have hz18 : tg σ (nx σ5) = 0 := z0_kp hk8 wo_X7_line hw6.1.fresh
    have hw13 := wc_e e16 hw13
    have hk19 := kp_ke hk8 wo_X7_line hke17
    have hg20 : tg σ15 a0 = 6 := ke_tg hke17 hg9 (by decide)
    have hg21 : tg σ15 (σ5 a0 8 0) = 4 := ke_tg hke17 hg10 (by decide)
    rw [show σ5 (σ5 a0 8 0) 0 (-1) = σ15 (σ5 a0 8 0) 0 (-1) from ke_ptr hke17 hg10 (by decide)]
    have hg22 : tg σ15 (nx σ5) = (-11) := tg_nw e16
    refine lv_dup (pc := 58) K.x K.b dX7_line_58 (jR_cat _ _) ?_
    refine lv_lload_n (pc := 59) K.x K.b dX7_line_59 rfl (lv_at hl 0 rfl) ?_
    refine z_aload_n (pc := 60) K dX7_line_60 rfl (lv_at hl 1 rfl) ?_
    refine z_iconst (pc := 61) K dX7_line_61 ?_
    refine z_bipush (pc := 62) K dX7_line_62 (by decide) ?_
    refine zt_i8 (pc := 64) (maxL := 4) K hw13 (met_X6_number_6 X l σ15 a0 1 6 hg20 ⟨by decide, by decide⟩ ⟨by decide, by decide⟩ _ _ h) (i_VU (n := 2) (t := 6) (As := [jI 1, jI 6]) (owner := "CombTable$Reader") K hw13 (ob hg20) zq6 (by decide) (by decide) q795 q796 q799 q798 (dcl_of K q799 q800) rfl rfl dX7_line_64) (locw K q800 q97) (zr_ok2A (by decide) (by decide)) hl.1 dX7_line_64 (by simp [jR_cat, jI_cat, jL_cat]) (cr_le hcr14) (fun r23 σ26 _ _ hr24 hq25 hw27 => ?_) (fun x σx _ _ hx0 hqx hwx => ?_)
    rotate_left
    · obtain ⟨htx, hkx, h⟩ := hqx
      have h := h hkx
      exact za_out K hwx hcr14 hx0 ⟨htx, kp_trans wo_X7_line hk19 hkx (fun _ q => q) (by decide), h⟩ (no_cov hex 64)
    obtain ⟨hk28, h⟩ := hq25
    have h := h hk28
    have hk29 := kp_trans wo_X7_line hk19 hk28 (fun _ q => q) (by decide)
    have hg30 : tg σ26 a0 = 6 := kp_tg hk28 wo_X6_number hg20 (by decide)
    have hg31 : tg σ26 (σ5 a0 8 0) = 4 := kp_tg hk28 wo_X6_number hg21 (by decide)
    have hg32 : tg σ26 (nx σ5) = -11 := kp_tg hk28 wo_X6_number hg22 (by decide)
    rw [show σ15 (σ5 a0 8 0) 0 (-1) = σ26 (σ5 a0 8 0) 0 (-1) from ptr_k hk28 hg21 (by decide)]
    refine zc_v (pc := 67) (maxL := 4) K hw27 (met_X13_init X l σ26 (nx σ5) r2 r23 hg32 hr3 hr24 _ h) (i_I (n := 2) (As := [jL r2, jI r23]) K (hw27.1.pos (by rw [hg32]; decide)).1 (by decide) rfl q802 q803 q804 rfl rfl dX7_line_67) (locw K q804 q108) (zr_ok2A (by decide) (by decide)) hl.1 dX7_line_67 (Nat.le_of_ble_eq_true rfl) (cr_le hcr14) (fun σ36 _ _ hq35 hw37 => ?_)
    obtain ⟨hk38, hg39, h⟩ := hq35
    have h := h hk38 hg39
    have hk40 := kp_ki hk29 wo_X7_line hk38 hz18
    have hg41 : tg σ36 a0 = 6 := ki_tg hk38 hg30 (by decide) hg32 (by decide)
    have hg42 : tg σ36 (σ5 a0 8 0) = 4 := ki_tg hk38 hg31 (by decide) hg32 (by decide)
    have hg43 : tg σ36 (nx σ5) = 11 := hg39
    rw [show σ26 (σ5 a0 8 0) 0 (-1) = σ36 (σ5 a0 8 0) 0 (-1) from ki_ptr hk38 hg31 (by decide) hg32 (by decide)]
    obtain ⟨hj44, h⟩ := h
    refine z_aastT (pc := 70) (t := 4) (κ := 5) (r := 11) K hw37 hg42 ⟨by decide, by decide⟩ kf_4_0 ⟨by decide, by decide⟩ kt_4_0 kl_4_0 hj44 (by decide) ⟨by decide, by decide⟩ hg43 zq11 rfl dX7_line_70 (fun _ _ hw45 => ?_)
    obtain ⟨σ46, e47⟩ : ∃ z, z = st σ36 (σ5 a0 8 0) 0 (σ5 (σ5 a0 8 0) 3 0) (nx σ5) := ⟨_, rfl⟩
    have h := h σ46 e47
    have hw45 := wc_e e47 hw45
    have hk48 := kp_e e47 hk40 wo_X7_line hj44.1 hg42 (t := 4) (by decide)
    have hg49 : tg σ46 a0 = 6 := (tg_e e47 (by decide)).trans hg41
    refine z_aload_n (pc := 71) K dX7_line_71 rfl (lv_at hl 1 rfl) ?_
    refine z_get (pc := 72) (t := 6) (k := 8) K hw45 (ob (t := 6) hg49) zq6 (by decide) q378 (fun _ h => h) dX7_line_72 (zval_r kf_6_8) ?_
    refine lv_dup (pc := 75) K.x K.b dX7_line_75 (jR_cat _ _) ?_
    obtain ⟨hn51, h⟩ := h
    have hg50 : tg σ46 (σ46 a0 8 0) = 4 := okR_nn hn51 (by decide) (by decide) (z_ok (t := 6) (r := 4) hw45 hg49 ⟨by decide, by decide⟩ kf_6_8 kt_6_8)
    refine z_getN (pc := 76) (t := 4) (k := 3) K hw45 (ob (t := 4) hg50) zq4 (by decide) q258 (fun _ h => h) dX7_line_76 (zval_i kf_4_3) ?_
    refine z_iconst (pc := 79) K dX7_line_79 ?_
    refine z_iadd (pc := 80) K dX7_line_80 ?_
    obtain ⟨hr52, h⟩ := h
    refine z_putiN (pc := 81) (t := 4) 3 K hw45 (ob hg50) zq4 (by decide) kf_4_3 zt_4_3 hr52 q258 (fun _ h => h) rfl dX7_line_81 (fun _ _ hw53 => ?_)
    obtain ⟨σ54, e55⟩ : ∃ z, z = st σ46 (σ46 a0 8 0) 3 0 ((σ46 (σ46 a0 8 0) 3 0) + 1) := ⟨_, rfl⟩
    have h := h σ54 e55
    have hw53 := wc_e e55 hw53
    have hk56 := kp_e e55 hk48 wo_X7_line (by decide) hg50 (t := 4) (by decide)
    have hg57 : tg σ54 a0 = 6 := (tg_e e55 (by decide)).trans hg49
    refine z_goto (pc := 84) (tgt := 241) K dX7_line_84 (by decide) ?_
    exact za_vret (pc := 241) K hw53 hcr14 ⟨hk56, h⟩ dX7_line_241
  · have h := ite_f h hc1
    by_cases hc58 : x1 = 1
    · have h := ite_t h hc58
      refine lv_tableIn (pc := 1) (tgt := 87) K.x K.b dX7_line_1 (by rw [rng_ofInt hx1]; omega) (by rw [rng_ofInt hx1]; omega) (off := 86) (by rw [rng_ofInt hx1, hc58]; rfl) (by decide) ?_
      refine z_aload_n (pc := 87) K dX7_line_87 rfl (lv_at hl 0 rfl) ?_
      refine zat_v (pc := 88) (maxL := 3) K hw (met_X7_kind X l σ a0 ht0 cr hcr.2.2 _ _ h) (i_V (n := 0) (t := 6) (As := []) K hw (ob ht0) zq6 (by decide) q819 q821 qs5 (sg_of K q822) rfl rfl dX7_line_88) (locw K q822 q98) (zr_ok2A (by decide) (by decide)) hl.1 dX7_line_88 (by decide) hcr (Int.toNat_of_nonneg hcr.2.2) ⟨Nat.le_refl _, Nat.le_refl _⟩ (fun σ62 _ _ _ _ cr64 hq61 hw63 hcr65 => ?_) (fun x σx _ _ _ _ crx hx0 hqx hwx hcx => ?_)
      rotate_left
      · obtain ⟨htx, hkx, h⟩ := hqx
        have h := h hkx
        exact za_out K hwx hcx hx0 ⟨htx, kp_trans wo_X7_line hk hkx (fun _ q => q) (by decide), h⟩ (no_cov hex 88)
      obtain ⟨hk66, h⟩ := hq61
      have h := h hk66
      have hk67 := kp_trans wo_X7_line hk hk66 (fun _ q => q) (by decide)
      have hg68 : tg σ62 a0 = 6 := kp_tg hk66 wo_X7_kind ht0 (by decide)
      refine z_goto (pc := 91) (tgt := 241) K dX7_line_91 (by decide) ?_
      exact za_vret (pc := 241) K hw63 hcr65 ⟨hk67, h⟩ dX7_line_241
    · have h := ite_f h hc58
      by_cases hc69 : x1 = 2
      · have h := ite_t h hc69
        refine lv_tableIn (pc := 1) (tgt := 94) K.x K.b dX7_line_1 (by rw [rng_ofInt hx1]; omega) (by rw [rng_ofInt hx1]; omega) (off := 93) (by rw [rng_ofInt hx1, hc69]; rfl) (by decide) ?_
        refine z_aload_n (pc := 94) K dX7_line_94 rfl (lv_at hl 0 rfl) ?_
        refine z_aload_n (pc := 95) K dX7_line_95 rfl (lv_at hl 0 rfl) ?_
        refine z_get (pc := 96) (t := 6) (k := 8) K hw (ob (t := 6) ht0) zq6 (by decide) q378 (fun _ h => h) dX7_line_96 (zval_r kf_6_8) ?_
        obtain ⟨hn71, h⟩ := h
        have hg70 : tg σ (σ a0 8 0) = 4 := okR_nn hn71 (by decide) (by decide) (z_ok (t := 6) (r := 4) hw ht0 ⟨by decide, by decide⟩ kf_6_8 kt_6_8)
        refine z_getN (pc := 99) (t := 4) (k := 1) K hw (ob (t := 4) hg70) zq4 (by decide) q250 (fun _ h => h) dX7_line_99 (zval_p (κ := 6) kf_4_1) ?_
        refine z_aload_n (pc := 102) K dX7_line_102 rfl (lv_at hl 0 rfl) ?_
        refine z_get (pc := 103) (t := 6) (k := 8) K hw (ob (t := 6) ht0) zq6 (by decide) q378 (fun _ h => h) dX7_line_103 (zval_r kf_6_8) ?_
        refine z_getN (pc := 106) (t := 4) (k := 4) K hw (ob (t := 4) hg70) zq4 (by decide) q263 (fun _ h => h) dX7_line_106 (zval_i kf_4_4) ?_
        refine zt_i (pc := 109) (maxL := 4) K hw (met_X6_known_6_1 X l σ a0 (σ a0 8 0) 1 10 (σ (σ a0 8 0) 4 0) ht0 hg70 kf_4_1 kl_4_1 kt_4_1 (z_rI hw (ob (t := 4) hg70) kf_4_4) _ _ h) (i_VU (n := 2) (t := 6) (As := [jR X (σ (σ a0 8 0) 1 (-1)), jI (σ (σ a0 8 0) 4 0)]) (owner := "CombTable$Reader") K hw (ob ht0) zq6 (by decide) (by decide) q857 q858 q861 q860 (dcl_of K q861 q862) rfl rfl dX7_line_109) (locw K q862 q97) (zr_ok2A (by decide) (by decide)) hl.1 dX7_line_109 (Nat.le_of_ble_eq_true rfl) (cr_le hcr) (fun r72 σ75 _ _ hr73 hq74 hw76 => ?_) (fun x σx _ _ hx0 hqx hwx => ?_)
        rotate_left
        · obtain ⟨htx, hkx, h⟩ := hqx
          have h := h hkx
          exact za_out K hwx hcr hx0 ⟨htx, kp_trans wo_X7_line hk hkx (fun _ q => q) (by decide), h⟩ (no_cov hex 109)
        obtain ⟨hk77, h⟩ := hq74
        have h := h hk77
        have hk78 := kp_trans wo_X7_line hk hk77 (fun _ q => q) (by decide)
        have hg79 : tg σ75 a0 = 6 := kp_tg hk77 wo_X6_known ht0 (by decide)
        refine lv_istore_n (pc := 112) (lv' := [(2, jI r72), (0, jR X a0), (1, jI x1)]) K.x K.b dX7_line_112 rfl hl (by decide) rfl (fun ls hl => ?_)
        refine z_aload_n (pc := 113) K dX7_line_113 rfl (lv_at hl 1 rfl) ?_
        refine z_aload_n (pc := 114) K dX7_line_114 rfl (lv_at hl 1 rfl) ?_
        refine zr_z (pc := 115) (maxL := 1) K hw76 (met_X6_isName_6 X l σ75 a0 hg79 _ h) (i_VU (n := 0) (t := 6) (As := []) (owner := "CombTable$Reader") K hw76 (ob hg79) zq6 (by decide) (by decide) q780 q781 q784 q783 (dcl_of K q784 q785) rfl rfl dX7_line_115) (locw K q785 q97) (zr_ok2A (by decide) (by decide)) hl.1 dX7_line_115 (Nat.le_of_ble_eq_true rfl) (cr_le hcr) (fun r80 _ _ hr81 h hw84 => ?_)
        refine z_iconst (pc := 118) K dX7_line_118 ?_
        refine zt_v (pc := 119) (maxL := 3) K hw84 (met_X6_must_6 X l σ75 a0 r80 1 hg79 hr81 ⟨by decide, by decide⟩ _ _ h) (i_VU (n := 2) (t := 6) (As := [jI r80, jI 1]) (owner := "CombTable$Reader") K hw84 (ob hg79) zq6 (by decide) (by decide) q754 q755 q758 q757 (dcl_of K q758 q759) rfl rfl dX7_line_119) (locw K q759 q97) (zr_ok2A (by decide) (by decide)) hl.1 dX7_line_119 (Nat.le_of_ble_eq_true rfl) (cr_le hcr) (fun σ88 _ _ hq87 hw89 => ?_) (fun x σx _ _ hx0 hqx hwx => ?_)
        rotate_left
        · obtain ⟨htx, hkx, h⟩ := hqx
          have h := h hkx
          exact za_out K hwx hcr hx0 ⟨htx, kp_trans wo_X7_line hk78 hkx (fun _ q => q) (by decide), h⟩ (no_cov hex 119)
        obtain ⟨hk90, h⟩ := hq87
        have h := h hk90
        have hk91 := kp_trans wo_X7_line hk78 hk90 (fun _ q => q) (by decide)
        have hg92 : tg σ88 a0 = 6 := kp_tg hk90 wo_X6_must hg79 (by decide)
        refine z_aload_n (pc := 122) K dX7_line_122 rfl (lv_at hl 1 rfl) ?_
        refine z_aload_n (pc := 123) K dX7_line_123 rfl (lv_at hl 1 rfl) ?_
        refine z_get (pc := 124) (t := 6) (k := 8) K hw89 (ob (t := 6) hg92) zq6 (by decide) q378 (fun _ h => h) dX7_line_124 (zval_r kf_6_8) ?_
        obtain ⟨hn94, h⟩ := h
        have hg93 : tg σ88 (σ88 a0 8 0) = 4 := okR_nn hn94 (by decide) (by decide) (z_ok (t := 6) (r := 4) hw89 hg92 ⟨by decide, by decide⟩ kf_6_8 kt_6_8)
        refine z_getN (pc := 127) (t := 4) (k := 1) K hw89 (ob (t := 4) hg93) zq4 (by decide) q250 (fun _ h => h) dX7_line_127 (zval_p (κ := 6) kf_4_1) ?_
        refine z_aload_n (pc := 130) K dX7_line_130 rfl (lv_at hl 1 rfl) ?_
        refine z_get (pc := 131) (t := 6) (k := 8) K hw89 (ob (t := 6) hg92) zq6 (by decide) q378 (fun _ h => h) dX7_line_131 (zval_r kf_6_8) ?_
        refine z_getN (pc := 134) (t := 4) (k := 4) K hw89 (ob (t := 4) hg93) zq4 (by decide) q263 (fun _ h => h) dX7_line_134 (zval_i kf_4_4) ?_
        refine zr_i (pc := 137) (maxL := 4) K hw89 (met_X6_of_6_1 X l σ88 a0 (σ88 a0 8 0) 1 10 (σ88 (σ88 a0 8 0) 4 0) hg92 hg93 kf_4_1 kl_4_1 kt_4_1 (z_rI hw89 (ob (t := 4) hg93) kf_4_4) _ h) (i_VU (n := 2) (t := 6) (As := [jR X (σ88 (σ88 a0 8 0) 1 (-1)), jI (σ88 (σ88 a0 8 0) 4 0)]) (owner := "CombTable$Reader") K hw89 (ob hg92) zq6 (by decide) (by decide) q787 q788 q791 q790 (dcl_of K q791 q792) rfl rfl dX7_line_137) (locw K q792 q97) (zr_ok2A (by decide) (by decide)) hl.1 dX7_line_137 (Nat.le_of_ble_eq_true rfl) (cr_le hcr) (fun r95 _ _ hr96 h hw99 => ?_)
        refine lv_istore_n (pc := 140) (lv' := [(3, jI r95), (2, jI r72), (0, jR X a0), (1, jI x1)]) K.x K.b dX7_line_140 rfl hl (by decide) rfl (fun ls hl => ?_)
        refine z_aload_n (pc := 141) K dX7_line_141 rfl (lv_at hl 2 rfl) ?_
        refine lv_iload_n (pc := 142) K.x K.b dX7_line_142 rfl (lv_at hl 0 rfl) ?_
        refine z_iconst (pc := 143) K dX7_line_143 ?_
        refine z_icmp_eq (pc := 144) (tgt := 170) K hr96 ⟨by decide, by decide⟩ dX7_line_144 (by decide) (fun hc100 => ?_) (fun hc100 => ?_)
        · have h := ite_t h hc100
          exact wk_X7_line_b170 a0 x1 Q E σ K hex hx1 σ88 cr r72 r95 _ _ _ _ _ h hw99 hk91 hcr hg92 hr73 hr96 (lv_sub hl [2, 1, 0] rfl)
        · have h := ite_f h hc100
          refine z_aload_n (pc := 147) K dX7_line_147 rfl (lv_at hl 2 rfl) ?_
          refine z_get (pc := 148) (t := 6) (k := 8) K hw99 (ob (t := 6) hg92) zq6 (by decide) q378 (fun _ h => h) dX7_line_148 (zval_r kf_6_8) ?_
          refine z_getN (pc := 151) (t := 4) (k := 1) K hw99 (ob (t := 4) hg93) zq4 (by decide) q250 (fun _ h => h) dX7_line_151 (zval_p (κ := 6) kf_4_1) ?_
          refine lv_iload_n (pc := 154) K.x K.b dX7_line_154 rfl (lv_at hl 1 rfl) ?_
          obtain ⟨hj101, h⟩ := h
          refine z_aald (pc := 155) (t := 4) (κ := 6) K hw99 hg93 ⟨by decide, by decide⟩ kf_4_1 ⟨by decide, by decide⟩ kl_4_1 hj101 (by decide) dX7_line_155 ?_
          obtain ⟨hn103, h⟩ := h
          have hg102 : tg σ88 (σ88 (σ88 a0 8 0) 1 r72) = 12 := okR_nn hn103 (by decide) (by decide) (z_el (t := 4) (κ := 6) (r := 12) hw99 hg93 ⟨by decide, by decide⟩ kf_4_1 (by decide) kt_4_1 kl_4_1 hj101)
          refine z_getN (pc := 156) (t := 12) (k := 4) K hw99 (ob (t := 12) hg102) zq12 (by decide) q838 (fun _ h => h) dX7_line_156 (zval_i kf_12_4) ?_
          refine lv_iload_n (pc := 159) K.x K.b dX7_line_159 rfl (lv_at hl 0 rfl) ?_
          refine zr_z (pc := 160) (maxL := 2) K hw99 (met_X1_has X l σ88 (σ88 (σ88 (σ88 a0 8 0) 1 r72) 4 0) r95 (z_rI hw99 (ob (t := 12) hg102) kf_12_4) hr96 _ h) (i_SN (n := 2) (As := [jI (σ88 (σ88 (σ88 a0 8 0) 1 r72) 4 0), jI r95]) K (by decide) q865 q866 q90 (sg_of K q867) rfl rfl dX7_line_160) (locw K q867 q90) (zr_ok2A (by decide) (by decide)) hl.1 dX7_line_160 (Nat.le_of_ble_eq_true rfl) (cr_le hcr) (fun r104 _ _ hr105 h hw108 => ?_)
          refine z_if_ne (pc := 163) (tgt := 170) K (b01r hr105) dX7_line_163 (by decide) (fun hc109 => ?_) (fun hc109 => ?_)
          · have h := ite_t h hc109
            refine z_iconst (pc := 166) K dX7_line_166 ?_
            refine z_goto (pc := 167) (tgt := 171) K dX7_line_167 (by decide) ?_
            exact wk_X7_line_b171 a0 x1 Q E σ K hex hx1 σ88 cr r72 r95 1 _ _ _ _ _ h hw108 hk91 hcr hg92 hr73 hr96 ⟨by decide, by decide⟩ (lv_sub hl [2, 1, 0] rfl)
          · have h := ite_f h hc109
            exact wk_X7_line_b170 a0 x1 Q E σ K hex hx1 σ88 cr r72 r95 _ _ _ _ _ h hw108 hk91 hcr hg92 hr73 hr96 (lv_sub hl [2, 1, 0] rfl)
      · have h := ite_f h hc69
        by_cases hc110 : x1 = 3
        · have h := ite_t h hc110
          refine lv_tableIn (pc := 1) (tgt := 215) K.x K.b dX7_line_1 (by rw [rng_ofInt hx1]; omega) (by rw [rng_ofInt hx1]; omega) (off := 214) (by rw [rng_ofInt hx1, hc110]; rfl) (by decide) ?_
          refine z_aload_n (pc := 215) K dX7_line_215 rfl (lv_at hl 0 rfl) ?_
          refine zt_v (pc := 216) (maxL := 1) K hw (met_X7_comb X l σ a0 ht0 _ _ h) (i_V (n := 0) (t := 6) (As := []) K hw (ob ht0) zq6 (by decide) q868 q870 qs6 (sg_of K q871) rfl rfl dX7_line_216) (locw K q871 q98) (zr_ok2A (by decide) (by decide)) hl.1 dX7_line_216 (Nat.le_of_ble_eq_true rfl) (cr_le hcr) (fun σ114 _ _ hq113 hw115 => ?_) (fun x σx _ _ hx0 hqx hwx => ?_)
          rotate_left
          · obtain ⟨htx, hkx, h⟩ := hqx
            have h := h hkx
            exact za_out K hwx hcr hx0 ⟨htx, kp_trans wo_X7_line hk hkx (fun _ q => q) (by decide), h⟩ (no_cov hex 216)
          obtain ⟨hk116, h⟩ := hq113
          have h := h hk116
          have hk117 := kp_trans wo_X7_line hk hk116 (fun _ q => q) (by decide)
          have hg118 : tg σ114 a0 = 6 := kp_tg hk116 wo_X7_comb ht0 (by decide)
          refine z_goto (pc := 219) (tgt := 241) K dX7_line_219 (by decide) ?_
          exact za_vret (pc := 241) K hw115 hcr ⟨hk117, h⟩ dX7_line_241
        · have h := ite_f h hc110
          by_cases hc119 : x1 = 4
          · have h := ite_t h hc119
            refine lv_tableIn (pc := 1) (tgt := 222) K.x K.b dX7_line_1 (by rw [rng_ofInt hx1]; omega) (by rw [rng_ofInt hx1]; omega) (off := 221) (by rw [rng_ofInt hx1, hc119]; rfl) (by decide) ?_
            refine z_aload_n (pc := 222) K dX7_line_222 rfl (lv_at hl 0 rfl) ?_
            refine z_get (pc := 223) (t := 6) (k := 8) K hw (ob (t := 6) ht0) zq6 (by decide) q378 (fun _ h => h) dX7_line_223 (zval_r kf_6_8) ?_
            refine z_iconst (pc := 226) K dX7_line_226 ?_
            obtain ⟨hn121, h⟩ := h
            have hg120 : tg σ (σ a0 8 0) = 4 := okR_nn hn121 (by decide) (by decide) (z_ok (t := 6) (r := 4) hw ht0 ⟨by decide, by decide⟩ kf_6_8 kt_6_8)
            refine z_putzN (pc := 227) (t := 4) 7 K hw (ob hg120) zq4 (by decide) kf_4_7 zt_4_7 ⟨by decide, by decide⟩ q274 (fun _ h => h) rfl dX7_line_227 (fun _ _ hw122 => ?_)
            obtain ⟨σ123, e124⟩ : ∃ z, z = st σ (σ a0 8 0) 7 0 1 := ⟨_, rfl⟩
            have h := h σ123 e124
            have hw122 := wc_e e124 hw122
            have hk125 := kp_e e124 hk wo_X7_line (by decide) hg120 (t := 4) (by decide)
            have hg126 : tg σ123 a0 = 6 := (tg_e e124 (by decide)).trans ht0
            refine z_goto (pc := 230) (tgt := 241) K dX7_line_230 (by decide) ?_
            exact za_vret (pc := 241) K hw122 hcr ⟨hk125, h⟩ dX7_line_241
          · have h := ite_f h hc119
            refine lv_tableOut (pc := 1) (tgt := 233) K.x K.b dX7_line_1 (by rw [rng_ofInt hx1]; omega) (by decide) ?_
            refine z_aload_n (pc := 233) K dX7_line_233 rfl (lv_at hl 0 rfl) ?_
            refine z_get (pc := 234) (t := 6) (k := 8) K hw (ob (t := 6) ht0) zq6 (by decide) q378 (fun _ h => h) dX7_line_234 (zval_r kf_6_8) ?_
            refine z_iconst (pc := 237) K dX7_line_237 ?_
            obtain ⟨hn128, h⟩ := h
            have hg127 : tg σ (σ a0 8 0) = 4 := okR_nn hn128 (by decide) (by decide) (z_ok (t := 6) (r := 4) hw ht0 ⟨by decide, by decide⟩ kf_6_8 kt_6_8)
            refine z_putzN (pc := 238) (t := 4) 8 K hw (ob hg127) zq4 (by decide) kf_4_8 zt_4_8 ⟨by decide, by decide⟩ q276 (fun _ h => h) rfl dX7_line_238 (fun _ _ hw129 => ?_)
            obtain ⟨σ130, e131⟩ : ∃ z, z = st σ (σ a0 8 0) 8 0 1 := ⟨_, rfl⟩
            have h := h σ130 e131
            have hw129 := wc_e e131 hw129
            have hk132 := kp_e e131 hk wo_X7_line (by decide) hg127 (t := 4) (by decide)
            have hg133 : tg σ130 a0 = 6 := (tg_e e131 (by decide)).trans ht0
            exact za_vret (pc := 241) K hw129 hcr ⟨hk132, h⟩ dX7_line_241
def ws_X7_read : List (Int × Nat) := [(2, 6), (2, 7), (4, 0), (4, 1), (4, 2), (4, 3), (4, 4), (4, 5), (4, 6), (4, 7), (4, 8), (6, 1), (6, 2), (6, 3), (6, 4), (6, 5), (6, 6), (6, 8), (6, 9), (7, 1), (7, 2), (7, 3), (7, 4), (7, 5), (7, 6), (8, 1), (8, 2), (8, 3), (8, 4), (8, 5), (8, 6), (9, 1), (9, 2), (9, 3), (9, 4), (9, 5), (9, 6), (12, 1), (12, 2), (12, 3), (12, 4)]
theorem wo_X7_read : wsOk ws_X7_read = true := rfl
def wp_X7_read_b190 (a0 : Int) (o1 : Int) (Q : Int → St → Int → Prop) (E : Int → St → Int → Prop) (σ0 : St) (L16 : St → Int → Int → Prop) (σ : St) (cr : Int) (v2 : Int) (v3 : Int) (s1 : Int) : Prop :=
  wp_X6_must σ a0 s1 4 (fun σ4 => Kp ws_X6_must σ σ4 → wp_X6_next σ4 a0 (fun σ12 => Kp ws_X6_next σ4 σ12 → wp_X7_line σ12 a0 v3 cr (fun σ20 cr22 => Kp ws_X7_line σ12 σ20 → wp_X6_sign σ20 a0 59 (fun σ30 => Kp ws_X6_sign σ20 σ30 → rng (v2 + 1) ∧ (L16 σ30 cr22 (v2 + 1))) (fun x σx => Kp ws_X6_sign σ20 σx → E x σx cr22)) (fun x σx crx => Kp ws_X7_line σ12 σx → E x σx crx))) (fun x σx => Kp ws_X6_must σ σx → E x σx cr)
def wp_X7_read_b185 (a0 : Int) (o1 : Int) (Q : Int → St → Int → Prop) (E : Int → St → Int → Prop) (σ0 : St) (L16 : St → Int → Int → Prop) (σ : St) (cr : Int) (v2 : Int) (v3 : Int) : Prop :=
  (wp_X7_read_b190 a0 o1 Q E σ0 L16 σ cr v2 v3 1)
def wp_X7_read_b114 (a0 : Int) (o1 : Int) (Q : Int → St → Int → Prop) (E : Int → St → Int → Prop) (σ0 : St) (L16 : St → Int → Int → Prop) (σ : St) (cr : Int) (v2 : Int) (v3 : Int) (s1 : Int) : Prop :=
  wp_X6_must σ a0 s1 3 (fun σ4 => Kp ws_X6_must σ σ4 → (if v3 = 0 then
    (σ4 a0 8 0) ≠ -1 ∧ (if σ4 (σ4 a0 8 0) 3 0 < 8 then
      (wp_X7_read_b190 a0 o1 Q E σ0 L16 σ4 cr v2 v3 1)
      else
      (wp_X7_read_b190 a0 o1 Q E σ0 L16 σ4 cr v2 v3 0))
    else
    (if v3 = 1 then
      (σ4 a0 8 0) ≠ -1 ∧ (if σ4 (σ4 a0 8 0) 4 0 < 10 then
        (wp_X7_read_b190 a0 o1 Q E σ0 L16 σ4 cr v2 v3 1)
        else
        (wp_X7_read_b190 a0 o1 Q E σ0 L16 σ4 cr v2 v3 0))
      else
      (if v3 = 2 then
        (σ4 a0 8 0) ≠ -1 ∧ (if σ4 (σ4 a0 8 0) 5 0 < 40 then
          (wp_X7_read_b185 a0 o1 Q E σ0 L16 σ4 cr v2 v3)
          else
          (wp_X7_read_b190 a0 o1 Q E σ0 L16 σ4 cr v2 v3 0))
        else
        (wp_X7_read_b185 a0 o1 Q E σ0 L16 σ4 cr v2 v3))))) (fun x σx => Kp ws_X6_must σ σx → E x σx cr)
def wp_X7_read_b109 (a0 : Int) (o1 : Int) (Q : Int → St → Int → Prop) (E : Int → St → Int → Prop) (σ0 : St) (L16 : St → Int → Int → Prop) (σ : St) (cr : Int) (v2 : Int) (v3 : Int) : Prop :=
  (wp_X7_read_b114 a0 o1 Q E σ0 L16 σ cr v2 v3 1)
def wp_X7_read_b46 (a0 : Int) (o1 : Int) (Q : Int → St → Int → Prop) (E : Int → St → Int → Prop) (σ0 : St) (L16 : St → Int → Int → Prop) (σ : St) (cr : Int) (v2 : Int) (v3 : Int) (s1 : Int) : Prop :=
  wp_X6_must σ a0 s1 1 (fun σ4 => Kp ws_X6_must σ σ4 → (if v3 = 3 then
    (if σ4 a0 9 0 = 0 then
      (wp_X7_read_b114 a0 o1 Q E σ0 L16 σ4 cr v2 v3 1)
      else
      (wp_X7_read_b114 a0 o1 Q E σ0 L16 σ4 cr v2 v3 0))
    else
    (if v3 = 4 then
      (σ4 a0 8 0) ≠ -1 ∧ (if σ4 (σ4 a0 8 0) 7 0 = 0 then
        (wp_X7_read_b114 a0 o1 Q E σ0 L16 σ4 cr v2 v3 1)
        else
        (wp_X7_read_b114 a0 o1 Q E σ0 L16 σ4 cr v2 v3 0))
      else
      (if v3 = 5 then
        (σ4 a0 8 0) ≠ -1 ∧ (if σ4 (σ4 a0 8 0) 8 0 = 0 then
          (wp_X7_read_b109 a0 o1 Q E σ0 L16 σ4 cr v2 v3)
          else
          (wp_X7_read_b114 a0 o1 Q E σ0 L16 σ4 cr v2 v3 0))
        else
        (wp_X7_read_b109 a0 o1 Q E σ0 L16 σ4 cr v2 v3))))) (fun x σx => Kp ws_X6_must σ σx → E x σx cr)
def lp_X7_read_16 (a0 : Int) (o1 : Int) (Q : Int → St → Int → Prop) (E : Int → St → Int → Prop) (σ0 : St) : Nat → St → Int → Int → Prop
  | 0 => fun _ _ _ => False
  | n + 1 => fun σ cr v2 => 
    Kp ws_X7_read σ0 σ → (if σ a0 3 0 = 0 then
      Q v2 σ cr
      else
      wp_X6_find σ a0 (σ a0 10 0) 5 6 (fun r3 => (if r3 = (-1) then
        (wp_X7_read_b46 a0 o1 Q E σ0 (lp_X7_read_16 a0 o1 Q E σ0 n) σ cr v2 r3 0)
        else
        (wp_X7_read_b46 a0 o1 Q E σ0 (lp_X7_read_16 a0 o1 Q E σ0 n) σ cr v2 r3 1))))
def wp_X7_read (σ : St) (a0 : Int) (o1 : Int) (cr : Int) (Q : Int → St → Int → Prop) (E : Int → St → Int → Prop) : Prop :=
  ∀ σ2 : St, σ2 = st σ a0 8 0 o1 → ∀ σ8 : St, σ8 = st σ2 a0 9 0 0 → wp_X6_begin σ8 a0 (fun σ16 => Kp ws_X6_begin σ8 σ16 → (∃ kk, lp_X7_read_16 a0 o1 Q E σ kk σ16 cr 0))
set_option maxHeartbeats 4000000 in
theorem wk_X7_read_b190 {X : Cxt} {p : Program} {l : Launch} {e : Env} {s : State} {m : MethodId} {args : Array Value} {below : List Frame} {meth : Method} {c : Code} {C0 : Nat} (a0 : Int) (o1 : Int) (Q : Int → St → Int → Prop) (E : Int → St → Int → Prop) (σ0 : St) (K : MCx X p s m args meth c cX7_read 4 "CombTable$TableReader" (some .int)) (hex : c.exceptionTable.isEmpty = true) (L16 : St → Int → Int → Prop) (hL16 : ∀ (σ : St) (cr : Int) (v2 : Int) (cells slots : Nat) (H : Heap) (locs : List Loc) (ls : Array Slot), L16 σ cr v2 → Wc X σ s.heap H locs → Kp ws_X7_read σ0 σ → Cr C0 cells slots cr → tg σ a0 = 6 → rng v2 → lv_has ls 4 [(0, jR X a0), (2, jI v2)] → W p l e (zrm 11 C0 C0) s m args below meth c H locs cells slots (MQA X below C0 (qIA (fun r σ' cr => Kp ws_X7_read σ0 σ' ∧ Q r σ' cr)) (fun x σ' cr => tg σ' x = 2 ∧ Kp ws_X7_read σ0 σ' ∧ E x σ' cr) args s) (F0 m 16 ls [])) : ∀ (σ : St) (cr : Int) (v2 : Int) (v3 : Int) (s1 : Int) (cells slots : Nat) (H : Heap) (locs : List Loc) (ls : Array Slot), wp_X7_read_b190 a0 o1 Q E σ0 L16 σ cr v2 v3 s1 → Wc X σ s.heap H locs → Kp ws_X7_read σ0 σ → Cr C0 cells slots cr → tg σ a0 = 6 → rng v2 → rng v3 → (0 ≤ s1 ∧ s1 ≤ 1) → lv_has ls 4 [(0, jR X a0), (2, jI v2), (3, jI v3)] → W p l e (zrm 11 C0 C0) s m args below meth c H locs cells slots (MQA X below C0 (qIA (fun r σ' cr => Kp ws_X7_read σ0 σ' ∧ Q r σ' cr)) (fun x σ' cr => tg σ' x = 2 ∧ Kp ws_X7_read σ0 σ' ∧ E x σ' cr) args s) (F0 m 190 ls [jI s1, jR X a0]) := by
  intro σ cr v2 v3 s1 cells slots H locs ls h hw hk hcr ht0 hv2 hv3 hs1 hl
  refine z_iconst (pc := 190) K dX7_read_190 ?_
  refine zt_v (pc := 191) (maxL := 3) K hw (met_X6_must_6 X l σ a0 s1 4 ht0 hs1 ⟨by decide, by decide⟩ _ _ h) (i_VU (n := 2) (t := 6) (As := [jI s1, jI 4]) (owner := "CombTable$Reader") K hw (ob ht0) zq6 (by decide) (by decide) q754 q755 q758 q757 (dcl_of K q758 q759) rfl rfl dX7_read_191) (locw K q759 q97) (zr_ok2A (by decide) (by decide)) hl.1 dX7_read_191 (Nat.le_of_ble_eq_true rfl) (cr_le hcr) (fun σ4 _ _ hq3 hw5 => ?_) (fun x σx _ _ hx0 hqx hwx => ?_)
  rotate_left
  · obtain ⟨htx, hkx, h⟩ := hqx
    have h := h hkx
    exact za_out K hwx hcr hx0 ⟨htx, kp_trans wo_X7_read hk hkx (fun _ q => q) (by decide), h⟩ (no_cov hex 191)
  obtain ⟨hk6, h⟩ := hq3
  have h := h hk6
  have hk7 := kp_trans wo_X7_read hk hk6 (fun _ q => q) (by decide)
  have hg8 : tg σ4 a0 = 6 := kp_tg hk6 wo_X6_must ht0 (by decide)
  refine z_aload_n (pc := 194) K dX7_read_194 rfl (lv_at hl 0 rfl) ?_
  refine zc_v (pc := 195) (maxL := 2) K hw5 (met_X6_next_6 X l σ4 a0 hg8 _ h) (i_VU (n := 0) (t := 6) (As := []) (owner := "CombTable$Reader") K hw5 (ob hg8) zq6 (by decide) (by decide) q768 q769 q666 q771 (dcl_of K q666 q672) rfl rfl dX7_read_195) (locw K q672 q97) (zr_ok2A (by decide) (by decide)) hl.1 dX7_read_195 (Nat.le_of_ble_eq_true rfl) (cr_le hcr) (fun σ12 _ _ hq11 hw13 => ?_)
  obtain ⟨hk14, h⟩ := hq11
  have h := h hk14
  have hk15 := kp_trans wo_X7_read hk7 hk14 (fun _ q => q) (by decide)
  have hg16 : tg σ12 a0 = 6 := kp_tg hk14 wo_X6_next hg8 (by decide)
  refine z_aload_n (pc := 198) K dX7_read_198 rfl (lv_at hl 0 rfl) ?_
  refine lv_iload_n (pc := 199) K.x K.b dX7_read_199 rfl (lv_at hl 2 rfl) ?_
  refine zat_v (pc := 200) (maxL := 4) K hw13 (met_X7_line X l σ12 a0 v3 hg16 hv3 cr hcr.2.2 _ _ h) (i_V (n := 1) (t := 6) (As := [jI v3]) K hw13 (ob hg16) zq6 (by decide) q772 q774 qs3 (sg_of K q775) rfl rfl dX7_read_200) (locw K q775 q98) (zr_ok2A (by decide) (by decide)) hl.1 dX7_read_200 (by decide) hcr (Int.toNat_of_nonneg hcr.2.2) ⟨Nat.le_refl _, Nat.le_refl _⟩ (fun σ20 _ _ _ _ cr22 hq19 hw21 hcr23 => ?_) (fun x σx _ _ _ _ crx hx0 hqx hwx hcx => ?_)
  rotate_left
  · obtain ⟨htx, hkx, h⟩ := hqx
    have h := h hkx
    exact za_out K hwx hcx hx0 ⟨htx, kp_trans wo_X7_read hk15 hkx (fun _ q => q) (by decide), h⟩ (no_cov hex 200)
  obtain ⟨hk24, h⟩ := hq19
  have h := h hk24
  have hk25 := kp_trans wo_X7_read hk15 hk24 (fun _ q => q) (by decide)
  have hg26 : tg σ20 a0 = 6 := kp_tg hk24 wo_X7_line hg16 (by decide)
  refine z_aload_n (pc := 203) K dX7_read_203 rfl (lv_at hl 0 rfl) ?_
  refine z_bipush (pc := 204) K dX7_read_204 (by decide) ?_
  refine zt_v (pc := 206) (maxL := 2) K hw21 (met_X6_sign_6 X l σ20 a0 59 hg26 ⟨by decide, by decide⟩ _ _ h) (i_VU (n := 1) (t := 6) (As := [jI 59]) (owner := "CombTable$Reader") K hw21 (ob hg26) zq6 (by decide) (by decide) q872 q873 q876 q875 (dcl_of K q876 q877) rfl rfl dX7_read_206) (locw K q877 q97) (zr_ok2A (by decide) (by decide)) hl.1 dX7_read_206 (Nat.le_of_ble_eq_true rfl) (cr_le hcr23) (fun σ30 _ _ hq29 hw31 => ?_) (fun x σx _ _ hx0 hqx hwx => ?_)
  rotate_left
  · obtain ⟨htx, hkx, h⟩ := hqx
    have h := h hkx
    exact za_out K hwx hcr23 hx0 ⟨htx, kp_trans wo_X7_read hk25 hkx (fun _ q => q) (by decide), h⟩ (no_cov hex 206)
  obtain ⟨hk32, h⟩ := hq29
  have h := h hk32
  have hk33 := kp_trans wo_X7_read hk25 hk32 (fun _ q => q) (by decide)
  have hg34 : tg σ30 a0 = 6 := kp_tg hk32 wo_X6_sign hg26 (by decide)
  refine z_iinc (pc := 209) (k := 1) (lv' := [(2, jI (v2 + 1)), (0, jR X a0), (3, jI v3)]) K dX7_read_209 hl rfl (by decide) rfl (fun ls hl => ?_)
  refine z_goto (pc := 212) (tgt := 16) K dX7_read_212 (by decide) ?_
  obtain ⟨hr35, h⟩ := h
  exact hL16 σ30 cr22 (v2 + 1) _ _ _ _ _ h hw31 hk33 hcr23 hg34 hr35 (lv_sub hl [1, 0] rfl)
set_option maxHeartbeats 4000000 in
theorem wk_X7_read_b185 {X : Cxt} {p : Program} {l : Launch} {e : Env} {s : State} {m : MethodId} {args : Array Value} {below : List Frame} {meth : Method} {c : Code} {C0 : Nat} (a0 : Int) (o1 : Int) (Q : Int → St → Int → Prop) (E : Int → St → Int → Prop) (σ0 : St) (K : MCx X p s m args meth c cX7_read 4 "CombTable$TableReader" (some .int)) (hex : c.exceptionTable.isEmpty = true) (L16 : St → Int → Int → Prop) (hL16 : ∀ (σ : St) (cr : Int) (v2 : Int) (cells slots : Nat) (H : Heap) (locs : List Loc) (ls : Array Slot), L16 σ cr v2 → Wc X σ s.heap H locs → Kp ws_X7_read σ0 σ → Cr C0 cells slots cr → tg σ a0 = 6 → rng v2 → lv_has ls 4 [(0, jR X a0), (2, jI v2)] → W p l e (zrm 11 C0 C0) s m args below meth c H locs cells slots (MQA X below C0 (qIA (fun r σ' cr => Kp ws_X7_read σ0 σ' ∧ Q r σ' cr)) (fun x σ' cr => tg σ' x = 2 ∧ Kp ws_X7_read σ0 σ' ∧ E x σ' cr) args s) (F0 m 16 ls [])) : ∀ (σ : St) (cr : Int) (v2 : Int) (v3 : Int) (cells slots : Nat) (H : Heap) (locs : List Loc) (ls : Array Slot), wp_X7_read_b185 a0 o1 Q E σ0 L16 σ cr v2 v3 → Wc X σ s.heap H locs → Kp ws_X7_read σ0 σ → Cr C0 cells slots cr → tg σ a0 = 6 → rng v2 → rng v3 → lv_has ls 4 [(0, jR X a0), (2, jI v2), (3, jI v3)] → W p l e (zrm 11 C0 C0) s m args below meth c H locs cells slots (MQA X below C0 (qIA (fun r σ' cr => Kp ws_X7_read σ0 σ' ∧ Q r σ' cr)) (fun x σ' cr => tg σ' x = 2 ∧ Kp ws_X7_read σ0 σ' ∧ E x σ' cr) args s) (F0 m 185 ls [jR X a0]) := by
  intro σ cr v2 v3 cells slots H locs ls h hw hk hcr ht0 hv2 hv3 hl
  refine z_iconst (pc := 185) K dX7_read_185 ?_
  refine z_goto (pc := 186) (tgt := 190) K dX7_read_186 (by decide) ?_
  exact wk_X7_read_b190 a0 o1 Q E σ0 K hex L16 hL16 σ cr v2 v3 1 _ _ _ _ _ h hw hk hcr ht0 hv2 hv3 ⟨by decide, by decide⟩ (lv_sub hl [0, 1, 2] rfl)
set_option maxHeartbeats 4000000 in
theorem wk_X7_read_b114 {X : Cxt} {p : Program} {l : Launch} {e : Env} {s : State} {m : MethodId} {args : Array Value} {below : List Frame} {meth : Method} {c : Code} {C0 : Nat} (a0 : Int) (o1 : Int) (Q : Int → St → Int → Prop) (E : Int → St → Int → Prop) (σ0 : St) (K : MCx X p s m args meth c cX7_read 4 "CombTable$TableReader" (some .int)) (hex : c.exceptionTable.isEmpty = true) (L16 : St → Int → Int → Prop) (hL16 : ∀ (σ : St) (cr : Int) (v2 : Int) (cells slots : Nat) (H : Heap) (locs : List Loc) (ls : Array Slot), L16 σ cr v2 → Wc X σ s.heap H locs → Kp ws_X7_read σ0 σ → Cr C0 cells slots cr → tg σ a0 = 6 → rng v2 → lv_has ls 4 [(0, jR X a0), (2, jI v2)] → W p l e (zrm 11 C0 C0) s m args below meth c H locs cells slots (MQA X below C0 (qIA (fun r σ' cr => Kp ws_X7_read σ0 σ' ∧ Q r σ' cr)) (fun x σ' cr => tg σ' x = 2 ∧ Kp ws_X7_read σ0 σ' ∧ E x σ' cr) args s) (F0 m 16 ls [])) : ∀ (σ : St) (cr : Int) (v2 : Int) (v3 : Int) (s1 : Int) (cells slots : Nat) (H : Heap) (locs : List Loc) (ls : Array Slot), wp_X7_read_b114 a0 o1 Q E σ0 L16 σ cr v2 v3 s1 → Wc X σ s.heap H locs → Kp ws_X7_read σ0 σ → Cr C0 cells slots cr → tg σ a0 = 6 → rng v2 → rng v3 → (0 ≤ s1 ∧ s1 ≤ 1) → lv_has ls 4 [(0, jR X a0), (2, jI v2), (3, jI v3)] → W p l e (zrm 11 C0 C0) s m args below meth c H locs cells slots (MQA X below C0 (qIA (fun r σ' cr => Kp ws_X7_read σ0 σ' ∧ Q r σ' cr)) (fun x σ' cr => tg σ' x = 2 ∧ Kp ws_X7_read σ0 σ' ∧ E x σ' cr) args s) (F0 m 114 ls [jI s1, jR X a0]) := by
  intro σ cr v2 v3 s1 cells slots H locs ls h hw hk hcr ht0 hv2 hv3 hs1 hl
  refine z_iconst (pc := 114) K dX7_read_114 ?_
  refine zt_v (pc := 115) (maxL := 3) K hw (met_X6_must_6 X l σ a0 s1 3 ht0 hs1 ⟨by decide, by decide⟩ _ _ h) (i_VU (n := 2) (t := 6) (As := [jI s1, jI 3]) (owner := "CombTable$Reader") K hw (ob ht0) zq6 (by decide) (by decide) q754 q755 q758 q757 (dcl_of K q758 q759) rfl rfl dX7_read_115) (locw K q759 q97) (zr_ok2A (by decide) (by decide)) hl.1 dX7_read_115 (Nat.le_of_ble_eq_true rfl) (cr_le hcr) (fun σ4 _ _ hq3 hw5 => ?_) (fun x σx _ _ hx0 hqx hwx => ?_)
  rotate_left
  · obtain ⟨htx, hkx, h⟩ := hqx
    have h := h hkx
    exact za_out K hwx hcr hx0 ⟨htx, kp_trans wo_X7_read hk hkx (fun _ q => q) (by decide), h⟩ (no_cov hex 115)
  obtain ⟨hk6, h⟩ := hq3
  have h := h hk6
  have hk7 := kp_trans wo_X7_read hk hk6 (fun _ q => q) (by decide)
  have hg8 : tg σ4 a0 = 6 := kp_tg hk6 wo_X6_must ht0 (by decide)
  refine z_aload_n (pc := 118) K dX7_read_118 rfl (lv_at hl 0 rfl) ?_
  refine lv_iload_n (pc := 119) K.x K.b dX7_read_119 rfl (lv_at hl 2 rfl) ?_
  refine z_if_ne (pc := 120) (tgt := 143) K hv3 dX7_read_120 (by decide) (fun hc9 => ?_) (fun hc9 => ?_)
  · have h := ite_t h hc9
    refine z_aload_n (pc := 123) K dX7_read_123 rfl (lv_at hl 0 rfl) ?_
    refine z_get (pc := 124) (t := 6) (k := 8) K hw5 (ob (t := 6) hg8) zq6 (by decide) q378 (fun _ h => h) dX7_read_124 (zval_r kf_6_8) ?_
    obtain ⟨hn11, h⟩ := h
    have hg10 : tg σ4 (σ4 a0 8 0) = 4 := okR_nn hn11 (by decide) (by decide) (z_ok (t := 6) (r := 4) hw5 hg8 ⟨by decide, by decide⟩ kf_6_8 kt_6_8)
    refine z_getN (pc := 127) (t := 4) (k := 3) K hw5 (ob (t := 4) hg10) zq4 (by decide) q258 (fun _ h => h) dX7_read_127 (zval_i kf_4_3) ?_
    refine z_bipush (pc := 130) K dX7_read_130 (by decide) ?_
    refine z_icmp_ge (pc := 132) (tgt := 139) K (z_rI hw5 (ob (t := 4) hg10) kf_4_3) ⟨by decide, by decide⟩ dX7_read_132 (by decide) (fun hc12 => ?_) (fun hc12 => ?_)
    · have h := ite_t h hc12
      refine z_iconst (pc := 135) K dX7_read_135 ?_
      refine z_goto (pc := 136) (tgt := 190) K dX7_read_136 (by decide) ?_
      exact wk_X7_read_b190 a0 o1 Q E σ0 K hex L16 hL16 σ4 cr v2 v3 1 _ _ _ _ _ h hw5 hk7 hcr hg8 hv2 hv3 ⟨by decide, by decide⟩ (lv_sub hl [0, 1, 2] rfl)
    · have h := ite_f h hc12
      refine z_iconst (pc := 139) K dX7_read_139 ?_
      refine z_goto (pc := 140) (tgt := 190) K dX7_read_140 (by decide) ?_
      exact wk_X7_read_b190 a0 o1 Q E σ0 K hex L16 hL16 σ4 cr v2 v3 0 _ _ _ _ _ h hw5 hk7 hcr hg8 hv2 hv3 ⟨by decide, by decide⟩ (lv_sub hl [0, 1, 2] rfl)
  · have h := ite_f h hc9
    refine lv_iload_n (pc := 143) K.x K.b dX7_read_143 rfl (lv_at hl 2 rfl) ?_
    refine z_iconst (pc := 144) K dX7_read_144 ?_
    refine z_icmp_ne (pc := 145) (tgt := 168) K hv3 ⟨by decide, by decide⟩ dX7_read_145 (by decide) (fun hc13 => ?_) (fun hc13 => ?_)
    · have h := ite_t h hc13
      refine z_aload_n (pc := 148) K dX7_read_148 rfl (lv_at hl 0 rfl) ?_
      refine z_get (pc := 149) (t := 6) (k := 8) K hw5 (ob (t := 6) hg8) zq6 (by decide) q378 (fun _ h => h) dX7_read_149 (zval_r kf_6_8) ?_
      obtain ⟨hn15, h⟩ := h
      have hg14 : tg σ4 (σ4 a0 8 0) = 4 := okR_nn hn15 (by decide) (by decide) (z_ok (t := 6) (r := 4) hw5 hg8 ⟨by decide, by decide⟩ kf_6_8 kt_6_8)
      refine z_getN (pc := 152) (t := 4) (k := 4) K hw5 (ob (t := 4) hg14) zq4 (by decide) q263 (fun _ h => h) dX7_read_152 (zval_i kf_4_4) ?_
      refine z_bipush (pc := 155) K dX7_read_155 (by decide) ?_
      refine z_icmp_ge (pc := 157) (tgt := 164) K (z_rI hw5 (ob (t := 4) hg14) kf_4_4) ⟨by decide, by decide⟩ dX7_read_157 (by decide) (fun hc16 => ?_) (fun hc16 => ?_)
      · have h := ite_t h hc16
        refine z_iconst (pc := 160) K dX7_read_160 ?_
        refine z_goto (pc := 161) (tgt := 190) K dX7_read_161 (by decide) ?_
        exact wk_X7_read_b190 a0 o1 Q E σ0 K hex L16 hL16 σ4 cr v2 v3 1 _ _ _ _ _ h hw5 hk7 hcr hg8 hv2 hv3 ⟨by decide, by decide⟩ (lv_sub hl [0, 1, 2] rfl)
      · have h := ite_f h hc16
        refine z_iconst (pc := 164) K dX7_read_164 ?_
        refine z_goto (pc := 165) (tgt := 190) K dX7_read_165 (by decide) ?_
        exact wk_X7_read_b190 a0 o1 Q E σ0 K hex L16 hL16 σ4 cr v2 v3 0 _ _ _ _ _ h hw5 hk7 hcr hg8 hv2 hv3 ⟨by decide, by decide⟩ (lv_sub hl [0, 1, 2] rfl)
    · have h := ite_f h hc13
      refine lv_iload_n (pc := 168) K.x K.b dX7_read_168 rfl (lv_at hl 2 rfl) ?_
      refine z_iconst (pc := 169) K dX7_read_169 ?_
      refine z_icmp_ne (pc := 170) (tgt := 185) K hv3 ⟨by decide, by decide⟩ dX7_read_170 (by decide) (fun hc17 => ?_) (fun hc17 => ?_)
      · have h := ite_t h hc17
        refine z_aload_n (pc := 173) K dX7_read_173 rfl (lv_at hl 0 rfl) ?_
        refine z_get (pc := 174) (t := 6) (k := 8) K hw5 (ob (t := 6) hg8) zq6 (by decide) q378 (fun _ h => h) dX7_read_174 (zval_r kf_6_8) ?_
        obtain ⟨hn19, h⟩ := h
        have hg18 : tg σ4 (σ4 a0 8 0) = 4 := okR_nn hn19 (by decide) (by decide) (z_ok (t := 6) (r := 4) hw5 hg8 ⟨by decide, by decide⟩ kf_6_8 kt_6_8)
        refine z_getN (pc := 177) (t := 4) (k := 5) K hw5 (ob (t := 4) hg18) zq4 (by decide) q268 (fun _ h => h) dX7_read_177 (zval_i kf_4_5) ?_
        refine z_bipush (pc := 180) K dX7_read_180 (by decide) ?_
        refine z_icmp_ge (pc := 182) (tgt := 189) K (z_rI hw5 (ob (t := 4) hg18) kf_4_5) ⟨by decide, by decide⟩ dX7_read_182 (by decide) (fun hc20 => ?_) (fun hc20 => ?_)
        · have h := ite_t h hc20
          exact wk_X7_read_b185 a0 o1 Q E σ0 K hex L16 hL16 σ4 cr v2 v3 _ _ _ _ _ h hw5 hk7 hcr hg8 hv2 hv3 (lv_sub hl [0, 1, 2] rfl)
        · have h := ite_f h hc20
          refine z_iconst (pc := 189) K dX7_read_189 ?_
          exact wk_X7_read_b190 a0 o1 Q E σ0 K hex L16 hL16 σ4 cr v2 v3 0 _ _ _ _ _ h hw5 hk7 hcr hg8 hv2 hv3 ⟨by decide, by decide⟩ (lv_sub hl [0, 1, 2] rfl)
      · have h := ite_f h hc17
        exact wk_X7_read_b185 a0 o1 Q E σ0 K hex L16 hL16 σ4 cr v2 v3 _ _ _ _ _ h hw5 hk7 hcr hg8 hv2 hv3 (lv_sub hl [0, 1, 2] rfl)
set_option maxHeartbeats 4000000 in
theorem wk_X7_read_b109 {X : Cxt} {p : Program} {l : Launch} {e : Env} {s : State} {m : MethodId} {args : Array Value} {below : List Frame} {meth : Method} {c : Code} {C0 : Nat} (a0 : Int) (o1 : Int) (Q : Int → St → Int → Prop) (E : Int → St → Int → Prop) (σ0 : St) (K : MCx X p s m args meth c cX7_read 4 "CombTable$TableReader" (some .int)) (hex : c.exceptionTable.isEmpty = true) (L16 : St → Int → Int → Prop) (hL16 : ∀ (σ : St) (cr : Int) (v2 : Int) (cells slots : Nat) (H : Heap) (locs : List Loc) (ls : Array Slot), L16 σ cr v2 → Wc X σ s.heap H locs → Kp ws_X7_read σ0 σ → Cr C0 cells slots cr → tg σ a0 = 6 → rng v2 → lv_has ls 4 [(0, jR X a0), (2, jI v2)] → W p l e (zrm 11 C0 C0) s m args below meth c H locs cells slots (MQA X below C0 (qIA (fun r σ' cr => Kp ws_X7_read σ0 σ' ∧ Q r σ' cr)) (fun x σ' cr => tg σ' x = 2 ∧ Kp ws_X7_read σ0 σ' ∧ E x σ' cr) args s) (F0 m 16 ls [])) : ∀ (σ : St) (cr : Int) (v2 : Int) (v3 : Int) (cells slots : Nat) (H : Heap) (locs : List Loc) (ls : Array Slot), wp_X7_read_b109 a0 o1 Q E σ0 L16 σ cr v2 v3 → Wc X σ s.heap H locs → Kp ws_X7_read σ0 σ → Cr C0 cells slots cr → tg σ a0 = 6 → rng v2 → rng v3 → lv_has ls 4 [(0, jR X a0), (2, jI v2), (3, jI v3)] → W p l e (zrm 11 C0 C0) s m args below meth c H locs cells slots (MQA X below C0 (qIA (fun r σ' cr => Kp ws_X7_read σ0 σ' ∧ Q r σ' cr)) (fun x σ' cr => tg σ' x = 2 ∧ Kp ws_X7_read σ0 σ' ∧ E x σ' cr) args s) (F0 m 109 ls [jR X a0]) := by
  intro σ cr v2 v3 cells slots H locs ls h hw hk hcr ht0 hv2 hv3 hl
  refine z_iconst (pc := 109) K dX7_read_109 ?_
  refine z_goto (pc := 110) (tgt := 114) K dX7_read_110 (by decide) ?_
  exact wk_X7_read_b114 a0 o1 Q E σ0 K hex L16 hL16 σ cr v2 v3 1 _ _ _ _ _ h hw hk hcr ht0 hv2 hv3 ⟨by decide, by decide⟩ (lv_sub hl [0, 1, 2] rfl)
set_option maxHeartbeats 4000000 in
theorem wk_X7_read_b46 {X : Cxt} {p : Program} {l : Launch} {e : Env} {s : State} {m : MethodId} {args : Array Value} {below : List Frame} {meth : Method} {c : Code} {C0 : Nat} (a0 : Int) (o1 : Int) (Q : Int → St → Int → Prop) (E : Int → St → Int → Prop) (σ0 : St) (K : MCx X p s m args meth c cX7_read 4 "CombTable$TableReader" (some .int)) (hex : c.exceptionTable.isEmpty = true) (L16 : St → Int → Int → Prop) (hL16 : ∀ (σ : St) (cr : Int) (v2 : Int) (cells slots : Nat) (H : Heap) (locs : List Loc) (ls : Array Slot), L16 σ cr v2 → Wc X σ s.heap H locs → Kp ws_X7_read σ0 σ → Cr C0 cells slots cr → tg σ a0 = 6 → rng v2 → lv_has ls 4 [(0, jR X a0), (2, jI v2)] → W p l e (zrm 11 C0 C0) s m args below meth c H locs cells slots (MQA X below C0 (qIA (fun r σ' cr => Kp ws_X7_read σ0 σ' ∧ Q r σ' cr)) (fun x σ' cr => tg σ' x = 2 ∧ Kp ws_X7_read σ0 σ' ∧ E x σ' cr) args s) (F0 m 16 ls [])) : ∀ (σ : St) (cr : Int) (v2 : Int) (v3 : Int) (s1 : Int) (cells slots : Nat) (H : Heap) (locs : List Loc) (ls : Array Slot), wp_X7_read_b46 a0 o1 Q E σ0 L16 σ cr v2 v3 s1 → Wc X σ s.heap H locs → Kp ws_X7_read σ0 σ → Cr C0 cells slots cr → tg σ a0 = 6 → rng v2 → rng v3 → (0 ≤ s1 ∧ s1 ≤ 1) → lv_has ls 4 [(0, jR X a0), (2, jI v2), (3, jI v3)] → W p l e (zrm 11 C0 C0) s m args below meth c H locs cells slots (MQA X below C0 (qIA (fun r σ' cr => Kp ws_X7_read σ0 σ' ∧ Q r σ' cr)) (fun x σ' cr => tg σ' x = 2 ∧ Kp ws_X7_read σ0 σ' ∧ E x σ' cr) args s) (F0 m 46 ls [jI s1, jR X a0]) := by
  intro σ cr v2 v3 s1 cells slots H locs ls h hw hk hcr ht0 hv2 hv3 hs1 hl
  refine z_iconst (pc := 46) K dX7_read_46 ?_
  refine zt_v (pc := 47) (maxL := 3) K hw (met_X6_must_6 X l σ a0 s1 1 ht0 hs1 ⟨by decide, by decide⟩ _ _ h) (i_VU (n := 2) (t := 6) (As := [jI s1, jI 1]) (owner := "CombTable$Reader") K hw (ob ht0) zq6 (by decide) (by decide) q754 q755 q758 q757 (dcl_of K q758 q759) rfl rfl dX7_read_47) (locw K q759 q97) (zr_ok2A (by decide) (by decide)) hl.1 dX7_read_47 (Nat.le_of_ble_eq_true rfl) (cr_le hcr) (fun σ4 _ _ hq3 hw5 => ?_) (fun x σx _ _ hx0 hqx hwx => ?_)
  rotate_left
  · obtain ⟨htx, hkx, h⟩ := hqx
    have h := h hkx
    exact za_out K hwx hcr hx0 ⟨htx, kp_trans wo_X7_read hk hkx (fun _ q => q) (by decide), h⟩ (no_cov hex 47)
  obtain ⟨hk6, h⟩ := hq3
  have h := h hk6
  have hk7 := kp_trans wo_X7_read hk hk6 (fun _ q => q) (by decide)
  have hg8 : tg σ4 a0 = 6 := kp_tg hk6 wo_X6_must ht0 (by decide)
  refine z_aload_n (pc := 50) K dX7_read_50 rfl (lv_at hl 0 rfl) ?_
  refine lv_iload_n (pc := 51) K.x K.b dX7_read_51 rfl (lv_at hl 2 rfl) ?_
  refine z_iconst (pc := 52) K dX7_read_52 ?_
  refine z_icmp_ne (pc := 53) (tgt := 71) K hv3 ⟨by decide, by decide⟩ dX7_read_53 (by decide) (fun hc9 => ?_) (fun hc9 => ?_)
  · have h := ite_t h hc9
    refine z_aload_n (pc := 56) K dX7_read_56 rfl (lv_at hl 0 rfl) ?_
    refine z_get (pc := 57) (t := 6) (k := 9) K hw5 (ob (t := 6) hg8) zq6 (by decide) q379 (fun _ h => h) dX7_read_57 (zval_z kf_6_9) ?_
    refine z_if_ne (pc := 60) (tgt := 67) K (b01r (z_rZ hw5 (ob (t := 6) hg8) kf_6_9)) dX7_read_60 (by decide) (fun hc10 => ?_) (fun hc10 => ?_)
    · have h := ite_t h hc10
      refine z_iconst (pc := 63) K dX7_read_63 ?_
      refine z_goto (pc := 64) (tgt := 114) K dX7_read_64 (by decide) ?_
      exact wk_X7_read_b114 a0 o1 Q E σ0 K hex L16 hL16 σ4 cr v2 v3 1 _ _ _ _ _ h hw5 hk7 hcr hg8 hv2 hv3 ⟨by decide, by decide⟩ (lv_sub hl [0, 1, 2] rfl)
    · have h := ite_f h hc10
      refine z_iconst (pc := 67) K dX7_read_67 ?_
      refine z_goto (pc := 68) (tgt := 114) K dX7_read_68 (by decide) ?_
      exact wk_X7_read_b114 a0 o1 Q E σ0 K hex L16 hL16 σ4 cr v2 v3 0 _ _ _ _ _ h hw5 hk7 hcr hg8 hv2 hv3 ⟨by decide, by decide⟩ (lv_sub hl [0, 1, 2] rfl)
  · have h := ite_f h hc9
    refine lv_iload_n (pc := 71) K.x K.b dX7_read_71 rfl (lv_at hl 2 rfl) ?_
    refine z_iconst (pc := 72) K dX7_read_72 ?_
    refine z_icmp_ne (pc := 73) (tgt := 94) K hv3 ⟨by decide, by decide⟩ dX7_read_73 (by decide) (fun hc11 => ?_) (fun hc11 => ?_)
    · have h := ite_t h hc11
      refine z_aload_n (pc := 76) K dX7_read_76 rfl (lv_at hl 0 rfl) ?_
      refine z_get (pc := 77) (t := 6) (k := 8) K hw5 (ob (t := 6) hg8) zq6 (by decide) q378 (fun _ h => h) dX7_read_77 (zval_r kf_6_8) ?_
      obtain ⟨hn13, h⟩ := h
      have hg12 : tg σ4 (σ4 a0 8 0) = 4 := okR_nn hn13 (by decide) (by decide) (z_ok (t := 6) (r := 4) hw5 hg8 ⟨by decide, by decide⟩ kf_6_8 kt_6_8)
      refine z_getN (pc := 80) (t := 4) (k := 7) K hw5 (ob (t := 4) hg12) zq4 (by decide) q274 (fun _ h => h) dX7_read_80 (zval_z kf_4_7) ?_
      refine z_if_ne (pc := 83) (tgt := 90) K (b01r (z_rZ hw5 (ob (t := 4) hg12) kf_4_7)) dX7_read_83 (by decide) (fun hc14 => ?_) (fun hc14 => ?_)
      · have h := ite_t h hc14
        refine z_iconst (pc := 86) K dX7_read_86 ?_
        refine z_goto (pc := 87) (tgt := 114) K dX7_read_87 (by decide) ?_
        exact wk_X7_read_b114 a0 o1 Q E σ0 K hex L16 hL16 σ4 cr v2 v3 1 _ _ _ _ _ h hw5 hk7 hcr hg8 hv2 hv3 ⟨by decide, by decide⟩ (lv_sub hl [0, 1, 2] rfl)
      · have h := ite_f h hc14
        refine z_iconst (pc := 90) K dX7_read_90 ?_
        refine z_goto (pc := 91) (tgt := 114) K dX7_read_91 (by decide) ?_
        exact wk_X7_read_b114 a0 o1 Q E σ0 K hex L16 hL16 σ4 cr v2 v3 0 _ _ _ _ _ h hw5 hk7 hcr hg8 hv2 hv3 ⟨by decide, by decide⟩ (lv_sub hl [0, 1, 2] rfl)
    · have h := ite_f h hc11
      refine lv_iload_n (pc := 94) K.x K.b dX7_read_94 rfl (lv_at hl 2 rfl) ?_
      refine z_iconst (pc := 95) K dX7_read_95 ?_
      refine z_icmp_ne (pc := 96) (tgt := 109) K hv3 ⟨by decide, by decide⟩ dX7_read_96 (by decide) (fun hc15 => ?_) (fun hc15 => ?_)
      · have h := ite_t h hc15
        refine z_aload_n (pc := 99) K dX7_read_99 rfl (lv_at hl 0 rfl) ?_
        refine z_get (pc := 100) (t := 6) (k := 8) K hw5 (ob (t := 6) hg8) zq6 (by decide) q378 (fun _ h => h) dX7_read_100 (zval_r kf_6_8) ?_
        obtain ⟨hn17, h⟩ := h
        have hg16 : tg σ4 (σ4 a0 8 0) = 4 := okR_nn hn17 (by decide) (by decide) (z_ok (t := 6) (r := 4) hw5 hg8 ⟨by decide, by decide⟩ kf_6_8 kt_6_8)
        refine z_getN (pc := 103) (t := 4) (k := 8) K hw5 (ob (t := 4) hg16) zq4 (by decide) q276 (fun _ h => h) dX7_read_103 (zval_z kf_4_8) ?_
        refine z_if_ne (pc := 106) (tgt := 113) K (b01r (z_rZ hw5 (ob (t := 4) hg16) kf_4_8)) dX7_read_106 (by decide) (fun hc18 => ?_) (fun hc18 => ?_)
        · have h := ite_t h hc18
          exact wk_X7_read_b109 a0 o1 Q E σ0 K hex L16 hL16 σ4 cr v2 v3 _ _ _ _ _ h hw5 hk7 hcr hg8 hv2 hv3 (lv_sub hl [0, 1, 2] rfl)
        · have h := ite_f h hc18
          refine z_iconst (pc := 113) K dX7_read_113 ?_
          exact wk_X7_read_b114 a0 o1 Q E σ0 K hex L16 hL16 σ4 cr v2 v3 0 _ _ _ _ _ h hw5 hk7 hcr hg8 hv2 hv3 ⟨by decide, by decide⟩ (lv_sub hl [0, 1, 2] rfl)
      · have h := ite_f h hc15
        exact wk_X7_read_b109 a0 o1 Q E σ0 K hex L16 hL16 σ4 cr v2 v3 _ _ _ _ _ h hw5 hk7 hcr hg8 hv2 hv3 (lv_sub hl [0, 1, 2] rfl)
set_option maxHeartbeats 4000000 in
theorem wk_X7_read_16 {X : Cxt} {p : Program} {l : Launch} {e : Env} {s : State} {m : MethodId} {args : Array Value} {below : List Frame} {meth : Method} {c : Code} {C0 : Nat} (a0 : Int) (o1 : Int) (Q : Int → St → Int → Prop) (E : Int → St → Int → Prop) (σ0 : St) (K : MCx X p s m args meth c cX7_read 4 "CombTable$TableReader" (some .int)) (hex : c.exceptionTable.isEmpty = true) : ∀ (n : Nat), ∀ (σ : St) (cr : Int) (v2 : Int) (cells slots : Nat) (H : Heap) (locs : List Loc) (ls : Array Slot), lp_X7_read_16 a0 o1 Q E σ0 n σ cr v2 → Wc X σ s.heap H locs → Kp ws_X7_read σ0 σ → Cr C0 cells slots cr → tg σ a0 = 6 → rng v2 → lv_has ls 4 [(0, jR X a0), (2, jI v2)] → W p l e (zrm 11 C0 C0) s m args below meth c H locs cells slots (MQA X below C0 (qIA (fun r σ' cr => Kp ws_X7_read σ0 σ' ∧ Q r σ' cr)) (fun x σ' cr => tg σ' x = 2 ∧ Kp ws_X7_read σ0 σ' ∧ E x σ' cr) args s) (F0 m 16 ls []) := by
  intro n
  induction n with
  | zero => intro σ cr v2 cells slots H locs ls h; exact h.elim
  | succ n ih =>
    intro σ cr v2 cells slots H locs ls h hw hk hcr ht0 hv2 hl
    have h := h hk
    refine z_aload_n (pc := 16) K dX7_read_16 rfl (lv_at hl 0 rfl) ?_
    refine z_get (pc := 17) (t := 6) (k := 3) K hw (ob (t := 6) ht0) zq6 (by decide) q390 (u_same (K.ts _ q391)) dX7_read_17 (zval_i kf_6_3) ?_
    refine z_if_eq (pc := 20) (tgt := 215) K (z_rI hw (ob (t := 6) ht0) kf_6_3) dX7_read_20 (by decide) (fun hc1 => ?_) (fun hc1 => ?_)
    · have h := ite_t h hc1
      refine lv_iload_n (pc := 215) K.x K.b dX7_read_215 rfl (lv_at hl 1 rfl) ?_
      exact za_iret (pc := 216) K hw hcr hv2 ⟨hk, h⟩ dX7_read_216
    · have h := ite_f h hc1
      refine z_aload_n (pc := 23) K dX7_read_23 rfl (lv_at hl 0 rfl) ?_
      refine z_aload_n (pc := 24) K dX7_read_24 rfl (lv_at hl 0 rfl) ?_
      refine z_get (pc := 25) (t := 6) (k := 10) K hw (ob (t := 6) ht0) zq6 (by decide) q380 (fun _ h => h) dX7_read_25 (zval_r kf_6_10) ?_
      have hg2 : tg σ (σ a0 10 0) = 1 := (z_tg (t := 6) (r := 1) hw ht0 ⟨by decide, by decide⟩ kf_6_10 kn_6_10 kt_6_10 (by decide) (by decide))
      refine z_getN (pc := 28) (t := 1) (k := 5) K hw (ob (t := 1) hg2) zq1 (by decide) q517 (fun _ h => h) dX7_read_28 (zval_p (κ := 4) kf_1_5) ?_
      refine zr_i (pc := 31) (maxL := 3) K hw (met_X6_find_6_1 X l σ a0 (σ a0 10 0) 5 6 ht0 hg2 kf_1_5 kl_1_5 kt_1_5 _ h) (i_VU (n := 1) (t := 6) (As := [jR X (σ (σ a0 10 0) 5 (-1))]) (owner := "CombTable$Reader") K hw (ob ht0) zq6 (by decide) (by decide) q692 q693 q696 q695 (dcl_of K q696 q697) rfl rfl dX7_read_31) (locw K q697 q97) (zr_ok2A (by decide) (by decide)) hl.1 dX7_read_31 (Nat.le_of_ble_eq_true rfl) (cr_le hcr) (fun r3 _ _ hr4 h hw7 => ?_)
      refine lv_istore_n (pc := 34) (lv' := [(3, jI r3), (0, jR X a0), (2, jI v2)]) K.x K.b dX7_read_34 rfl hl (by decide) rfl (fun ls hl => ?_)
      refine z_aload_n (pc := 35) K dX7_read_35 rfl (lv_at hl 1 rfl) ?_
      refine lv_iload_n (pc := 36) K.x K.b dX7_read_36 rfl (lv_at hl 0 rfl) ?_
      refine z_iconst (pc := 37) K dX7_read_37 ?_
      refine z_icmp_eq (pc := 38) (tgt := 45) K hr4 ⟨by decide, by decide⟩ dX7_read_38 (by decide) (fun hc8 => ?_) (fun hc8 => ?_)
      · have h := ite_t h hc8
        refine z_iconst (pc := 45) K dX7_read_45 ?_
        exact wk_X7_read_b46 a0 o1 Q E σ0 K hex (lp_X7_read_16 a0 o1 Q E σ0 n) ih σ cr v2 r3 0 _ _ _ _ _ h hw7 hk hcr ht0 hv2 hr4 ⟨by decide, by decide⟩ (lv_sub hl [1, 2, 0] rfl)
      · have h := ite_f h hc8
        refine z_iconst (pc := 41) K dX7_read_41 ?_
        refine z_goto (pc := 42) (tgt := 46) K dX7_read_42 (by decide) ?_
        exact wk_X7_read_b46 a0 o1 Q E σ0 K hex (lp_X7_read_16 a0 o1 Q E σ0 n) ih σ cr v2 r3 1 _ _ _ _ _ h hw7 hk hcr ht0 hv2 hr4 ⟨by decide, by decide⟩ (lv_sub hl [1, 2, 0] rfl)
set_option maxHeartbeats 4000000 in
theorem met_X7_read (X : Cxt) (l : Launch) (σ : St) (a0 : Int) (o1 : Int) (ht0 : tg σ a0 = 6) (ht1 : tg σ o1 = 4) (cr : Int) (hcr0 : 0 ≤ cr) (Q : Int → St → Int → Prop) (E : Int → St → Int → Prop) (h : wp_X7_read σ a0 o1 cr Q E) : MetA X l yX7_read (ws_ yX7_read cX7_read 4 (some .int)) 11 cr.toNat (ZP X σ [jR X a0, jR X o1]) (qIA (fun r σ' cr => Kp ws_X7_read σ σ' ∧ Q r σ' cr)) (fun x σ' cr => tg σ' x = 2 ∧ Kp ws_X7_read σ σ' ∧ E x σ' cr) := by
  have hcr : Cr cr.toNat 0 0 cr := by unfold Cr; omega
  refine z_startA (own := "CombTable$TableReader") (lv := [(0, jR X a0), (1, jR X o1)]) (by decide) rfl (by simp [lv_args, jR_cat, jI_cat, jL_cat]) (by simp [lg_sl, jR_cat, jI_cat, jL_cat]) (fun p e s m below meth c ls _ K hex _ hw hl => ?_)
  have hk : Kp ws_X7_read σ σ := kp_rf σ
  refine z_aload_n (pc := 0) K dX7_read_0 rfl (lv_at hl 0 rfl) ?_
  refine z_aload_n (pc := 1) K dX7_read_1 rfl (lv_at hl 1 rfl) ?_
  refine z_putr (pc := 2) (t := 6) 8 K hw (ob ht0) zq6 (by decide) kf_6_8 zt_6_8 (Or.inr (tg_okR (r := 4) (by decide) (by decide) ht1)) q378 (fun _ h => h) rfl dX7_read_2 (fun _ _ hw1 => ?_)
  obtain ⟨σ2, e3⟩ : ∃ z, z = st σ a0 8 0 o1 := ⟨_, rfl⟩
  have h := h σ2 e3
  have hw1 := wc_e e3 hw1
  have hk4 := kp_e e3 hk wo_X7_read (by decide) ht0 (t := 6) (by decide)
  have hg5 : tg σ2 a0 = 6 := (tg_e e3 (by decide)).trans ht0
  have hg6 : tg σ2 o1 = 4 := (tg_e e3 (by decide)).trans ht1
  refine z_aload_n (pc := 5) K dX7_read_5 rfl (lv_at hl 0 rfl) ?_
  refine z_iconst (pc := 6) K dX7_read_6 ?_
  refine z_putz (pc := 7) (t := 6) 9 K hw1 (ob hg5) zq6 (by decide) kf_6_9 zt_6_9 ⟨by decide, by decide⟩ q379 (fun _ h => h) rfl dX7_read_7 (fun _ _ hw7 => ?_)
  obtain ⟨σ8, e9⟩ : ∃ z, z = st σ2 a0 9 0 0 := ⟨_, rfl⟩
  have h := h σ8 e9
  have hw7 := wc_e e9 hw7
  have hk10 := kp_e e9 hk4 wo_X7_read (by decide) hg5 (t := 6) (by decide)
  have hg11 : tg σ8 a0 = 6 := (tg_e e9 (by decide)).trans hg5
  have hg12 : tg σ8 o1 = 4 := (tg_e e9 (by decide)).trans hg6
  refine z_iconst (pc := 10) K dX7_read_10 ?_
  refine lv_istore_n (pc := 11) (lv' := [(2, jI 0), (0, jR X a0), (1, jR X o1)]) K.x K.b dX7_read_11 rfl hl (by decide) (by simp [jR_cat]) (fun ls hl => ?_)
  refine z_aload_n (pc := 12) K dX7_read_12 rfl (lv_at hl 1 rfl) ?_
  refine zc_v (pc := 13) (maxL := 1) K hw7 (met_X6_begin_6 X l σ8 a0 hg11 _ h) (i_VU (n := 0) (t := 6) (As := []) (owner := "CombTable$Reader") K hw7 (ob hg11) zq6 (by decide) (by decide) q659 q660 q663 q662 (dcl_of K q663 q664) rfl rfl dX7_read_13) (locw K q664 q97) (zr_ok2A (by decide) (by decide)) hl.1 dX7_read_13 (Nat.le_of_ble_eq_true rfl) (cr_le hcr) (fun σ16 _ _ hq15 hw17 => ?_)
  obtain ⟨hk18, h⟩ := hq15
  have h := h hk18
  have hk19 := kp_trans wo_X7_read hk10 hk18 (fun _ q => q) (by decide)
  have hg20 : tg σ16 a0 = 6 := kp_tg hk18 wo_X6_begin hg11 (by decide)
  have hg21 : tg σ16 o1 = 4 := kp_tg hk18 wo_X6_begin hg12 (by decide)
  obtain ⟨nf22, h⟩ := h
  exact wk_X7_read_16 a0 o1 Q E σ K hex nf22 σ16 cr 0 _ _ _ _ _ h hw17 hk19 hcr hg20 ⟨by decide, by decide⟩ (lv_sub hl [1, 0] rfl)
def ws_X8_read : List (Int × Nat) := [(2, 6), (2, 7), (3, 1), (3, 2), (3, 3), (3, 4), (3, 5), (3, 6), (3, 7), (3, 8), (3, 9), (6, 1), (6, 2), (6, 3), (6, 4), (6, 5), (6, 6), (7, 1), (7, 2), (7, 3), (7, 4), (7, 5), (7, 6), (7, 8), (8, 1), (8, 2), (8, 3), (8, 4), (8, 5), (8, 6), (9, 1), (9, 2), (9, 3), (9, 4), (9, 5), (9, 6)]
theorem wo_X8_read : wsOk ws_X8_read = true := rfl
def wp_X8_read_b80 (a0 : Int) (o1 : Int) (Q : St → Prop) (E : Int → St → Prop) (σ0 : St) (L9 : St → Prop) (σ : St) (v2 : Int) (v3 : Int) (s1 : Int) : Prop :=
  wp_X6_must σ a0 s1 4 (fun σ4 => Kp ws_X6_must σ σ4 → wp_X6_next σ4 a0 (fun σ13 => Kp ws_X6_next σ4 σ13 → wp_X6_known σ13 a0 (σ13 o1 0 0) 1 10 (σ13 (σ13 o1 0 0) 4 0) (fun r20 σ23 => Kp ws_X6_known σ13 σ23 → wp_X3_tries σ23 o1 v3 r20 (fun r29 σ32 => Kp ws_X3_tries σ23 σ32 → ∀ σ39 : St, σ39 = st σ32 a0 8 0 r29 → (if 0 < σ39 a0 8 0 then
    wp_X6_wrong σ39 a0 5 v2 (fun r45 σ48 => Kp ws_X6_wrong σ39 σ48 → r45 ≠ -1 ∧ E r45 σ48)
    else
    wp_X6_sign σ39 a0 59 (fun σ59 => Kp ws_X6_sign σ39 σ59 → (L9 σ59)) (fun x σx => Kp ws_X6_sign σ39 σx → E x σx)))) (fun x σx => Kp ws_X6_known σ13 σx → E x σx))) (fun x σx => Kp ws_X6_must σ σx → E x σx)
def wp_X8_read_b60 (a0 : Int) (o1 : Int) (Q : St → Prop) (E : Int → St → Prop) (σ0 : St) (L9 : St → Prop) (σ : St) (v2 : Int) (v3 : Int) (s1 : Int) : Prop :=
  wp_X6_must σ a0 s1 3 (fun σ4 => Kp ws_X6_must σ σ4 → (if σ4 o1 8 0 < 400 then
    (wp_X8_read_b80 a0 o1 Q E σ0 L9 σ4 v2 v3 1)
    else
    (wp_X8_read_b80 a0 o1 Q E σ0 L9 σ4 v2 v3 0))) (fun x σx => Kp ws_X6_must σ σx → E x σx)
def lp_X8_read_9 (a0 : Int) (o1 : Int) (Q : St → Prop) (E : Int → St → Prop) (σ0 : St) : Nat → St → Prop
  | 0 => fun _ => False
  | n + 1 => fun σ  => 
    Kp ws_X8_read σ0 σ → (if σ a0 3 0 = 0 then
      Q σ
      else
      wp_X6_isName σ a0 (fun r2 => wp_X6_must σ a0 r2 1 (fun σ10 => Kp ws_X6_must σ σ10 → wp_X6_of σ10 a0 (σ10 o1 0 0) 0 8 (σ10 (σ10 o1 0 0) 3 0) (fun r17 => (if r17 = (-1) then
        (wp_X8_read_b60 a0 o1 Q E σ0 (lp_X8_read_9 a0 o1 Q E σ0 n) σ10 (σ a0 2 0) r17 0)
        else
        (wp_X8_read_b60 a0 o1 Q E σ0 (lp_X8_read_9 a0 o1 Q E σ0 n) σ10 (σ a0 2 0) r17 1)))) (fun x σx => Kp ws_X6_must σ σx → E x σx)))
def wp_X8_read (σ : St) (a0 : Int) (o1 : Int) (Q : St → Prop) (E : Int → St → Prop) : Prop :=
  ∀ σ2 : St, σ2 = st σ a0 8 0 0 → wp_X6_begin σ2 a0 (fun σ10 => Kp ws_X6_begin σ2 σ10 → (∃ kk, lp_X8_read_9 a0 o1 Q E σ kk σ10))
set_option maxHeartbeats 4000000 in
theorem wk_X8_read_b80 {X : Cxt} {p : Program} {l : Launch} {e : Env} {s : State} {m : MethodId} {args : Array Value} {below : List Frame} {meth : Method} {c : Code} (a0 : Int) (o1 : Int) (Q : St → Prop) (E : Int → St → Prop) (σ0 : St) (K : MCx X p s m args meth c cX8_read 5 "CombTable$TalkReader" (none)) (hex : c.exceptionTable.isEmpty = true) (L9 : St → Prop) (hL9 : ∀ (σ : St) (H : Heap) (locs : List Loc) (ls : Array Slot), L9 σ → Wc X σ s.heap H locs → Kp ws_X8_read σ0 σ → tg σ a0 = 7 → tg σ o1 = 3 → lv_has ls 5 [(0, jR X a0), (1, jR X o1)] → W p l e (zrm 9 0 0) s m args below meth c H locs 0 0 (MQT below (ZQ X (qV (fun σ' => Kp ws_X8_read σ0 σ' ∧ Q σ')) (fun x σ' => tg σ' x = 2 ∧ Kp ws_X8_read σ0 σ' ∧ E x σ')) args s 0 0 (zA X)) (F0 m 9 ls [])) : ∀ (σ : St) (v2 : Int) (v3 : Int) (s1 : Int) (H : Heap) (locs : List Loc) (ls : Array Slot), wp_X8_read_b80 a0 o1 Q E σ0 L9 σ v2 v3 s1 → Wc X σ s.heap H locs → Kp ws_X8_read σ0 σ → tg σ a0 = 7 → tg σ o1 = 3 → rng v2 → rng v3 → (0 ≤ s1 ∧ s1 ≤ 1) → lv_has ls 5 [(0, jR X a0), (1, jR X o1), (2, jI v2), (3, jI v3)] → W p l e (zrm 9 0 0) s m args below meth c H locs 0 0 (MQT below (ZQ X (qV (fun σ' => Kp ws_X8_read σ0 σ' ∧ Q σ')) (fun x σ' => tg σ' x = 2 ∧ Kp ws_X8_read σ0 σ' ∧ E x σ')) args s 0 0 (zA X)) (F0 m 80 ls [jI s1, jR X a0]) := by
  intro σ v2 v3 s1 H locs ls h hw hk ht0 ht1 hv2 hv3 hs1 hl
  refine z_iconst (pc := 80) K dX8_read_80 ?_
  refine zt_v (pc := 81) (maxL := 3) K hw (met_X6_must_7 X l σ a0 s1 4 ht0 hs1 ⟨by decide, by decide⟩ _ _ h) (i_VU (n := 2) (t := 7) (As := [jI s1, jI 4]) (owner := "CombTable$Reader") K hw (ob ht0) zq7 (by decide) (by decide) q971 q972 q758 q973 (dcl_of K q758 q759) rfl rfl dX8_read_81) (locw K q759 q97) ⟨by decide, by decide⟩ hl.1 dX8_read_81 (Nat.le_of_ble_eq_true rfl) ⟨Nat.le_refl _, Nat.le_refl _⟩ (fun σ4 _ _ hq3 hw5 => ?_) (fun x σx _ _ hx0 hqx hwx => ?_)
  rotate_left
  · obtain ⟨htx, hkx, h⟩ := hqx
    have h := h hkx
    exact z_out K hwx hx0 ⟨htx, kp_trans wo_X8_read hk hkx (fun _ q => q) (by decide), h⟩ (no_cov hex 81)
  obtain ⟨hk6, h⟩ := hq3
  have h := h hk6
  have hk7 := kp_trans wo_X8_read hk hk6 (fun _ q => q) (by decide)
  have hg8 : tg σ4 a0 = 7 := kp_tg hk6 wo_X6_must ht0 (by decide)
  have hg9 : tg σ4 o1 = 3 := kp_tg hk6 wo_X6_must ht1 (by decide)
  refine z_aload_n (pc := 84) K dX8_read_84 rfl (lv_at hl 0 rfl) ?_
  refine zc_v (pc := 85) (maxL := 2) K hw5 (met_X6_next_7 X l σ4 a0 hg8 _ h) (i_VU (n := 0) (t := 7) (As := []) (owner := "CombTable$Reader") K hw5 (ob hg8) zq7 (by decide) (by decide) q977 q978 q666 q979 (dcl_of K q666 q672) rfl rfl dX8_read_85) (locw K q672 q97) ⟨by decide, by decide⟩ hl.1 dX8_read_85 (Nat.le_of_ble_eq_true rfl) ⟨Nat.le_refl _, Nat.le_refl _⟩ (fun σ13 _ _ hq12 hw14 => ?_)
  obtain ⟨hk15, h⟩ := hq12
  have h := h hk15
  have hk16 := kp_trans wo_X8_read hk7 hk15 (fun _ q => q) (by decide)
  have hg17 : tg σ13 a0 = 7 := kp_tg hk15 wo_X6_next hg8 (by decide)
  have hg18 : tg σ13 o1 = 3 := kp_tg hk15 wo_X6_next hg9 (by decide)
  refine z_aload_n (pc := 88) K dX8_read_88 rfl (lv_at hl 0 rfl) ?_
  refine z_aload_n (pc := 89) K dX8_read_89 rfl (lv_at hl 1 rfl) ?_
  refine z_getN (pc := 90) (t := 3) (k := 0) K hw14 (ob (t := 3) hg18) zq3 (by decide) q300 (fun _ h => h) dX8_read_90 (zval_r kf_3_0) ?_
  have hg19 : tg σ13 (σ13 o1 0 0) = 4 := (z_tg (t := 3) (r := 4) hw14 hg18 ⟨by decide, by decide⟩ kf_3_0 kn_3_0 kt_3_0 (by decide) (by decide))
  refine z_getN (pc := 93) (t := 4) (k := 1) K hw14 (ob (t := 4) hg19) zq4 (by decide) q248 (fun _ h => h) dX8_read_93 (zval_p (κ := 6) kf_4_1) ?_
  refine z_aload_n (pc := 96) K dX8_read_96 rfl (lv_at hl 1 rfl) ?_
  refine z_getN (pc := 97) (t := 3) (k := 0) K hw14 (ob (t := 3) hg18) zq3 (by decide) q300 (fun _ h => h) dX8_read_97 (zval_r kf_3_0) ?_
  refine z_getN (pc := 100) (t := 4) (k := 4) K hw14 (ob (t := 4) hg19) zq4 (by decide) q262 (fun _ h => h) dX8_read_100 (zval_i kf_4_4) ?_
  refine zt_i (pc := 103) (maxL := 4) K hw14 (met_X6_known_7_1 X l σ13 a0 (σ13 o1 0 0) 1 10 (σ13 (σ13 o1 0 0) 4 0) hg17 hg19 kf_4_1 kl_4_1 kt_4_1 (z_rI hw14 (ob (t := 4) hg19) kf_4_4) _ _ h) (i_VU (n := 2) (t := 7) (As := [jR X (σ13 (σ13 o1 0 0) 1 (-1)), jI (σ13 (σ13 o1 0 0) 4 0)]) (owner := "CombTable$Reader") K hw14 (ob hg17) zq7 (by decide) (by decide) q980 q981 q861 q982 (dcl_of K q861 q862) rfl rfl dX8_read_103) (locw K q862 q97) ⟨by decide, by decide⟩ hl.1 dX8_read_103 (Nat.le_of_ble_eq_true rfl) ⟨Nat.le_refl _, Nat.le_refl _⟩ (fun r20 σ23 _ _ hr21 hq22 hw24 => ?_) (fun x σx _ _ hx0 hqx hwx => ?_)
  rotate_left
  · obtain ⟨htx, hkx, h⟩ := hqx
    have h := h hkx
    exact z_out K hwx hx0 ⟨htx, kp_trans wo_X8_read hk16 hkx (fun _ q => q) (by decide), h⟩ (no_cov hex 103)
  obtain ⟨hk25, h⟩ := hq22
  have h := h hk25
  have hk26 := kp_trans wo_X8_read hk16 hk25 (fun _ q => q) (by decide)
  have hg27 : tg σ23 a0 = 7 := kp_tg hk25 wo_X6_known hg17 (by decide)
  have hg28 : tg σ23 o1 = 3 := kp_tg hk25 wo_X6_known hg18 (by decide)
  refine lv_istore (pc := 106) (lv' := [(4, jI r20), (0, jR X a0), (1, jR X o1), (2, jI v2), (3, jI v3)]) K.x K.b dX8_read_106 hl (by decide) rfl (fun ls hl => ?_)
  refine z_aload_n (pc := 108) K dX8_read_108 rfl (lv_at hl 1 rfl) ?_
  refine z_aload_n (pc := 109) K dX8_read_109 rfl (lv_at hl 2 rfl) ?_
  refine lv_iload_n (pc := 110) K.x K.b dX8_read_110 rfl (lv_at hl 4 rfl) ?_
  refine lv_iload (pc := 111) K.x K.b dX8_read_111 (lv_at hl 0 rfl) ?_
  refine zc_i (pc := 113) (maxL := 4) K hw24 (met_X3_tries X l σ23 o1 v3 r20 hg28 hv3 hr21 _ h) (i_V (n := 2) (t := 3) (As := [jI v3, jI r20]) K hw24 (ob hg28) zq3 (by decide) q983 q912 q913 (sg_of K q914) rfl rfl dX8_read_113) (locw K q914 q94) ⟨by decide, by decide⟩ hl.1 dX8_read_113 (Nat.le_of_ble_eq_true rfl) ⟨Nat.le_refl _, Nat.le_refl _⟩ (fun r29 σ32 _ _ hr30 hq31 hw33 => ?_)
  obtain ⟨hk34, h⟩ := hq31
  have h := h hk34
  have hk35 := kp_trans wo_X8_read hk26 hk34 (fun _ q => q) (by decide)
  have hg36 : tg σ32 a0 = 7 := kp_tg hk34 wo_X3_tries hg27 (by decide)
  have hg37 : tg σ32 o1 = 3 := kp_tg hk34 wo_X3_tries hg28 (by decide)
  refine z_puti (pc := 116) (t := 7) 8 K hw33 (ob hg36) zq7 (by decide) kf_7_8 zt_7_8 hr30 q432 (fun _ h => h) rfl dX8_read_116 (fun _ _ hw38 => ?_)
  obtain ⟨σ39, e40⟩ : ∃ z, z = st σ32 a0 8 0 r29 := ⟨_, rfl⟩
  have h := h σ39 e40
  have hw38 := wc_e e40 hw38
  have hk41 := kp_e e40 hk35 wo_X8_read (by decide) hg36 (t := 7) (by decide)
  have hg42 : tg σ39 a0 = 7 := (tg_e e40 (by decide)).trans hg36
  have hg43 : tg σ39 o1 = 3 := (tg_e e40 (by decide)).trans hg37
  refine z_aload_n (pc := 119) K dX8_read_119 rfl (lv_at hl 1 rfl) ?_
  refine z_get (pc := 120) (t := 7) (k := 8) K hw38 (ob (t := 7) hg42) zq7 (by decide) q432 (fun _ h => h) dX8_read_120 (zval_i kf_7_8) ?_
  refine z_if_le (pc := 123) (tgt := 133) K (z_rI hw38 (ob (t := 7) hg42) kf_7_8) dX8_read_123 (by decide) (fun hc44 => ?_) (fun hc44 => ?_)
  · have h := ite_t h hc44
    refine z_aload_n (pc := 126) K dX8_read_126 rfl (lv_at hl 1 rfl) ?_
    refine z_iconst (pc := 127) K dX8_read_127 ?_
    refine lv_iload_n (pc := 128) K.x K.b dX8_read_128 rfl (lv_at hl 3 rfl) ?_
    refine zc_r (pc := 129) (maxL := 3) K hw38 (met_X6_wrong_7 X l σ39 a0 5 v2 hg42 ⟨by decide, by decide⟩ hv2 _ h) (i_VU (n := 2) (t := 7) (As := [jI 5, jI v2]) (owner := "CombTable$Reader") K hw38 (ob hg42) zq7 (by decide) (by decide) q984 q985 q761 q987 (dcl_of K q761 q767) rfl rfl dX8_read_129) (locw K q767 q97) ⟨by decide, by decide⟩ hl.1 dX8_read_129 (Nat.le_of_ble_eq_true rfl) ⟨Nat.le_refl _, Nat.le_refl _⟩ (fun r45 σ48 _ _ hr46 hq47 hw49 => ?_)
    obtain ⟨hk50, h⟩ := hq47
    have h := h hk50
    have hk51 := kp_trans wo_X8_read hk41 hk50 (fun _ q => q) (by decide)
    have hg52 : tg σ48 a0 = 7 := kp_tg hk50 wo_X6_wrong hg42 (by decide)
    have hg53 : tg σ48 o1 = 3 := kp_tg hk50 wo_X6_wrong hg43 (by decide)
    obtain ⟨hn55, h⟩ := h
    have hg54 : tg σ48 r45 = 2 := okR_nn hn55 (by decide) (by decide) hr46
    exact z_athrow (pc := 132) K hw49 (hw49.1.pos (by rw [hg54]; decide)).1 ⟨hg54, hk51, h⟩ (no_cov hex 132) dX8_read_132
  · have h := ite_f h hc44
    refine z_aload_n (pc := 133) K dX8_read_133 rfl (lv_at hl 1 rfl) ?_
    refine z_bipush (pc := 134) K dX8_read_134 (by decide) ?_
    refine zt_v (pc := 136) (maxL := 2) K hw38 (met_X6_sign_7 X l σ39 a0 59 hg42 ⟨by decide, by decide⟩ _ _ h) (i_VU (n := 1) (t := 7) (As := [jI 59]) (owner := "CombTable$Reader") K hw38 (ob hg42) zq7 (by decide) (by decide) q988 q989 q876 q990 (dcl_of K q876 q877) rfl rfl dX8_read_136) (locw K q877 q97) ⟨by decide, by decide⟩ hl.1 dX8_read_136 (Nat.le_of_ble_eq_true rfl) ⟨Nat.le_refl _, Nat.le_refl _⟩ (fun σ59 _ _ hq58 hw60 => ?_) (fun x σx _ _ hx0 hqx hwx => ?_)
    rotate_left
    · obtain ⟨htx, hkx, h⟩ := hqx
      have h := h hkx
      exact z_out K hwx hx0 ⟨htx, kp_trans wo_X8_read hk41 hkx (fun _ q => q) (by decide), h⟩ (no_cov hex 136)
    obtain ⟨hk61, h⟩ := hq58
    have h := h hk61
    have hk62 := kp_trans wo_X8_read hk41 hk61 (fun _ q => q) (by decide)
    have hg63 : tg σ59 a0 = 7 := kp_tg hk61 wo_X6_sign hg42 (by decide)
    have hg64 : tg σ59 o1 = 3 := kp_tg hk61 wo_X6_sign hg43 (by decide)
    refine z_goto (pc := 139) (tgt := 9) K dX8_read_139 (by decide) ?_
    exact hL9 σ59 _ _ _ h hw60 hk62 hg63 hg64 (lv_sub hl [1, 2] rfl)
set_option maxHeartbeats 4000000 in
theorem wk_X8_read_b60 {X : Cxt} {p : Program} {l : Launch} {e : Env} {s : State} {m : MethodId} {args : Array Value} {below : List Frame} {meth : Method} {c : Code} (a0 : Int) (o1 : Int) (Q : St → Prop) (E : Int → St → Prop) (σ0 : St) (K : MCx X p s m args meth c cX8_read 5 "CombTable$TalkReader" (none)) (hex : c.exceptionTable.isEmpty = true) (L9 : St → Prop) (hL9 : ∀ (σ : St) (H : Heap) (locs : List Loc) (ls : Array Slot), L9 σ → Wc X σ s.heap H locs → Kp ws_X8_read σ0 σ → tg σ a0 = 7 → tg σ o1 = 3 → lv_has ls 5 [(0, jR X a0), (1, jR X o1)] → W p l e (zrm 9 0 0) s m args below meth c H locs 0 0 (MQT below (ZQ X (qV (fun σ' => Kp ws_X8_read σ0 σ' ∧ Q σ')) (fun x σ' => tg σ' x = 2 ∧ Kp ws_X8_read σ0 σ' ∧ E x σ')) args s 0 0 (zA X)) (F0 m 9 ls [])) : ∀ (σ : St) (v2 : Int) (v3 : Int) (s1 : Int) (H : Heap) (locs : List Loc) (ls : Array Slot), wp_X8_read_b60 a0 o1 Q E σ0 L9 σ v2 v3 s1 → Wc X σ s.heap H locs → Kp ws_X8_read σ0 σ → tg σ a0 = 7 → tg σ o1 = 3 → rng v2 → rng v3 → (0 ≤ s1 ∧ s1 ≤ 1) → lv_has ls 5 [(0, jR X a0), (1, jR X o1), (2, jI v2), (3, jI v3)] → W p l e (zrm 9 0 0) s m args below meth c H locs 0 0 (MQT below (ZQ X (qV (fun σ' => Kp ws_X8_read σ0 σ' ∧ Q σ')) (fun x σ' => tg σ' x = 2 ∧ Kp ws_X8_read σ0 σ' ∧ E x σ')) args s 0 0 (zA X)) (F0 m 60 ls [jI s1, jR X a0]) := by
  intro σ v2 v3 s1 H locs ls h hw hk ht0 ht1 hv2 hv3 hs1 hl
  refine z_iconst (pc := 60) K dX8_read_60 ?_
  refine zt_v (pc := 61) (maxL := 3) K hw (met_X6_must_7 X l σ a0 s1 3 ht0 hs1 ⟨by decide, by decide⟩ _ _ h) (i_VU (n := 2) (t := 7) (As := [jI s1, jI 3]) (owner := "CombTable$Reader") K hw (ob ht0) zq7 (by decide) (by decide) q971 q972 q758 q973 (dcl_of K q758 q759) rfl rfl dX8_read_61) (locw K q759 q97) ⟨by decide, by decide⟩ hl.1 dX8_read_61 (Nat.le_of_ble_eq_true rfl) ⟨Nat.le_refl _, Nat.le_refl _⟩ (fun σ4 _ _ hq3 hw5 => ?_) (fun x σx _ _ hx0 hqx hwx => ?_)
  rotate_left
  · obtain ⟨htx, hkx, h⟩ := hqx
    have h := h hkx
    exact z_out K hwx hx0 ⟨htx, kp_trans wo_X8_read hk hkx (fun _ q => q) (by decide), h⟩ (no_cov hex 61)
  obtain ⟨hk6, h⟩ := hq3
  have h := h hk6
  have hk7 := kp_trans wo_X8_read hk hk6 (fun _ q => q) (by decide)
  have hg8 : tg σ4 a0 = 7 := kp_tg hk6 wo_X6_must ht0 (by decide)
  have hg9 : tg σ4 o1 = 3 := kp_tg hk6 wo_X6_must ht1 (by decide)
  refine z_aload_n (pc := 64) K dX8_read_64 rfl (lv_at hl 0 rfl) ?_
  refine z_aload_n (pc := 65) K dX8_read_65 rfl (lv_at hl 1 rfl) ?_
  refine z_getN (pc := 66) (t := 3) (k := 8) K hw5 (ob (t := 3) hg9) zq3 (by decide) q322 (fun _ h => h) dX8_read_66 (zval_i kf_3_8) ?_
  refine z_sipush (pc := 69) K dX8_read_69 (by decide) ?_
  refine z_icmp_ge (pc := 72) (tgt := 79) K (z_rI hw5 (ob (t := 3) hg9) kf_3_8) ⟨by decide, by decide⟩ dX8_read_72 (by decide) (fun hc10 => ?_) (fun hc10 => ?_)
  · have h := ite_t h hc10
    refine z_iconst (pc := 75) K dX8_read_75 ?_
    refine z_goto (pc := 76) (tgt := 80) K dX8_read_76 (by decide) ?_
    exact wk_X8_read_b80 a0 o1 Q E σ0 K hex L9 hL9 σ4 v2 v3 1 _ _ _ h hw5 hk7 hg8 hg9 hv2 hv3 ⟨by decide, by decide⟩ (lv_sub hl [0, 1, 2, 3] rfl)
  · have h := ite_f h hc10
    refine z_iconst (pc := 79) K dX8_read_79 ?_
    exact wk_X8_read_b80 a0 o1 Q E σ0 K hex L9 hL9 σ4 v2 v3 0 _ _ _ h hw5 hk7 hg8 hg9 hv2 hv3 ⟨by decide, by decide⟩ (lv_sub hl [0, 1, 2, 3] rfl)
set_option maxHeartbeats 4000000 in
theorem wk_X8_read_9 {X : Cxt} {p : Program} {l : Launch} {e : Env} {s : State} {m : MethodId} {args : Array Value} {below : List Frame} {meth : Method} {c : Code} (a0 : Int) (o1 : Int) (Q : St → Prop) (E : Int → St → Prop) (σ0 : St) (K : MCx X p s m args meth c cX8_read 5 "CombTable$TalkReader" (none)) (hex : c.exceptionTable.isEmpty = true) : ∀ (n : Nat), ∀ (σ : St) (H : Heap) (locs : List Loc) (ls : Array Slot), lp_X8_read_9 a0 o1 Q E σ0 n σ → Wc X σ s.heap H locs → Kp ws_X8_read σ0 σ → tg σ a0 = 7 → tg σ o1 = 3 → lv_has ls 5 [(0, jR X a0), (1, jR X o1)] → W p l e (zrm 9 0 0) s m args below meth c H locs 0 0 (MQT below (ZQ X (qV (fun σ' => Kp ws_X8_read σ0 σ' ∧ Q σ')) (fun x σ' => tg σ' x = 2 ∧ Kp ws_X8_read σ0 σ' ∧ E x σ')) args s 0 0 (zA X)) (F0 m 9 ls []) := by
  intro n
  induction n with
  | zero => intro σ H locs ls h; exact h.elim
  | succ n ih =>
    intro σ H locs ls h hw hk ht0 ht1 hl
    have h := h hk
    refine z_aload_n (pc := 9) K dX8_read_9 rfl (lv_at hl 0 rfl) ?_
    refine z_get (pc := 10) (t := 7) (k := 3) K hw (ob (t := 7) ht0) zq7 (by decide) q386 (u_same (K.ts _ q387)) dX8_read_10 (zval_i kf_7_3) ?_
    refine z_if_eq (pc := 13) (tgt := 142) K (z_rI hw (ob (t := 7) ht0) kf_7_3) dX8_read_13 (by decide) (fun hc1 => ?_) (fun hc1 => ?_)
    · have h := ite_t h hc1
      exact z_vret (pc := 142) K hw ⟨hk, h⟩ dX8_read_142
    · have h := ite_f h hc1
      refine z_aload_n (pc := 16) K dX8_read_16 rfl (lv_at hl 0 rfl) ?_
      refine z_get (pc := 17) (t := 7) (k := 2) K hw (ob (t := 7) ht0) zq7 (by decide) q383 (u_same (K.ts _ q384)) dX8_read_17 (zval_i kf_7_2) ?_
      refine lv_istore_n (pc := 20) (lv' := [(2, jI (σ a0 2 0)), (0, jR X a0), (1, jR X o1)]) K.x K.b dX8_read_20 rfl hl (by decide) (by simp [jR_cat]) (fun ls hl => ?_)
      refine z_aload_n (pc := 21) K dX8_read_21 rfl (lv_at hl 1 rfl) ?_
      refine z_aload_n (pc := 22) K dX8_read_22 rfl (lv_at hl 1 rfl) ?_
      refine zr_z (pc := 23) (maxL := 1) K hw (met_X6_isName_7 X l σ a0 ht0 _ h) (i_VU (n := 0) (t := 7) (As := []) (owner := "CombTable$Reader") K hw (ob ht0) zq7 (by decide) (by decide) q968 q969 q784 q970 (dcl_of K q784 q785) rfl rfl dX8_read_23) (locw K q785 q97) ⟨by decide, by decide⟩ hl.1 dX8_read_23 (Nat.le_of_ble_eq_true rfl) ⟨Nat.le_refl _, Nat.le_refl _⟩ (fun r2 _ _ hr3 h hw6 => ?_)
      refine z_iconst (pc := 26) K dX8_read_26 ?_
      refine zt_v (pc := 27) (maxL := 3) K hw6 (met_X6_must_7 X l σ a0 r2 1 ht0 hr3 ⟨by decide, by decide⟩ _ _ h) (i_VU (n := 2) (t := 7) (As := [jI r2, jI 1]) (owner := "CombTable$Reader") K hw6 (ob ht0) zq7 (by decide) (by decide) q971 q972 q758 q973 (dcl_of K q758 q759) rfl rfl dX8_read_27) (locw K q759 q97) ⟨by decide, by decide⟩ hl.1 dX8_read_27 (Nat.le_of_ble_eq_true rfl) ⟨Nat.le_refl _, Nat.le_refl _⟩ (fun σ10 _ _ hq9 hw11 => ?_) (fun x σx _ _ hx0 hqx hwx => ?_)
      rotate_left
      · obtain ⟨htx, hkx, h⟩ := hqx
        have h := h hkx
        exact z_out K hwx hx0 ⟨htx, kp_trans wo_X8_read hk hkx (fun _ q => q) (by decide), h⟩ (no_cov hex 27)
      obtain ⟨hk12, h⟩ := hq9
      have h := h hk12
      have hk13 := kp_trans wo_X8_read hk hk12 (fun _ q => q) (by decide)
      have hg14 : tg σ10 a0 = 7 := kp_tg hk12 wo_X6_must ht0 (by decide)
      have hg15 : tg σ10 o1 = 3 := kp_tg hk12 wo_X6_must ht1 (by decide)
      refine z_aload_n (pc := 30) K dX8_read_30 rfl (lv_at hl 1 rfl) ?_
      refine z_aload_n (pc := 31) K dX8_read_31 rfl (lv_at hl 2 rfl) ?_
      refine z_getN (pc := 32) (t := 3) (k := 0) K hw11 (ob (t := 3) hg15) zq3 (by decide) q300 (fun _ h => h) dX8_read_32 (zval_r kf_3_0) ?_
      have hg16 : tg σ10 (σ10 o1 0 0) = 4 := (z_tg (t := 3) (r := 4) hw11 hg15 ⟨by decide, by decide⟩ kf_3_0 kn_3_0 kt_3_0 (by decide) (by decide))
      refine z_getN (pc := 35) (t := 4) (k := 0) K hw11 (ob (t := 4) hg16) zq4 (by decide) q242 (fun _ h => h) dX8_read_35 (zval_p (κ := 5) kf_4_0) ?_
      refine z_aload_n (pc := 38) K dX8_read_38 rfl (lv_at hl 2 rfl) ?_
      refine z_getN (pc := 39) (t := 3) (k := 0) K hw11 (ob (t := 3) hg15) zq3 (by decide) q300 (fun _ h => h) dX8_read_39 (zval_r kf_3_0) ?_
      refine z_getN (pc := 42) (t := 4) (k := 3) K hw11 (ob (t := 4) hg16) zq4 (by decide) q256 (fun _ h => h) dX8_read_42 (zval_i kf_4_3) ?_
      refine zr_i (pc := 45) (maxL := 4) K hw11 (met_X6_of_7_0 X l σ10 a0 (σ10 o1 0 0) 0 8 (σ10 (σ10 o1 0 0) 3 0) hg14 hg16 kf_4_0 kl_4_0 kt_4_0 (z_rI hw11 (ob (t := 4) hg16) kf_4_3) _ h) (i_VU (n := 2) (t := 7) (As := [jR X (σ10 (σ10 o1 0 0) 0 (-1)), jI (σ10 (σ10 o1 0 0) 3 0)]) (owner := "CombTable$Reader") K hw11 (ob hg14) zq7 (by decide) (by decide) q974 q975 q791 q976 (dcl_of K q791 q792) rfl rfl dX8_read_45) (locw K q792 q97) ⟨by decide, by decide⟩ hl.1 dX8_read_45 (Nat.le_of_ble_eq_true rfl) ⟨Nat.le_refl _, Nat.le_refl _⟩ (fun r17 _ _ hr18 h hw21 => ?_)
      refine lv_istore_n (pc := 48) (lv' := [(3, jI r17), (2, jI (σ a0 2 0)), (0, jR X a0), (1, jR X o1)]) K.x K.b dX8_read_48 rfl hl (by decide) rfl (fun ls hl => ?_)
      refine z_aload_n (pc := 49) K dX8_read_49 rfl (lv_at hl 2 rfl) ?_
      refine lv_iload_n (pc := 50) K.x K.b dX8_read_50 rfl (lv_at hl 0 rfl) ?_
      refine z_iconst (pc := 51) K dX8_read_51 ?_
      refine z_icmp_eq (pc := 52) (tgt := 59) K hr18 ⟨by decide, by decide⟩ dX8_read_52 (by decide) (fun hc22 => ?_) (fun hc22 => ?_)
      · have h := ite_t h hc22
        refine z_iconst (pc := 59) K dX8_read_59 ?_
        exact wk_X8_read_b60 a0 o1 Q E σ0 K hex (lp_X8_read_9 a0 o1 Q E σ0 n) ih σ10 (σ a0 2 0) r17 0 _ _ _ h hw21 hk13 hg14 hg15 (z_rI hw (ob (t := 7) ht0) kf_7_2) hr18 ⟨by decide, by decide⟩ (lv_sub hl [2, 3, 1, 0] rfl)
      · have h := ite_f h hc22
        refine z_iconst (pc := 55) K dX8_read_55 ?_
        refine z_goto (pc := 56) (tgt := 60) K dX8_read_56 (by decide) ?_
        exact wk_X8_read_b60 a0 o1 Q E σ0 K hex (lp_X8_read_9 a0 o1 Q E σ0 n) ih σ10 (σ a0 2 0) r17 1 _ _ _ h hw21 hk13 hg14 hg15 (z_rI hw (ob (t := 7) ht0) kf_7_2) hr18 ⟨by decide, by decide⟩ (lv_sub hl [2, 3, 1, 0] rfl)
set_option maxHeartbeats 4000000 in
theorem met_X8_read (X : Cxt) (l : Launch) (σ : St) (a0 : Int) (o1 : Int) (ht0 : tg σ a0 = 7) (ht1 : tg σ o1 = 3) (Q : St → Prop) (E : Int → St → Prop) (h : wp_X8_read σ a0 o1 Q E) : MetT l yX8_read (ws_ yX8_read cX8_read 5 (none)) (zrm 9 0 0) (ZP X σ [jR X a0, jR X o1]) (ZQ X (qV (fun σ' => Kp ws_X8_read σ σ' ∧ Q σ')) (fun x σ' => tg σ' x = 2 ∧ Kp ws_X8_read σ σ' ∧ E x σ')) 0 0 (zA X) := by
  refine z_start (own := "CombTable$TalkReader") (lv := [(0, jR X a0), (1, jR X o1)]) (by decide) rfl (by simp [lv_args, jR_cat, jI_cat, jL_cat]) (by simp [lg_sl, jR_cat, jI_cat, jL_cat]) (fun p e s m below meth c ls K hex _ hw hl => ?_)
  have hk : Kp ws_X8_read σ σ := kp_rf σ
  refine z_aload_n (pc := 0) K dX8_read_0 rfl (lv_at hl 0 rfl) ?_
  refine z_iconst (pc := 1) K dX8_read_1 ?_
  refine z_puti (pc := 2) (t := 7) 8 K hw (ob ht0) zq7 (by decide) kf_7_8 zt_7_8 ⟨by decide, by decide⟩ q432 (fun _ h => h) rfl dX8_read_2 (fun _ _ hw1 => ?_)
  obtain ⟨σ2, e3⟩ : ∃ z, z = st σ a0 8 0 0 := ⟨_, rfl⟩
  have h := h σ2 e3
  have hw1 := wc_e e3 hw1
  have hk4 := kp_e e3 hk wo_X8_read (by decide) ht0 (t := 7) (by decide)
  have hg5 : tg σ2 a0 = 7 := (tg_e e3 (by decide)).trans ht0
  have hg6 : tg σ2 o1 = 3 := (tg_e e3 (by decide)).trans ht1
  refine z_aload_n (pc := 5) K dX8_read_5 rfl (lv_at hl 0 rfl) ?_
  refine zc_v (pc := 6) (maxL := 1) K hw1 (met_X6_begin_7 X l σ2 a0 hg5 _ h) (i_VU (n := 0) (t := 7) (As := []) (owner := "CombTable$Reader") K hw1 (ob hg5) zq7 (by decide) (by decide) q965 q966 q663 q967 (dcl_of K q663 q664) rfl rfl dX8_read_6) (locw K q664 q97) ⟨by decide, by decide⟩ hl.1 dX8_read_6 (Nat.le_of_ble_eq_true rfl) ⟨Nat.le_refl _, Nat.le_refl _⟩ (fun σ10 _ _ hq9 hw11 => ?_)
  obtain ⟨hk12, h⟩ := hq9
  have h := h hk12
  have hk13 := kp_trans wo_X8_read hk4 hk12 (fun _ q => q) (by decide)
  have hg14 : tg σ10 a0 = 7 := kp_tg hk12 wo_X6_begin hg5 (by decide)
  have hg15 : tg σ10 o1 = 3 := kp_tg hk12 wo_X6_begin hg6 (by decide)
  obtain ⟨nf16, h⟩ := h
  exact wk_X8_read_9 a0 o1 Q E σ K hex nf16 σ10 _ _ _ h hw11 hk13 hg14 hg15 (lv_sub hl [0, 1] rfl)
