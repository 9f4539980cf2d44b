/-! printed by gen/walk2.py -/
set_option maxRecDepth 100000
def ws_X1_image : List (Int × Nat) := [(1, 35), (1, 36), (1, 37), (3, 0), (3, 1), (3, 2), (3, 3), (3, 4), (3, 5), (3, 6), (3, 7), (3, 8), (3, 9), (5, 0), (5, 1), (5, 2)]
theorem wo_X1_image : wsOk ws_X1_image = true := rfl
def wp_X1_image_b46 (a0 : Int) (x1 : Int) (Q : Int → St → Int → Prop) (σ0 : St) (σ : St) (cr : Int) : Prop :=
  (0 ≤ x1 ∧ x1 < 2) ∧ (σ a0 35 x1) ≠ -1 ∧ wp_X3_be σ (σ a0 35 x1) (σ a0 8 0) (fun σ8 => Kp ws_X3_be σ σ8 → (σ8 a0 36 x1) ≠ -1 ∧ wp_X5_be σ8 (σ8 a0 36 x1) (σ8 a0 11 0) (fun σ19 => Kp ws_X5_be σ8 σ19 → ∀ σ25 : St, σ25 = st σ19 a0 37 x1 (σ19 a0 34 0) → Q 1 σ25 cr))
def wp_X1_image (σ : St) (a0 : Int) (x1 : Int) (cr : Int) (Q : Int → St → Int → Prop) : Prop :=
  wp_X1_isIn σ x1 0 1 (fun r1 => (if r1 = 0 then
    Q 0 σ cr
    else
    (0 ≤ x1 ∧ x1 < 2) ∧ (if σ a0 35 x1 = -1 then
      10 ≤ cr ∧ ∀ σ12 : St, σ12 = nw σ 3 → wp_X3_init σ12 (nx σ) (cr - 10) (fun σ22 cr24 => Ki (nx σ) σ12 σ22 → tg σ22 (nx σ) = 3 → ∀ σ32 : St, σ32 = st σ22 a0 35 x1 (nx σ) → 3 ≤ cr24 ∧ ∀ σ39 : St, σ39 = nw σ32 5 → wp_X5_init σ39 (nx σ32) (cr24 - 3) (fun σ49 cr51 => Ki (nx σ32) σ39 σ49 → tg σ49 (nx σ32) = 5 → ∀ σ59 : St, σ59 = st σ49 a0 36 x1 (nx σ32) → (wp_X1_image_b46 a0 x1 Q σ σ59 cr51)))
      else
      (wp_X1_image_b46 a0 x1 Q σ σ cr))))
set_option maxHeartbeats 4000000 in
theorem wk_X1_image_b46 {X : Cxt} {p : Program} {l : Launch} {e : Env} {s : State} {m : MethodId} {args : Array Value} {below : List Frame} {meth : Method} {c : Code} {C0 : Nat} (a0 : Int) (x1 : Int) (Q : Int → St → Int → Prop) (σ0 : St) (K : MCx X p s m args meth c cX1_image 2 "CombTable" (some .boolean)) (hx1 : rng x1) : ∀ (σ : St) (cr : Int) (cells slots : Nat) (H : Heap) (locs : List Loc) (ls : Array Slot), wp_X1_image_b46 a0 x1 Q σ0 σ cr → Wc X σ s.heap H locs → Kp ws_X1_image σ0 σ → Cr C0 cells slots cr → tg σ a0 = 1 → lv_has ls 2 [(0, jR X a0), (1, jI x1)] → W p l e (zrm 4 C0 C0) s m args below meth c H locs cells slots (MQA X below C0 (qZA (fun r σ' cr => Kp ws_X1_image σ0 σ' ∧ Q r σ' cr)) (fun _ _ _ => False) args s) (F0 m 46 ls []) := by
  intro σ cr cells slots H locs ls h hw hk hcr ht0 hl
  refine z_aload_n (pc := 46) K dX1_image_46 rfl (lv_at hl 0 rfl) ?_
  refine z_get (pc := 47) (t := 1) (k := 35) K hw (ob (t := 1) ht0) zq1 (by decide) q553 (fun _ h => h) dX1_image_47 (zval_p (κ := 7) kf_1_35) ?_
  refine lv_iload_n (pc := 50) K.x K.b dX1_image_50 rfl (lv_at hl 1 rfl) ?_
  obtain ⟨hj1, h⟩ := h
  refine z_aald (pc := 51) (t := 1) (κ := 7) K hw ht0 ⟨by decide, by decide⟩ kf_1_35 ⟨by decide, by decide⟩ kl_1_35 hj1 (by decide) dX1_image_51 ?_
  refine z_aload_n (pc := 52) K dX1_image_52 rfl (lv_at hl 0 rfl) ?_
  refine z_get (pc := 53) (t := 1) (k := 8) K hw (ob (t := 1) ht0) zq1 (by decide) q524 (fun _ h => h) dX1_image_53 (zval_r kf_1_8) ?_
  obtain ⟨hn3, h⟩ := h
  have hg2 : tg σ (σ a0 35 x1) = 3 := okR_nn hn3 (by decide) (by decide) (z_el (t := 1) (κ := 7) (r := 3) hw ht0 ⟨by decide, by decide⟩ kf_1_35 (by decide) kt_1_35 kl_1_35 hj1)
  have hg4 : tg σ (σ a0 8 0) = 3 := (z_tg (t := 1) (r := 3) hw ht0 ⟨by decide, by decide⟩ kf_1_8 kn_1_8 kt_1_8 (by decide) (by decide))
  refine zc_v (pc := 56) (maxL := 2) K hw (met_X3_be X l σ (σ a0 35 x1) (σ a0 8 0) hg2 hg4 _ h) (i_V (n := 1) (t := 3) (As := [jR X (σ a0 8 0)]) K hw (ob hg2) zq3 (by decide) q991 q992 q993 (sg_of K q994) rfl rfl dX1_image_56) (locw K q994 q94) (zr_ok2A (by decide) (by decide)) hl.1 dX1_image_56 (Nat.le_of_ble_eq_true rfl) (cr_le hcr) (fun σ8 _ _ hq7 hw9 => ?_)
  obtain ⟨hk10, h⟩ := hq7
  have h := h hk10
  have hk11 := kp_trans wo_X1_image hk hk10 (fun _ q => q) (by decide)
  have hg12 : tg σ8 a0 = 1 := kp_tg hk10 wo_X3_be ht0 (by decide)
  refine z_aload_n (pc := 59) K dX1_image_59 rfl (lv_at hl 0 rfl) ?_
  refine z_get (pc := 60) (t := 1) (k := 36) K hw9 (ob (t := 1) hg12) zq1 (by decide) q554 (fun _ h => h) dX1_image_60 (zval_p (κ := 8) kf_1_36) ?_
  refine lv_iload_n (pc := 63) K.x K.b dX1_image_63 rfl (lv_at hl 1 rfl) ?_
  refine z_aald (pc := 64) (t := 1) (κ := 8) K hw9 hg12 ⟨by decide, by decide⟩ kf_1_36 ⟨by decide, by decide⟩ kl_1_36 hj1 (by decide) dX1_image_64 ?_
  refine z_aload_n (pc := 65) K dX1_image_65 rfl (lv_at hl 0 rfl) ?_
  refine z_get (pc := 66) (t := 1) (k := 11) K hw9 (ob (t := 1) hg12) zq1 (by decide) q529 (fun _ h => h) dX1_image_66 (zval_r kf_1_11) ?_
  obtain ⟨hn14, h⟩ := h
  have hg13 : tg σ8 (σ8 a0 36 x1) = 5 := okR_nn hn14 (by decide) (by decide) (z_el (t := 1) (κ := 8) (r := 5) hw9 hg12 ⟨by decide, by decide⟩ kf_1_36 (by decide) kt_1_36 kl_1_36 hj1)
  have hg15 : tg σ8 (σ8 a0 11 0) = 5 := (z_tg (t := 1) (r := 5) hw9 hg12 ⟨by decide, by decide⟩ kf_1_11 kn_1_11 kt_1_11 (by decide) (by decide))
  refine zc_v (pc := 69) (maxL := 2) K hw9 (met_X5_be X l σ8 (σ8 a0 36 x1) (σ8 a0 11 0) hg13 hg15 _ h) (i_V (n := 1) (t := 5) (As := [jR X (σ8 a0 11 0)]) K hw9 (ob hg13) zq5 (by decide) q1062 q1063 q1064 (sg_of K q1065) rfl rfl dX1_image_69) (locw K q1065 q96) (zr_ok2A (by decide) (by decide)) hl.1 dX1_image_69 (Nat.le_of_ble_eq_true rfl) (cr_le hcr) (fun σ19 _ _ hq18 hw20 => ?_)
  obtain ⟨hk21, h⟩ := hq18
  have h := h hk21
  have hk22 := kp_trans wo_X1_image hk11 hk21 (fun _ q => q) (by decide)
  have hg23 : tg σ19 a0 = 1 := kp_tg hk21 wo_X5_be hg12 (by decide)
  refine z_aload_n (pc := 72) K dX1_image_72 rfl (lv_at hl 0 rfl) ?_
  refine z_get (pc := 73) (t := 1) (k := 37) K hw20 (ob (t := 1) hg23) zq1 (by decide) q555 (fun _ h => h) dX1_image_73 (zval_p (κ := 9) kf_1_37) ?_
  refine lv_iload_n (pc := 76) K.x K.b dX1_image_76 rfl (lv_at hl 1 rfl) ?_
  refine z_aload_n (pc := 77) K dX1_image_77 rfl (lv_at hl 0 rfl) ?_
  refine z_get (pc := 78) (t := 1) (k := 34) K hw20 (ob (t := 1) hg23) zq1 (by decide) q552 (fun _ h => h) dX1_image_78 (zval_r kf_1_34) ?_
  refine z_aastC (pc := 81) (t := 1) K hw20 hg23 ⟨by decide, by decide⟩ kf_1_37 kt_1_37 kl_1_37 hj1 (by decide) (z_ok (t := 1) (r := 100) hw20 hg23 ⟨by decide, by decide⟩ kf_1_34 kt_1_34) dX1_image_81 (fun _ _ hw24 => ?_)
  obtain ⟨σ25, e26⟩ : ∃ z, z = st σ19 a0 37 x1 (σ19 a0 34 0) := ⟨_, rfl⟩
  have h := h σ25 e26
  have hw24 := wc_e e26 hw24
  have hk27 := kp_e e26 hk22 wo_X1_image hj1.1 hg23 (t := 1) (by decide)
  have hg28 : tg σ25 a0 = 1 := (tg_e e26 (by decide)).trans hg23
  refine z_iconst (pc := 82) K dX1_image_82 ?_
  exact za_zret (pc := 83) K hw24 hcr ⟨by decide, by decide⟩ ⟨hk27, h⟩ dX1_image_83
set_option maxHeartbeats 4000000 in
theorem met_X1_image (X : Cxt) (l : Launch) (σ : St) (a0 : Int) (x1 : Int) (ht0 : tg σ a0 = 1) (hx1 : rng x1) (cr : Int) (hcr0 : 0 ≤ cr) (Q : Int → St → Int → Prop) (h : wp_X1_image σ a0 x1 cr Q) : MetA X l yX1_image (ws_ yX1_image cX1_image 2 (some .boolean)) 4 cr.toNat (ZP X σ [jR X a0, jI x1]) (qZA (fun r σ' cr => Kp ws_X1_image σ σ' ∧ Q r σ' cr)) (fun _ _ _ => False) := by
  have hcr : Cr cr.toNat 0 0 cr := by unfold Cr; omega
  refine z_startA (own := "CombTable") (lv := [(0, jR X a0), (1, jI x1)]) (by decide) rfl (by simp [lv_args, jR_cat, jI_cat, jL_cat]) (by simp [lg_sl, jR_cat, jI_cat, jL_cat]) (fun p e s m below meth c ls _ K _ _ hw hl => ?_)
  have hk : Kp ws_X1_image σ σ := kp_rf σ
  refine lv_iload_n (pc := 0) K.x K.b dX1_image_0 rfl (lv_at hl 1 rfl) ?_
  refine z_iconst (pc := 1) K dX1_image_1 ?_
  refine z_iconst (pc := 2) K dX1_image_2 ?_
  refine zr_z (pc := 3) (maxL := 3) K hw (met_X1_isIn X l σ x1 0 1 hx1 ⟨by decide, by decide⟩ ⟨by decide, by decide⟩ _ h) (i_S (n := 3) (As := [jI x1, jI 0, jI 1]) K (by decide) q1010 q682 q90 (sg_of K q683) rfl rfl dX1_image_3) (locw K q683 q90) (zr_ok2A (by decide) (by decide)) hl.1 dX1_image_3 (Nat.le_of_ble_eq_true rfl) (cr_le hcr) (fun r1 _ _ hr2 h hw5 => ?_)
  refine z_if_ne (pc := 6) (tgt := 11) K (b01r hr2) dX1_image_6 (by decide) (fun hc6 => ?_) (fun hc6 => ?_)
  · have h := ite_t h hc6
    refine z_iconst (pc := 9) K dX1_image_9 ?_
    exact za_zret (pc := 10) K hw5 hcr ⟨by decide, by decide⟩ ⟨hk, h⟩ dX1_image_10
  · have h := ite_f h hc6
    refine z_aload_n (pc := 11) K dX1_image_11 rfl (lv_at hl 0 rfl) ?_
    refine z_get (pc := 12) (t := 1) (k := 35) K hw5 (ob (t := 1) ht0) zq1 (by decide) q553 (fun _ h => h) dX1_image_12 (zval_p (κ := 7) kf_1_35) ?_
    refine lv_iload_n (pc := 15) K.x K.b dX1_image_15 rfl (lv_at hl 1 rfl) ?_
    obtain ⟨hj7, h⟩ := h
    refine z_aald (pc := 16) (t := 1) (κ := 7) K hw5 ht0 ⟨by decide, by decide⟩ kf_1_35 ⟨by decide, by decide⟩ kl_1_35 hj7 (by decide) dX1_image_16 ?_
    refine z_ifnonnull (pc := 17) (tgt := 46) K dX1_image_17 (by decide) (fun hc8 => ?_) (fun hc8 => ?_)
    · have h := ite_t h hc8
      refine z_aload_n (pc := 20) K dX1_image_20 rfl (lv_at hl 0 rfl) ?_
      refine z_get (pc := 21) (t := 1) (k := 35) K hw5 (ob (t := 1) ht0) zq1 (by decide) q553 (fun _ h => h) dX1_image_21 (zval_p (κ := 7) kf_1_35) ?_
      refine lv_iload_n (pc := 24) K.x K.b dX1_image_24 rfl (lv_at hl 1 rfl) ?_
      obtain ⟨hle9, h⟩ := h
      refine z_new (pc := 25) (t := 3) K hw5 (by decide) zq3 q225 q226 q94 (cr_fit hcr (u := 10) ⟨by decide, by decide⟩ hle9) dX1_image_25 (fun _ hw10 => ?_)
      have hcr11 := cr_new hcr (n := 10) (u := 10) ⟨by decide, by decide⟩ hle9
      obtain ⟨σ12, e13⟩ : ∃ z, z = nw σ 3 := ⟨_, rfl⟩
      have h := h σ12 e13
      have hke14 : Ke σ σ12 := ke_nw hw5 e13
      have hz15 : tg σ (nx σ) = 0 := z0_kp hk wo_X1_image hw5.1.fresh
      have hw10 := wc_e e13 hw10
      have hk16 := kp_ke hk wo_X1_image hke14
      have hg17 : tg σ12 a0 = 1 := ke_tg hke14 ht0 (by decide)
      rw [show σ a0 35 (-1) = σ12 a0 35 (-1) from ke_ptr hke14 ht0 (by decide)]
      have hg18 : tg σ12 (nx σ) = (-3) := tg_nw e13
      refine lv_dup (pc := 28) K.x K.b dX1_image_28 (jR_cat _ _) ?_
      refine zac_v (pc := 29) (maxL := 1) K hw10 (met_X3_init X l σ12 (nx σ) hg18 (cr - 10) hcr11.2.2 _ h) (i_IN (n := 0) (As := []) K (hw10.1.pos (by rw [hg18]; decide)).1 (by decide) rfl q227 q228 q229 rfl rfl dX1_image_29) (locw K q229 q94) (zr_ok2A (by decide) (by decide)) hl.1 dX1_image_29 (by simp [jR_cat, jI_cat, jL_cat]) hcr11 (Int.toNat_of_nonneg hcr11.2.2) ⟨Nat.le_refl _, Nat.le_refl _⟩ (fun σ22 _ _ _ _ cr24 hq21 hw23 hcr25 => ?_)
      obtain ⟨hk26, hg27, h⟩ := hq21
      have h := h hk26 hg27
      have hk28 := kp_ki hk16 wo_X1_image hk26 hz15
      have hg29 : tg σ22 a0 = 1 := ki_tg hk26 hg17 (by decide) hg18 (by decide)
      have hg30 : tg σ22 (nx σ) = 3 := hg27
      rw [show σ12 a0 35 (-1) = σ22 a0 35 (-1) from ki_ptr hk26 hg17 (by decide) hg18 (by decide)]
      refine z_aastT (pc := 32) (t := 1) (κ := 7) (r := 3) K hw23 hg29 ⟨by decide, by decide⟩ kf_1_35 ⟨by decide, by decide⟩ kt_1_35 kl_1_35 hj7 (by decide) ⟨by decide, by decide⟩ hg30 zq3 rfl dX1_image_32 (fun _ _ hw31 => ?_)
      obtain ⟨σ32, e33⟩ : ∃ z, z = st σ22 a0 35 x1 (nx σ) := ⟨_, rfl⟩
      have h := h σ32 e33
      have hw31 := wc_e e33 hw31
      have hk34 := kp_e e33 hk28 wo_X1_image hj7.1 hg29 (t := 1) (by decide)
      have hg35 : tg σ32 a0 = 1 := (tg_e e33 (by decide)).trans hg29
      refine z_aload_n (pc := 33) K dX1_image_33 rfl (lv_at hl 0 rfl) ?_
      refine z_get (pc := 34) (t := 1) (k := 36) K hw31 (ob (t := 1) hg35) zq1 (by decide) q554 (fun _ h => h) dX1_image_34 (zval_p (κ := 8) kf_1_36) ?_
      refine lv_iload_n (pc := 37) K.x K.b dX1_image_37 rfl (lv_at hl 1 rfl) ?_
      obtain ⟨hle36, h⟩ := h
      refine z_new (pc := 38) (t := 5) K hw31 (by decide) zq5 q347 q348 q96 (cr_fit hcr25 (u := 3) ⟨by decide, by decide⟩ hle36) dX1_image_38 (fun _ hw37 => ?_)
      have hcr38 := cr_new hcr25 (n := 3) (u := 3) ⟨by decide, by decide⟩ hle36
      obtain ⟨σ39, e40⟩ : ∃ z, z = nw σ32 5 := ⟨_, rfl⟩
      have h := h σ39 e40
      have hke41 : Ke σ32 σ39 := ke_nw hw31 e40
      have hz42 : tg σ (nx σ32) = 0 := z0_kp hk34 wo_X1_image hw31.1.fresh
      have hw37 := wc_e e40 hw37
      have hk43 := kp_ke hk34 wo_X1_image hke41
      have hg44 : tg σ39 a0 = 1 := ke_tg hke41 hg35 (by decide)
      rw [show σ32 a0 36 (-1) = σ39 a0 36 (-1) from ke_ptr hke41 hg35 (by decide)]
      have hg45 : tg σ39 (nx σ32) = (-5) := tg_nw e40
      refine lv_dup (pc := 41) K.x K.b dX1_image_41 (jR_cat _ _) ?_
      refine zac_v (pc := 42) (maxL := 1) K hw37 (met_X5_init X l σ39 (nx σ32) hg45 (cr24 - 3) hcr38.2.2 _ h) (i_IN (n := 0) (As := []) K (hw37.1.pos (by rw [hg45]; decide)).1 (by decide) rfl q349 q350 q351 rfl rfl dX1_image_42) (locw K q351 q96) (zr_ok2A (by decide) (by decide)) hl.1 dX1_image_42 (by simp [jR_cat, jI_cat, jL_cat]) hcr38 (Int.toNat_of_nonneg hcr38.2.2) ⟨Nat.le_refl _, Nat.le_refl _⟩ (fun σ49 _ _ _ _ cr51 hq48 hw50 hcr52 => ?_)
      obtain ⟨hk53, hg54, h⟩ := hq48
      have h := h hk53 hg54
      have hk55 := kp_ki hk43 wo_X1_image hk53 hz42
      have hg56 : tg σ49 a0 = 1 := ki_tg hk53 hg44 (by decide) hg45 (by decide)
      have hg57 : tg σ49 (nx σ32) = 5 := hg54
      rw [show σ39 a0 36 (-1) = σ49 a0 36 (-1) from ki_ptr hk53 hg44 (by decide) hg45 (by decide)]
      refine z_aastT (pc := 45) (t := 1) (κ := 8) (r := 5) K hw50 hg56 ⟨by decide, by decide⟩ kf_1_36 ⟨by decide, by decide⟩ kt_1_36 kl_1_36 hj7 (by decide) ⟨by decide, by decide⟩ hg57 zq5 rfl dX1_image_45 (fun _ _ hw58 => ?_)
      obtain ⟨σ59, e60⟩ : ∃ z, z = st σ49 a0 36 x1 (nx σ32) := ⟨_, rfl⟩
      have h := h σ59 e60
      have hw58 := wc_e e60 hw58
      have hk61 := kp_e e60 hk55 wo_X1_image hj7.1 hg56 (t := 1) (by decide)
      have hg62 : tg σ59 a0 = 1 := (tg_e e60 (by decide)).trans hg56
      exact wk_X1_image_b46 a0 x1 Q σ K hx1 σ59 cr51 _ _ _ _ _ h hw58 hk61 hcr52 hg62 (lv_sub hl [0, 1] rfl)
    · have h := ite_f h hc8
      exact wk_X1_image_b46 a0 x1 Q σ K hx1 σ cr _ _ _ _ _ h hw5 hk hcr ht0 (lv_sub hl [0, 1] rfl)
def ws_X1_kind : List (Int × Nat) := []
theorem wo_X1_kind : wsOk ws_X1_kind = true := rfl
def wp_X1_kind_b25 (a0 : Int) (x1 : Int) (x2 : Int) (Q : Int → St → Int → Prop) (E : Int → St → Int → Prop) (σ0 : St) (σ : St) (cr : Int) (s0 : Int) : Prop :=
  wp_X1_must σ s0 cr (fun σ4 cr6 => Kp ws_X1_must σ σ4 → (0 ≤ x1 ∧ x1 < 10) ∧ (if x2 = 0 then
    (σ4 (σ4 (σ4 a0 8 0) 0 0) 1 x1) ≠ -1 ∧ Q (σ4 (σ4 (σ4 (σ4 a0 8 0) 0 0) 1 x1) 1 0) σ4 cr6
    else
    (if x2 = 1 then
      (σ4 (σ4 (σ4 a0 8 0) 0 0) 1 x1) ≠ -1 ∧ Q (σ4 (σ4 (σ4 (σ4 a0 8 0) 0 0) 1 x1) 2 0) σ4 cr6
      else
      (if x2 = 2 then
        (σ4 (σ4 (σ4 a0 8 0) 0 0) 1 x1) ≠ -1 ∧ Q (σ4 (σ4 (σ4 (σ4 a0 8 0) 0 0) 1 x1) 3 0) σ4 cr6
        else
        (σ4 (σ4 (σ4 a0 8 0) 0 0) 1 x1) ≠ -1 ∧ Q (σ4 (σ4 (σ4 (σ4 a0 8 0) 0 0) 1 x1) 4 0) σ4 cr6)))) (fun x σx crx => Kp ws_X1_must σ σx → E x σx crx)
def wp_X1_kind_b24 (a0 : Int) (x1 : Int) (x2 : Int) (Q : Int → St → Int → Prop) (E : Int → St → Int → Prop) (σ0 : St) (σ : St) (cr : Int) : Prop :=
  (wp_X1_kind_b25 a0 x1 x2 Q E σ0 σ cr 0)
def wp_X1_kind (σ : St) (a0 : Int) (x1 : Int) (x2 : Int) (cr : Int) (Q : Int → St → Int → Prop) (E : Int → St → Int → Prop) : Prop :=
  wp_X3_isKind σ (σ a0 8 0) x1 (fun r2 => (if r2 = 0 then
    (wp_X1_kind_b24 a0 x1 x2 Q E σ σ cr)
    else
    wp_X1_isIn σ x2 0 3 (fun r8 => (if r8 = 0 then
      (wp_X1_kind_b24 a0 x1 x2 Q E σ σ cr)
      else
      (wp_X1_kind_b25 a0 x1 x2 Q E σ σ cr 1)))))
set_option maxHeartbeats 4000000 in
theorem wk_X1_kind_b25 {X : Cxt} {p : Program} {l : Launch} {e : Env} {s : State} {m : MethodId} {args : Array Value} {below : List Frame} {meth : Method} {c : Code} {C0 : Nat} (a0 : Int) (x1 : Int) (x2 : Int) (Q : Int → St → Int → Prop) (E : Int → St → Int → Prop) (σ0 : St) (K : MCx X p s m args meth c cX1_kind 4 "CombTable" (some .int)) (hex : c.exceptionTable.isEmpty = true) (hfl : l.flags = pinnedFlags ++ [noTraceFlag]) (hx1 : rng x1) (hx2 : rng x2) : ∀ (σ : St) (cr : Int) (s0 : Int) (cells slots : Nat) (H : Heap) (locs : List Loc) (ls : Array Slot), wp_X1_kind_b25 a0 x1 x2 Q E σ0 σ cr s0 → Wc X σ s.heap H locs → Kp ws_X1_kind σ0 σ → Cr C0 cells slots cr → tg σ a0 = 1 → (0 ≤ s0 ∧ s0 ≤ 1) → lv_has ls 4 [(0, jR X a0), (1, jI x1), (2, jI x2)] → W p l e (zrm 7 C0 C0) s m args below meth c H locs cells slots (MQA X below C0 (qIA (fun r σ' cr => Kp ws_X1_kind σ0 σ' ∧ Q r σ' cr)) (fun x σ' cr => tg σ' x = 18 ∧ Kp ws_X1_kind σ0 σ' ∧ E x σ' cr) args s) (F0 m 25 ls [jI s0]) := by
  intro σ cr s0 cells slots H locs ls h hw hk hcr ht0 hs0 hl
  refine zat_v (pc := 25) (maxL := 1) K hw (met_X1_mustA X l hfl σ s0 hs0 cr hcr.2.2 _ _ h) (i_S (n := 1) (As := [jI s0]) K (by decide) q1372 q1373 q90 (sg_of K q1374) rfl rfl dX1_kind_25) (locw K q1374 q90) (zr_ok2A (by decide) (by decide)) hl.1 dX1_kind_25 (by decide) hcr (Int.toNat_of_nonneg hcr.2.2) ⟨Nat.le_refl _, Nat.le_refl _⟩ (fun σ4 _ _ _ _ cr6 hq3 hw5 hcr7 => ?_) (fun x σx _ _ _ _ crx hx0 hqx hwx hcx => ?_)
  rotate_left
  · obtain ⟨htx, hkx, h⟩ := hqx
    have h := h hkx
    exact za_out K hwx hcx hx0 ⟨htx, kp_trans wo_X1_kind hk hkx (fun _ q => q) (by decide), h⟩ (no_cov hex 25)
  obtain ⟨hk8, h⟩ := hq3
  have h := h hk8
  have hk9 := kp_trans wo_X1_kind hk hk8 (fun _ q => q) (by decide)
  have hg10 : tg σ4 a0 = 1 := kp_tg hk8 wo_X1_must ht0 (by decide)
  refine z_aload_n (pc := 28) K dX1_kind_28 rfl (lv_at hl 0 rfl) ?_
  refine z_get (pc := 29) (t := 1) (k := 8) K hw5 (ob (t := 1) hg10) zq1 (by decide) q524 (fun _ h => h) dX1_kind_29 (zval_r kf_1_8) ?_
  have hg11 : tg σ4 (σ4 a0 8 0) = 3 := (z_tg (t := 1) (r := 3) hw5 hg10 ⟨by decide, by decide⟩ kf_1_8 kn_1_8 kt_1_8 (by decide) (by decide))
  refine z_getN (pc := 32) (t := 3) (k := 0) K hw5 (ob (t := 3) hg11) zq3 (by decide) q303 (fun _ h => h) dX1_kind_32 (zval_r kf_3_0) ?_
  have hg12 : tg σ4 (σ4 (σ4 a0 8 0) 0 0) = 4 := (z_tg (t := 3) (r := 4) hw5 hg11 ⟨by decide, by decide⟩ kf_3_0 kn_3_0 kt_3_0 (by decide) (by decide))
  refine z_getN (pc := 35) (t := 4) (k := 1) K hw5 (ob (t := 4) hg12) zq4 (by decide) q253 (fun _ h => h) dX1_kind_35 (zval_p (κ := 6) kf_4_1) ?_
  refine lv_iload_n (pc := 38) K.x K.b dX1_kind_38 rfl (lv_at hl 1 rfl) ?_
  obtain ⟨hj13, h⟩ := h
  refine z_aald (pc := 39) (t := 4) (κ := 6) K hw5 hg12 ⟨by decide, by decide⟩ kf_4_1 ⟨by decide, by decide⟩ kl_4_1 hj13 (by decide) dX1_kind_39 ?_
  refine z_astore_n (pc := 40) (lv' := [(3, jR X (σ4 (σ4 (σ4 a0 8 0) 0 0) 1 x1)), (0, jR X a0), (1, jI x1), (2, jI x2)]) K dX1_kind_40 rfl hl (by decide) rfl (fun ls hl => ?_)
  refine lv_iload_n (pc := 41) K.x K.b dX1_kind_41 rfl (lv_at hl 3 rfl) ?_
  refine z_if_ne (pc := 42) (tgt := 52) K hx2 dX1_kind_42 (by decide) (fun hc14 => ?_) (fun hc14 => ?_)
  · have h := ite_t h hc14
    refine z_aload_n (pc := 45) K dX1_kind_45 rfl (lv_at hl 0 rfl) ?_
    obtain ⟨hn16, h⟩ := h
    have hg15 : tg σ4 (σ4 (σ4 (σ4 a0 8 0) 0 0) 1 x1) = 12 := okR_nn hn16 (by decide) (by decide) (z_el (t := 4) (κ := 6) (r := 12) hw5 hg12 ⟨by decide, by decide⟩ kf_4_1 (by decide) kt_4_1 kl_4_1 hj13)
    refine z_getN (pc := 46) (t := 12) (k := 1) K hw5 (ob (t := 12) hg15) zq12 (by decide) q831 (fun _ h => h) dX1_kind_46 (zval_i kf_12_1) ?_
    refine z_goto (pc := 49) (tgt := 80) K dX1_kind_49 (by decide) ?_
    exact za_iret (pc := 80) K hw5 hcr7 (z_rI hw5 (ob (t := 12) hg15) kf_12_1) ⟨hk9, h⟩ dX1_kind_80
  · have h := ite_f h hc14
    refine lv_iload_n (pc := 52) K.x K.b dX1_kind_52 rfl (lv_at hl 3 rfl) ?_
    refine z_iconst (pc := 53) K dX1_kind_53 ?_
    refine z_icmp_ne (pc := 54) (tgt := 64) K hx2 ⟨by decide, by decide⟩ dX1_kind_54 (by decide) (fun hc17 => ?_) (fun hc17 => ?_)
    · have h := ite_t h hc17
      refine z_aload_n (pc := 57) K dX1_kind_57 rfl (lv_at hl 0 rfl) ?_
      obtain ⟨hn19, h⟩ := h
      have hg18 : tg σ4 (σ4 (σ4 (σ4 a0 8 0) 0 0) 1 x1) = 12 := okR_nn hn19 (by decide) (by decide) (z_el (t := 4) (κ := 6) (r := 12) hw5 hg12 ⟨by decide, by decide⟩ kf_4_1 (by decide) kt_4_1 kl_4_1 hj13)
      refine z_getN (pc := 58) (t := 12) (k := 2) K hw5 (ob (t := 12) hg18) zq12 (by decide) q834 (fun _ h => h) dX1_kind_58 (zval_i kf_12_2) ?_
      refine z_goto (pc := 61) (tgt := 80) K dX1_kind_61 (by decide) ?_
      exact za_iret (pc := 80) K hw5 hcr7 (z_rI hw5 (ob (t := 12) hg18) kf_12_2) ⟨hk9, h⟩ dX1_kind_80
    · have h := ite_f h hc17
      refine lv_iload_n (pc := 64) K.x K.b dX1_kind_64 rfl (lv_at hl 3 rfl) ?_
      refine z_iconst (pc := 65) K dX1_kind_65 ?_
      refine z_icmp_ne (pc := 66) (tgt := 76) K hx2 ⟨by decide, by decide⟩ dX1_kind_66 (by decide) (fun hc20 => ?_) (fun hc20 => ?_)
      · have h := ite_t h hc20
        refine z_aload_n (pc := 69) K dX1_kind_69 rfl (lv_at hl 0 rfl) ?_
        obtain ⟨hn22, h⟩ := h
        have hg21 : tg σ4 (σ4 (σ4 (σ4 a0 8 0) 0 0) 1 x1) = 12 := okR_nn hn22 (by decide) (by decide) (z_el (t := 4) (κ := 6) (r := 12) hw5 hg12 ⟨by decide, by decide⟩ kf_4_1 (by decide) kt_4_1 kl_4_1 hj13)
        refine z_getN (pc := 70) (t := 12) (k := 3) K hw5 (ob (t := 12) hg21) zq12 (by decide) q837 (fun _ h => h) dX1_kind_70 (zval_i kf_12_3) ?_
        refine z_goto (pc := 73) (tgt := 80) K dX1_kind_73 (by decide) ?_
        exact za_iret (pc := 80) K hw5 hcr7 (z_rI hw5 (ob (t := 12) hg21) kf_12_3) ⟨hk9, h⟩ dX1_kind_80
      · have h := ite_f h hc20
        refine z_aload_n (pc := 76) K dX1_kind_76 rfl (lv_at hl 0 rfl) ?_
        obtain ⟨hn24, h⟩ := h
        have hg23 : tg σ4 (σ4 (σ4 (σ4 a0 8 0) 0 0) 1 x1) = 12 := okR_nn hn24 (by decide) (by decide) (z_el (t := 4) (κ := 6) (r := 12) hw5 hg12 ⟨by decide, by decide⟩ kf_4_1 (by decide) kt_4_1 kl_4_1 hj13)
        refine z_getN (pc := 77) (t := 12) (k := 4) K hw5 (ob (t := 12) hg23) zq12 (by decide) q840 (fun _ h => h) dX1_kind_77 (zval_i kf_12_4) ?_
        exact za_iret (pc := 80) K hw5 hcr7 (z_rI hw5 (ob (t := 12) hg23) kf_12_4) ⟨hk9, h⟩ dX1_kind_80
set_option maxHeartbeats 4000000 in
theorem wk_X1_kind_b24 {X : Cxt} {p : Program} {l : Launch} {e : Env} {s : State} {m : MethodId} {args : Array Value} {below : List Frame} {meth : Method} {c : Code} {C0 : Nat} (a0 : Int) (x1 : Int) (x2 : Int) (Q : Int → St → Int → Prop) (E : Int → St → Int → Prop) (σ0 : St) (K : MCx X p s m args meth c cX1_kind 4 "CombTable" (some .int)) (hex : c.exceptionTable.isEmpty = true) (hfl : l.flags = pinnedFlags ++ [noTraceFlag]) (hx1 : rng x1) (hx2 : rng x2) : ∀ (σ : St) (cr : Int) (cells slots : Nat) (H : Heap) (locs : List Loc) (ls : Array Slot), wp_X1_kind_b24 a0 x1 x2 Q E σ0 σ cr → Wc X σ s.heap H locs → Kp ws_X1_kind σ0 σ → Cr C0 cells slots cr → tg σ a0 = 1 → lv_has ls 4 [(0, jR X a0), (1, jI x1), (2, jI x2)] → W p l e (zrm 7 C0 C0) s m args below meth c H locs cells slots (MQA X below C0 (qIA (fun r σ' cr => Kp ws_X1_kind σ0 σ' ∧ Q r σ' cr)) (fun x σ' cr => tg σ' x = 18 ∧ Kp ws_X1_kind σ0 σ' ∧ E x σ' cr) args s) (F0 m 24 ls []) := by
  intro σ cr cells slots H locs ls h hw hk hcr ht0 hl
  refine z_iconst (pc := 24) K dX1_kind_24 ?_
  exact wk_X1_kind_b25 a0 x1 x2 Q E σ0 K hex hfl hx1 hx2 σ cr 0 _ _ _ _ _ h hw hk hcr ht0 ⟨by decide, by decide⟩ (lv_sub hl [0, 1, 2] rfl)
set_option maxHeartbeats 4000000 in
theorem met_X1_kind (X : Cxt) (l : Launch) (hfl : l.flags = pinnedFlags ++ [noTraceFlag]) (σ : St) (a0 : Int) (x1 : Int) (x2 : Int) (ht0 : tg σ a0 = 1) (hx1 : rng x1) (hx2 : rng x2) (cr : Int) (hcr0 : 0 ≤ cr) (Q : Int → St → Int → Prop) (E : Int → St → Int → Prop) (h : wp_X1_kind σ a0 x1 x2 cr Q E) : MetA X l yX1_kind (ws_ yX1_kind cX1_kind 4 (some .int)) 7 cr.toNat (ZP X σ [jR X a0, jI x1, jI x2]) (qIA (fun r σ' cr => Kp ws_X1_kind σ σ' ∧ Q r σ' cr)) (fun x σ' cr => tg σ' x = 18 ∧ Kp ws_X1_kind σ σ' ∧ E x σ' cr) := by
  have hcr : Cr cr.toNat 0 0 cr := by unfold Cr; omega
  refine z_startA (own := "CombTable") (lv := [(0, jR X a0), (1, jI x1), (2, jI x2)]) (by decide) rfl (by simp [lv_args, jR_cat, jI_cat, jL_cat]) (by simp [lg_sl, jR_cat, jI_cat, jL_cat]) (fun p e s m below meth c ls _ K hex _ hw hl => ?_)
  have hk : Kp ws_X1_kind σ σ := kp_rf σ
  refine z_aload_n (pc := 0) K dX1_kind_0 rfl (lv_at hl 0 rfl) ?_
  refine z_get (pc := 1) (t := 1) (k := 8) K hw (ob (t := 1) ht0) zq1 (by decide) q524 (fun _ h => h) dX1_kind_1 (zval_r kf_1_8) ?_
  refine lv_iload_n (pc := 4) K.x K.b dX1_kind_4 rfl (lv_at hl 1 rfl) ?_
  have hg1 : tg σ (σ a0 8 0) = 3 := (z_tg (t := 1) (r := 3) hw ht0 ⟨by decide, by decide⟩ kf_1_8 kn_1_8 kt_1_8 (by decide) (by decide))
  refine zr_z (pc := 5) (maxL := 2) K hw (met_X3_isKind X l σ (σ a0 8 0) x1 hg1 hx1 _ h) (i_V (n := 1) (t := 3) (As := [jI x1]) K hw (ob hg1) zq3 (by decide) q907 q908 q909 (sg_of K q910) rfl rfl dX1_kind_5) (locw K q910 q94) (zr_ok2A (by decide) (by decide)) hl.1 dX1_kind_5 (Nat.le_of_ble_eq_true rfl) (cr_le hcr) (fun r2 _ _ hr3 h hw6 => ?_)
  refine z_if_eq (pc := 8) (tgt := 24) K (b01r hr3) dX1_kind_8 (by decide) (fun hc7 => ?_) (fun hc7 => ?_)
  · have h := ite_t h hc7
    exact wk_X1_kind_b24 a0 x1 x2 Q E σ K hex hfl hx1 hx2 σ cr _ _ _ _ _ h hw6 hk hcr ht0 (lv_sub hl [0, 1, 2] rfl)
  · have h := ite_f h hc7
    refine lv_iload_n (pc := 11) K.x K.b dX1_kind_11 rfl (lv_at hl 2 rfl) ?_
    refine z_iconst (pc := 12) K dX1_kind_12 ?_
    refine z_iconst (pc := 13) K dX1_kind_13 ?_
    refine zr_z (pc := 14) (maxL := 3) K hw6 (met_X1_isIn X l σ x2 0 3 hx2 ⟨by decide, by decide⟩ ⟨by decide, by decide⟩ _ h) (i_S (n := 3) (As := [jI x2, jI 0, jI 3]) K (by decide) q1010 q682 q90 (sg_of K q683) rfl rfl dX1_kind_14) (locw K q683 q90) (zr_ok2A (by decide) (by decide)) hl.1 dX1_kind_14 (Nat.le_of_ble_eq_true rfl) (cr_le hcr) (fun r8 _ _ hr9 h hw12 => ?_)
    refine z_if_eq (pc := 17) (tgt := 24) K (b01r hr9) dX1_kind_17 (by decide) (fun hc13 => ?_) (fun hc13 => ?_)
    · have h := ite_t h hc13
      exact wk_X1_kind_b24 a0 x1 x2 Q E σ K hex hfl hx1 hx2 σ cr _ _ _ _ _ h hw12 hk hcr ht0 (lv_sub hl [0, 1, 2] rfl)
    · have h := ite_f h hc13
      refine z_iconst (pc := 20) K dX1_kind_20 ?_
      refine z_goto (pc := 21) (tgt := 25) K dX1_kind_21 (by decide) ?_
      exact wk_X1_kind_b25 a0 x1 x2 Q E σ K hex hfl hx1 hx2 σ cr 1 _ _ _ _ _ h hw12 hk hcr ht0 ⟨by decide, by decide⟩ (lv_sub hl [0, 1, 2] rfl)
def ws_X1_minutes : List (Int × Nat) := [(1, 1), (1, 2), (1, 17), (2, 6), (2, 7), (5, 0), (5, 1), (5, 2), (6, 1), (6, 2), (6, 3), (6, 4), (6, 5), (6, 6), (7, 1), (7, 2), (7, 3), (7, 4), (7, 5), (7, 6), (8, 1), (8, 2), (8, 3), (8, 4), (8, 5), (8, 6), (8, 8), (9, 1), (9, 2), (9, 3), (9, 4), (9, 5), (9, 6)]
theorem wo_X1_minutes : wsOk ws_X1_minutes = true := rfl
def wp_X1_minutes_b39 (a0 : Int) (Q : Int → St → Int → Prop) (σ0 : St) (σ : St) (cr : Int) (s0 : Int) : Prop :=
  ∀ σ2 : St, σ2 = st σ a0 17 0 (σ s0 6 0) → rng ((-1) - (σ2 s0 7 0)) ∧ Q ((-1) - (σ2 s0 7 0)) σ2 cr
def wp_X1_minutes (σ : St) (a0 : Int) (cr : Int) (Q : Int → St → Int → Prop) : Prop :=
  wp_X1_taken σ a0 (fun σ4 => Kp ws_X1_taken σ σ4 → ∀ σ10 : St, σ10 = st σ4 a0 17 0 0 → wp_X9_read σ10 (σ10 a0 16 0) (σ10 a0 12 0) (fun σ19 => Kp ws_X9_read σ10 σ19 → wp_X5_be σ19 (σ19 a0 11 0) (σ19 a0 12 0) (fun σ30 => Kp ws_X5_be σ19 σ30 → Q (σ30 (σ30 a0 11 0) 2 0) σ30 cr)) (fun x σx => Kp ws_X9_read σ10 σx → (wp_X1_minutes_b39 a0 Q σ σx cr x)))
set_option maxHeartbeats 4000000 in
theorem wk_X1_minutes_b39 {X : Cxt} {p : Program} {l : Launch} {e : Env} {s : State} {m : MethodId} {args : Array Value} {below : List Frame} {meth : Method} {c : Code} {C0 : Nat} (a0 : Int) (Q : Int → St → Int → Prop) (σ0 : St) (K : MCx X p s m args meth c cX1_minutes 2 "CombTable" (some .int)) (hex : c.exceptionTable.toList.map (fun h => (h.startPc, h.endPc, h.handlerPc, h.catchType)) = [(9, 38, 39, 13)]) : ∀ (σ : St) (cr : Int) (s0 : Int) (cells slots : Nat) (H : Heap) (locs : List Loc) (ls : Array Slot), wp_X1_minutes_b39 a0 Q σ0 σ cr s0 → Wc X σ s.heap H locs → Kp ws_X1_minutes σ0 σ → Cr C0 cells slots cr → tg σ a0 = 1 → tg σ s0 = 2 → lv_has ls 2 [(0, jR X a0)] → W p l e (zrm 11 C0 C0) s m args below meth c H locs cells slots (MQA X below C0 (qIA (fun r σ' cr => Kp ws_X1_minutes σ0 σ' ∧ Q r σ' cr)) (fun _ _ _ => False) args s) (F0 m 39 ls [jR X s0]) := by
  intro σ cr s0 cells slots H locs ls h hw hk hcr ht0 hts0 hl
  refine z_astore_n (pc := 39) (lv' := [(1, jR X s0), (0, jR X a0)]) K dX1_minutes_39 rfl hl (by decide) (by simp [jR_cat]) (fun ls hl => ?_)
  refine z_aload_n (pc := 40) K dX1_minutes_40 rfl (lv_at hl 1 rfl) ?_
  refine z_aload_n (pc := 41) K dX1_minutes_41 rfl (lv_at hl 0 rfl) ?_
  refine z_get (pc := 42) (t := 2) (k := 6) K hw (ob (t := 2) hts0) zq2 (by decide) q176 (fun _ h => h) dX1_minutes_42 (zval_i kf_2_6) ?_
  refine z_puti (pc := 45) (t := 1) 17 K hw (ob ht0) zq1 (by decide) kf_1_17 zt_1_17 (z_rI hw (ob (t := 2) hts0) kf_2_6) q535 (fun _ h => h) rfl dX1_minutes_45 (fun _ _ hw1 => ?_)
  obtain ⟨σ2, e3⟩ : ∃ z, z = st σ a0 17 0 (σ s0 6 0) := ⟨_, rfl⟩
  have h := h σ2 e3
  have hw1 := wc_e e3 hw1
  have hk4 := kp_e e3 hk wo_X1_minutes (by decide) ht0 (t := 1) (by decide)
  have hg5 : tg σ2 a0 = 1 := (tg_e e3 (by decide)).trans ht0
  have hg6 : tg σ2 s0 = 2 := (tg_e e3 (by decide)).trans hts0
  refine z_iconst (pc := 48) K dX1_minutes_48 ?_
  refine z_aload_n (pc := 49) K dX1_minutes_49 rfl (lv_at hl 0 rfl) ?_
  refine z_get (pc := 50) (t := 2) (k := 7) K hw1 (ob (t := 2) hg6) zq2 (by decide) q178 (fun _ h => h) dX1_minutes_50 (zval_i kf_2_7) ?_
  refine z_isub (pc := 53) K dX1_minutes_53 ?_
  obtain ⟨hr7, h⟩ := h
  exact za_iret (pc := 54) K hw1 hcr hr7 ⟨hk4, h⟩ dX1_minutes_54
set_option maxHeartbeats 4000000 in
theorem met_X1_minutes (X : Cxt) (l : Launch) (σ : St) (a0 : Int) (ht0 : tg σ a0 = 1) (cr : Int) (hcr0 : 0 ≤ cr) (Q : Int → St → Int → Prop) (h : wp_X1_minutes σ a0 cr Q) : MetA X l yX1_minutes (wsW_ yX1_minutes cX1_minutes 2 (some .int) [(9, 38, 39, 13)]) 11 cr.toNat (ZP X σ [jR X a0]) (qIA (fun r σ' cr => Kp ws_X1_minutes σ σ' ∧ Q r σ' cr)) (fun _ _ _ => False) := by
  have hcr : Cr cr.toNat 0 0 cr := by unfold Cr; omega
  refine z_startAW (own := "CombTable") (lv := [(0, jR X a0)]) (by decide) rfl (by simp [lv_args, jR_cat, jI_cat, jL_cat]) (by simp [lg_sl, jR_cat, jI_cat, jL_cat]) (fun p e s m below meth c ls K hex hw hl => ?_)
  have hk : Kp ws_X1_minutes σ σ := kp_rf σ
  refine z_aload_n (pc := 0) K dX1_minutes_0 rfl (lv_at hl 0 rfl) ?_
  refine zc_v (pc := 1) (maxL := 1) K hw (met_X1_taken X l σ a0 ht0 _ h) (i_V (n := 0) (t := 1) (As := []) K hw (ob ht0) zq1 (by decide) q649 q651 qs2 (sg_of K q652) rfl rfl dX1_minutes_1) (locw K q652 q90) (zr_ok2A (by decide) (by decide)) hl.1 dX1_minutes_1 (Nat.le_of_ble_eq_true rfl) (cr_le hcr) (fun σ4 _ _ hq3 hw5 => ?_)
  obtain ⟨hk6, h⟩ := hq3
  have h := h hk6
  have hk7 := kp_trans wo_X1_minutes hk hk6 (fun _ q => q) (by decide)
  have hg8 : tg σ4 a0 = 1 := kp_tg hk6 wo_X1_taken ht0 (by decide)
  refine z_aload_n (pc := 4) K dX1_minutes_4 rfl (lv_at hl 0 rfl) ?_
  refine z_iconst (pc := 5) K dX1_minutes_5 ?_
  refine z_puti (pc := 6) (t := 1) 17 K hw5 (ob hg8) zq1 (by decide) kf_1_17 zt_1_17 ⟨by decide, by decide⟩ q535 (fun _ h => h) rfl dX1_minutes_6 (fun _ _ hw9 => ?_)
  obtain ⟨σ10, e11⟩ : ∃ z, z = st σ4 a0 17 0 0 := ⟨_, rfl⟩
  have h := h σ10 e11
  have hw9 := wc_e e11 hw9
  have hk12 := kp_e e11 hk7 wo_X1_minutes (by decide) hg8 (t := 1) (by decide)
  have hg13 : tg σ10 a0 = 1 := (tg_e e11 (by decide)).trans hg8
  refine z_aload_n (pc := 9) K dX1_minutes_9 rfl (lv_at hl 0 rfl) ?_
  refine z_get (pc := 10) (t := 1) (k := 16) K hw9 (ob (t := 1) hg13) zq1 (by decide) q534 (fun _ h => h) dX1_minutes_10 (zval_r kf_1_16) ?_
  refine z_aload_n (pc := 13) K dX1_minutes_13 rfl (lv_at hl 0 rfl) ?_
  refine z_get (pc := 14) (t := 1) (k := 12) K hw9 (ob (t := 1) hg13) zq1 (by decide) q530 (fun _ h => h) dX1_minutes_14 (zval_r kf_1_12) ?_
  have hg14 : tg σ10 (σ10 a0 16 0) = 8 := (z_tg (t := 1) (r := 8) hw9 hg13 ⟨by decide, by decide⟩ kf_1_16 kn_1_16 kt_1_16 (by decide) (by decide))
  have hg15 : tg σ10 (σ10 a0 12 0) = 5 := (z_tg (t := 1) (r := 5) hw9 hg13 ⟨by decide, by decide⟩ kf_1_12 kn_1_12 kt_1_12 (by decide) (by decide))
  refine zt_v (pc := 17) (maxL := 2) K hw9 (met_X9_read X l σ10 (σ10 a0 16 0) (σ10 a0 12 0) hg14 hg15 _ _ h) (i_V (n := 1) (t := 8) (As := [jR X (σ10 a0 12 0)]) K hw9 (ob hg14) zq8 (by decide) q1029 q1030 q1031 (sg_of K q1032) rfl rfl dX1_minutes_17) (locw K q1032 q100) (zr_ok2A (by decide) (by decide)) hl.1 dX1_minutes_17 (Nat.le_of_ble_eq_true rfl) (cr_le hcr) (fun σ19 _ _ hq18 hw20 => ?_) (fun x σx _ _ hx0 hqx hwx => ?_)
  rotate_left
  · obtain ⟨htx, hkx, h⟩ := hqx
    have h := h hkx
    have hkx0 := hkx
    have hkx := kp_trans wo_X1_minutes hk12 hkx (fun _ q => q) (by decide)
    have hg22 : tg σx a0 = 1 := kp_tg hkx0 wo_X9_read hg13 (by decide)
    refine z_catch (pc := 17) (t := 2) K hwx (ob htx) zq2 hex rfl (by decide) q129 q131 ?_
    exact wk_X1_minutes_b39 a0 Q σ K hex σx cr x _ _ _ _ _ h hwx hkx hcr hg22 htx (lv_sub hl [0] rfl)
  obtain ⟨hk21, h⟩ := hq18
  have h := h hk21
  have hk23 := kp_trans wo_X1_minutes hk12 hk21 (fun _ q => q) (by decide)
  have hg24 : tg σ19 a0 = 1 := kp_tg hk21 wo_X9_read hg13 (by decide)
  refine z_aload_n (pc := 20) K dX1_minutes_20 rfl (lv_at hl 0 rfl) ?_
  refine z_get (pc := 21) (t := 1) (k := 11) K hw20 (ob (t := 1) hg24) zq1 (by decide) q529 (fun _ h => h) dX1_minutes_21 (zval_r kf_1_11) ?_
  refine z_aload_n (pc := 24) K dX1_minutes_24 rfl (lv_at hl 0 rfl) ?_
  refine z_get (pc := 25) (t := 1) (k := 12) K hw20 (ob (t := 1) hg24) zq1 (by decide) q530 (fun _ h => h) dX1_minutes_25 (zval_r kf_1_12) ?_
  have hg25 : tg σ19 (σ19 a0 11 0) = 5 := (z_tg (t := 1) (r := 5) hw20 hg24 ⟨by decide, by decide⟩ kf_1_11 kn_1_11 kt_1_11 (by decide) (by decide))
  have hg26 : tg σ19 (σ19 a0 12 0) = 5 := (z_tg (t := 1) (r := 5) hw20 hg24 ⟨by decide, by decide⟩ kf_1_12 kn_1_12 kt_1_12 (by decide) (by decide))
  refine zc_v (pc := 28) (maxL := 2) K hw20 (met_X5_be X l σ19 (σ19 a0 11 0) (σ19 a0 12 0) hg25 hg26 _ h) (i_V (n := 1) (t := 5) (As := [jR X (σ19 a0 12 0)]) K hw20 (ob hg25) zq5 (by decide) q1062 q1063 q1064 (sg_of K q1065) rfl rfl dX1_minutes_28) (locw K q1065 q96) (zr_ok2A (by decide) (by decide)) hl.1 dX1_minutes_28 (Nat.le_of_ble_eq_true rfl) (cr_le hcr) (fun σ30 _ _ hq29 hw31 => ?_)
  obtain ⟨hk32, h⟩ := hq29
  have h := h hk32
  have hk33 := kp_trans wo_X1_minutes hk23 hk32 (fun _ q => q) (by decide)
  have hg34 : tg σ30 a0 = 1 := kp_tg hk32 wo_X5_be hg24 (by decide)
  refine z_aload_n (pc := 31) K dX1_minutes_31 rfl (lv_at hl 0 rfl) ?_
  refine z_get (pc := 32) (t := 1) (k := 11) K hw31 (ob (t := 1) hg34) zq1 (by decide) q529 (fun _ h => h) dX1_minutes_32 (zval_r kf_1_11) ?_
  have hg35 : tg σ30 (σ30 a0 11 0) = 5 := (z_tg (t := 1) (r := 5) hw31 hg34 ⟨by decide, by decide⟩ kf_1_11 kn_1_11 kt_1_11 (by decide) (by decide))
  refine z_getN (pc := 35) (t := 5) (k := 2) K hw31 (ob (t := 5) hg35) zq5 (by decide) q361 (fun _ h => h) dX1_minutes_35 (zval_i kf_5_2) ?_
  exact za_iret (pc := 38) K hw31 hcr (z_rI hw31 (ob (t := 5) hg35) kf_5_2) ⟨hk33, h⟩ dX1_minutes_38
def ws_X1_sentence : List (Int × Nat) := [(1, 1), (1, 2), (1, 17), (1, 34), (2, 6), (2, 7), (6, 1), (6, 2), (6, 3), (6, 4), (6, 5), (6, 6), (7, 1), (7, 2), (7, 3), (7, 4), (7, 5), (7, 6), (8, 1), (8, 2), (8, 3), (8, 4), (8, 5), (8, 6), (9, 1), (9, 2), (9, 3), (9, 4), (9, 5), (9, 6), (9, 10)]
theorem wo_X1_sentence : wsOk ws_X1_sentence = true := rfl
def wp_X1_sentence_b28 (a0 : Int) (Q : Int → St → Int → Prop) (σ0 : St) (σ : St) (cr : Int) (s0 : Int) : Prop :=
  ∀ σ2 : St, σ2 = st σ a0 17 0 (σ s0 6 0) → rng ((-1) - (σ2 s0 7 0)) ∧ Q ((-1) - (σ2 s0 7 0)) σ2 cr
def wp_X1_sentence (σ : St) (a0 : Int) (cr : Int) (Q : Int → St → Int → Prop) : Prop :=
  wp_X1_taken σ a0 (fun σ4 => Kp ws_X1_taken σ σ4 → ∀ σ10 : St, σ10 = st σ4 a0 17 0 0 → wp_X10_read σ10 (σ10 a0 33 0) cr (fun r15 σ18 cr20 => Kp ws_X10_read σ10 σ18 → ∀ σ27 : St, σ27 = st σ18 a0 34 0 r15 → Q (σ27 (σ27 a0 33 0) 10 0) σ27 cr20) (fun x σx crx => Kp ws_X10_read σ10 σx → (wp_X1_sentence_b28 a0 Q σ σx crx x)))
set_option maxHeartbeats 4000000 in
theorem wk_X1_sentence_b28 {X : Cxt} {p : Program} {l : Launch} {e : Env} {s : State} {m : MethodId} {args : Array Value} {below : List Frame} {meth : Method} {c : Code} {C0 : Nat} (a0 : Int) (Q : Int → St → Int → Prop) (σ0 : St) (K : MCx X p s m args meth c cX1_sentence 2 "CombTable" (some .int)) (hex : c.exceptionTable.toList.map (fun h => (h.startPc, h.endPc, h.handlerPc, h.catchType)) = [(9, 27, 28, 13)]) : ∀ (σ : St) (cr : Int) (s0 : Int) (cells slots : Nat) (H : Heap) (locs : List Loc) (ls : Array Slot), wp_X1_sentence_b28 a0 Q σ0 σ cr s0 → Wc X σ s.heap H locs → Kp ws_X1_sentence σ0 σ → Cr C0 cells slots cr → tg σ a0 = 1 → tg σ s0 = 2 → lv_has ls 2 [(0, jR X a0)] → W p l e (zrm 74 C0 C0) s m args below meth c H locs cells slots (MQA X below C0 (qIA (fun r σ' cr => Kp ws_X1_sentence σ0 σ' ∧ Q r σ' cr)) (fun _ _ _ => False) args s) (F0 m 28 ls [jR X s0]) := by
  intro σ cr s0 cells slots H locs ls h hw hk hcr ht0 hts0 hl
  refine z_astore_n (pc := 28) (lv' := [(1, jR X s0), (0, jR X a0)]) K dX1_sentence_28 rfl hl (by decide) (by simp [jR_cat]) (fun ls hl => ?_)
  refine z_aload_n (pc := 29) K dX1_sentence_29 rfl (lv_at hl 1 rfl) ?_
  refine z_aload_n (pc := 30) K dX1_sentence_30 rfl (lv_at hl 0 rfl) ?_
  refine z_get (pc := 31) (t := 2) (k := 6) K hw (ob (t := 2) hts0) zq2 (by decide) q176 (fun _ h => h) dX1_sentence_31 (zval_i kf_2_6) ?_
  refine z_puti (pc := 34) (t := 1) 17 K hw (ob ht0) zq1 (by decide) kf_1_17 zt_1_17 (z_rI hw (ob (t := 2) hts0) kf_2_6) q535 (fun _ h => h) rfl dX1_sentence_34 (fun _ _ hw1 => ?_)
  obtain ⟨σ2, e3⟩ : ∃ z, z = st σ a0 17 0 (σ s0 6 0) := ⟨_, rfl⟩
  have h := h σ2 e3
  have hw1 := wc_e e3 hw1
  have hk4 := kp_e e3 hk wo_X1_sentence (by decide) ht0 (t := 1) (by decide)
  have hg5 : tg σ2 a0 = 1 := (tg_e e3 (by decide)).trans ht0
  have hg6 : tg σ2 s0 = 2 := (tg_e e3 (by decide)).trans hts0
  refine z_iconst (pc := 37) K dX1_sentence_37 ?_
  refine z_aload_n (pc := 38) K dX1_sentence_38 rfl (lv_at hl 0 rfl) ?_
  refine z_get (pc := 39) (t := 2) (k := 7) K hw1 (ob (t := 2) hg6) zq2 (by decide) q178 (fun _ h => h) dX1_sentence_39 (zval_i kf_2_7) ?_
  refine z_isub (pc := 42) K dX1_sentence_42 ?_
  obtain ⟨hr7, h⟩ := h
  exact za_iret (pc := 43) K hw1 hcr hr7 ⟨hk4, h⟩ dX1_sentence_43
set_option maxHeartbeats 4000000 in
theorem met_X1_sentence (X : Cxt) (l : Launch) (σ : St) (a0 : Int) (ht0 : tg σ a0 = 1) (cr : Int) (hcr0 : 0 ≤ cr) (Q : Int → St → Int → Prop) (h : wp_X1_sentence σ a0 cr Q) : MetA X l yX1_sentence (wsW_ yX1_sentence cX1_sentence 2 (some .int) [(9, 27, 28, 13)]) 74 cr.toNat (ZP X σ [jR X a0]) (qIA (fun r σ' cr => Kp ws_X1_sentence σ σ' ∧ Q r σ' cr)) (fun _ _ _ => False) := by
  have hcr : Cr cr.toNat 0 0 cr := by unfold Cr; omega
  refine z_startAW (own := "CombTable") (lv := [(0, jR X a0)]) (by decide) rfl (by simp [lv_args, jR_cat, jI_cat, jL_cat]) (by simp [lg_sl, jR_cat, jI_cat, jL_cat]) (fun p e s m below meth c ls K hex hw hl => ?_)
  have hk : Kp ws_X1_sentence σ σ := kp_rf σ
  refine z_aload_n (pc := 0) K dX1_sentence_0 rfl (lv_at hl 0 rfl) ?_
  refine zc_v (pc := 1) (maxL := 1) K hw (met_X1_taken X l σ a0 ht0 _ h) (i_V (n := 0) (t := 1) (As := []) K hw (ob ht0) zq1 (by decide) q649 q651 qs2 (sg_of K q652) rfl rfl dX1_sentence_1) (locw K q652 q90) (zr_ok2A (by decide) (by decide)) hl.1 dX1_sentence_1 (Nat.le_of_ble_eq_true rfl) (cr_le hcr) (fun σ4 _ _ hq3 hw5 => ?_)
  obtain ⟨hk6, h⟩ := hq3
  have h := h hk6
  have hk7 := kp_trans wo_X1_sentence hk hk6 (fun _ q => q) (by decide)
  have hg8 : tg σ4 a0 = 1 := kp_tg hk6 wo_X1_taken ht0 (by decide)
  refine z_aload_n (pc := 4) K dX1_sentence_4 rfl (lv_at hl 0 rfl) ?_
  refine z_iconst (pc := 5) K dX1_sentence_5 ?_
  refine z_puti (pc := 6) (t := 1) 17 K hw5 (ob hg8) zq1 (by decide) kf_1_17 zt_1_17 ⟨by decide, by decide⟩ q535 (fun _ h => h) rfl dX1_sentence_6 (fun _ _ hw9 => ?_)
  obtain ⟨σ10, e11⟩ : ∃ z, z = st σ4 a0 17 0 0 := ⟨_, rfl⟩
  have h := h σ10 e11
  have hw9 := wc_e e11 hw9
  have hk12 := kp_e e11 hk7 wo_X1_sentence (by decide) hg8 (t := 1) (by decide)
  have hg13 : tg σ10 a0 = 1 := (tg_e e11 (by decide)).trans hg8
  refine z_aload_n (pc := 9) K dX1_sentence_9 rfl (lv_at hl 0 rfl) ?_
  refine z_aload_n (pc := 10) K dX1_sentence_10 rfl (lv_at hl 0 rfl) ?_
  refine z_get (pc := 11) (t := 1) (k := 33) K hw9 (ob (t := 1) hg13) zq1 (by decide) q551 (fun _ h => h) dX1_sentence_11 (zval_r kf_1_33) ?_
  have hg14 : tg σ10 (σ10 a0 33 0) = 9 := (z_tg (t := 1) (r := 9) hw9 hg13 ⟨by decide, by decide⟩ kf_1_33 kn_1_33 kt_1_33 (by decide) (by decide))
  refine zat_r (pc := 14) (maxL := 2) K hw9 (met_X10_read X l σ10 (σ10 a0 33 0) hg14 cr hcr.2.2 _ _ h) (i_V (n := 0) (t := 9) (As := []) K hw9 (ob hg14) zq9 (by decide) q1213 q1214 q1215 (sg_of K q1216) rfl rfl dX1_sentence_14) (locw K q1216 q101) (zr_ok2A (by decide) (by decide)) hl.1 dX1_sentence_14 (by simp [jR_cat, jI_cat, jL_cat]) hcr (Int.toNat_of_nonneg hcr.2.2) ⟨Nat.le_refl _, Nat.le_refl _⟩ (fun r15 σ18 _ _ _ _ cr20 hr16 hq17 hw19 hcr21 => ?_) (fun x σx _ _ _ _ crx hx0 hqx hwx hcx => ?_)
  rotate_left
  · obtain ⟨htx, hkx, h⟩ := hqx
    have h := h hkx
    have hkx0 := hkx
    have hkx := kp_trans wo_X1_sentence hk12 hkx (fun _ q => q) (by decide)
    have hg23 : tg σx a0 = 1 := kp_tg hkx0 wo_X10_read hg13 (by decide)
    refine z_catch (pc := 14) (t := 2) K hwx (ob htx) zq2 hex rfl (by decide) q129 q131 ?_
    exact wk_X1_sentence_b28 a0 Q σ K hex σx crx x _ _ _ _ _ h hwx hkx hcx hg23 htx (lv_sub hl [0] rfl)
  obtain ⟨hk22, h⟩ := hq17
  have h := h hk22
  have hk24 := kp_trans wo_X1_sentence hk12 hk22 (fun _ q => q) (by decide)
  have hg25 : tg σ18 a0 = 1 := kp_tg hk22 wo_X10_read hg13 (by decide)
  refine z_putr (pc := 17) (t := 1) 34 K hw19 (ob hg25) zq1 (by decide) kf_1_34 zt_1_34 ((hr16).imp_left (fun q => ⟨q, rfl⟩)) q552 (fun _ h => h) rfl dX1_sentence_17 (fun _ _ hw26 => ?_)
  obtain ⟨σ27, e28⟩ : ∃ z, z = st σ18 a0 34 0 r15 := ⟨_, rfl⟩
  have h := h σ27 e28
  have hw26 := wc_e e28 hw26
  have hk29 := kp_e e28 hk24 wo_X1_sentence (by decide) hg25 (t := 1) (by decide)
  have hg30 : tg σ27 a0 = 1 := (tg_e e28 (by decide)).trans hg25
  refine z_aload_n (pc := 20) K dX1_sentence_20 rfl (lv_at hl 0 rfl) ?_
  refine z_get (pc := 21) (t := 1) (k := 33) K hw26 (ob (t := 1) hg30) zq1 (by decide) q551 (fun _ h => h) dX1_sentence_21 (zval_r kf_1_33) ?_
  have hg31 : tg σ27 (σ27 a0 33 0) = 9 := (z_tg (t := 1) (r := 9) hw26 hg30 ⟨by decide, by decide⟩ kf_1_33 kn_1_33 kt_1_33 (by decide) (by decide))
  refine z_getN (pc := 24) (t := 9) (k := 10) K hw26 (ob (t := 9) hg31) zq9 (by decide) q486 (fun _ h => h) dX1_sentence_24 (zval_i kf_9_10) ?_
  exact za_iret (pc := 27) K hw26 hcr21 (z_rI hw26 (ob (t := 9) hg31) kf_9_10) ⟨hk29, h⟩ dX1_sentence_27
def ws_X1_table : List (Int × Nat) := [(1, 1), (1, 2), (1, 17), (1, 34), (2, 6), (2, 7), (3, 0), (3, 8), (3, 9), (4, 0), (4, 1), (4, 2), (4, 3), (4, 4), (4, 5), (4, 6), (4, 7), (4, 8), (5, 2), (6, 1), (6, 2), (6, 3), (6, 4), (6, 5), (6, 6), (6, 8), (6, 9), (7, 1), (7, 2), (7, 3), (7, 4), (7, 5), (7, 6), (8, 1), (8, 2), (8, 3), (8, 4), (8, 5), (8, 6), (9, 1), (9, 2), (9, 3), (9, 4), (9, 5), (9, 6), (12, 1), (12, 2), (12, 3), (12, 4)]
theorem wo_X1_table : wsOk ws_X1_table = true := rfl
def wp_X1_table_b49 (a0 : Int) (Q : Int → St → Int → Prop) (σ0 : St) (σ : St) (cr : Int) (s0 : Int) : Prop :=
  ∀ σ2 : St, σ2 = st σ a0 17 0 (σ s0 6 0) → rng ((-1) - (σ2 s0 7 0)) ∧ Q ((-1) - (σ2 s0 7 0)) σ2 cr
def wp_X1_table (σ : St) (a0 : Int) (cr : Int) (Q : Int → St → Int → Prop) : Prop :=
  wp_X1_taken σ a0 (fun σ4 => Kp ws_X1_taken σ σ4 → ∀ σ10 : St, σ10 = st σ4 a0 17 0 0 → 9 ≤ cr ∧ ∀ σ17 : St, σ17 = nw σ10 4 → wp_X4_init σ17 (nx σ10) (cr - 9) (fun σ27 cr29 => Ki (nx σ10) σ17 σ27 → tg σ27 (nx σ10) = 4 → wp_X7_read σ27 (σ27 a0 14 0) (nx σ10) cr29 (fun r37 σ40 cr42 => Kp ws_X7_read σ27 σ40 → wp_X3_begin σ40 (σ40 a0 8 0) (nx σ10) (fun σ54 => Kp ws_X3_begin σ40 σ54 → ∀ σ62 : St, σ62 = st σ54 (σ54 a0 11 0) 2 0 0 → ∀ σ68 : St, σ68 = st σ62 a0 34 0 (-1) → Q r37 σ68 cr42)) (fun x σx crx => Kp ws_X7_read σ27 σx → (wp_X1_table_b49 a0 Q σ σx crx x))))
set_option maxHeartbeats 4000000 in
theorem wk_X1_table_b49 {X : Cxt} {p : Program} {l : Launch} {e : Env} {s : State} {m : MethodId} {args : Array Value} {below : List Frame} {meth : Method} {c : Code} {C0 : Nat} (a0 : Int) (Q : Int → St → Int → Prop) (σ0 : St) (K : MCx X p s m args meth c cX1_table 3 "CombTable" (some .int)) (hex : c.exceptionTable.toList.map (fun h => (h.startPc, h.endPc, h.handlerPc, h.catchType)) = [(17, 48, 49, 13)]) : ∀ (σ : St) (cr : Int) (s0 : Int) (cells slots : Nat) (H : Heap) (locs : List Loc) (ls : Array Slot), wp_X1_table_b49 a0 Q σ0 σ cr s0 → Wc X σ s.heap H locs → Kp ws_X1_table σ0 σ → Cr C0 cells slots cr → tg σ a0 = 1 → tg σ s0 = 2 → lv_has ls 3 [(0, jR X a0)] → W p l e (zrm 12 C0 C0) s m args below meth c H locs cells slots (MQA X below C0 (qIA (fun r σ' cr => Kp ws_X1_table σ0 σ' ∧ Q r σ' cr)) (fun _ _ _ => False) args s) (F0 m 49 ls [jR X s0]) := by
  intro σ cr s0 cells slots H locs ls h hw hk hcr ht0 hts0 hl
  refine z_astore_n (pc := 49) (lv' := [(2, jR X s0), (0, jR X a0)]) K dX1_table_49 rfl hl (by decide) rfl (fun ls hl => ?_)
  refine z_aload_n (pc := 50) K dX1_table_50 rfl (lv_at hl 1 rfl) ?_
  refine z_aload_n (pc := 51) K dX1_table_51 rfl (lv_at hl 0 rfl) ?_
  refine z_get (pc := 52) (t := 2) (k := 6) K hw (ob (t := 2) hts0) zq2 (by decide) q176 (fun _ h => h) dX1_table_52 (zval_i kf_2_6) ?_
  refine z_puti (pc := 55) (t := 1) 17 K hw (ob ht0) zq1 (by decide) kf_1_17 zt_1_17 (z_rI hw (ob (t := 2) hts0) kf_2_6) q535 (fun _ h => h) rfl dX1_table_55 (fun _ _ hw1 => ?_)
  obtain ⟨σ2, e3⟩ : ∃ z, z = st σ a0 17 0 (σ s0 6 0) := ⟨_, rfl⟩
  have h := h σ2 e3
  have hw1 := wc_e e3 hw1
  have hk4 := kp_e e3 hk wo_X1_table (by decide) ht0 (t := 1) (by decide)
  have hg5 : tg σ2 a0 = 1 := (tg_e e3 (by decide)).trans ht0
  have hg6 : tg σ2 s0 = 2 := (tg_e e3 (by decide)).trans hts0
  refine z_iconst (pc := 58) K dX1_table_58 ?_
  refine z_aload_n (pc := 59) K dX1_table_59 rfl (lv_at hl 0 rfl) ?_
  refine z_get (pc := 60) (t := 2) (k := 7) K hw1 (ob (t := 2) hg6) zq2 (by decide) q178 (fun _ h => h) dX1_table_60 (zval_i kf_2_7) ?_
  refine z_isub (pc := 63) K dX1_table_63 ?_
  obtain ⟨hr7, h⟩ := h
  exact za_iret (pc := 64) K hw1 hcr hr7 ⟨hk4, h⟩ dX1_table_64
set_option maxHeartbeats 4000000 in
theorem met_X1_table (X : Cxt) (l : Launch) (σ : St) (a0 : Int) (ht0 : tg σ a0 = 1) (cr : Int) (hcr0 : 0 ≤ cr) (Q : Int → St → Int → Prop) (h : wp_X1_table σ a0 cr Q) : MetA X l yX1_table (wsW_ yX1_table cX1_table 3 (some .int) [(17, 48, 49, 13)]) 12 cr.toNat (ZP X σ [jR X a0]) (qIA (fun r σ' cr => Kp ws_X1_table σ σ' ∧ Q r σ' cr)) (fun _ _ _ => False) := by
  have hcr : Cr cr.toNat 0 0 cr := by unfold Cr; omega
  refine z_startAW (own := "CombTable") (lv := [(0, jR X a0)]) (by decide) rfl (by simp [lv_args, jR_cat, jI_cat, jL_cat]) (by simp [lg_sl, jR_cat, jI_cat, jL_cat]) (fun p e s m below meth c ls K hex hw hl => ?_)
  have hk : Kp ws_X1_table σ σ := kp_rf σ
  refine z_aload_n (pc := 0) K dX1_table_0 rfl (lv_at hl 0 rfl) ?_
  refine zc_v (pc := 1) (maxL := 1) K hw (met_X1_taken X l σ a0 ht0 _ h) (i_V (n := 0) (t := 1) (As := []) K hw (ob ht0) zq1 (by decide) q649 q651 qs2 (sg_of K q652) rfl rfl dX1_table_1) (locw K q652 q90) (zr_ok2A (by decide) (by decide)) hl.1 dX1_table_1 (Nat.le_of_ble_eq_true rfl) (cr_le hcr) (fun σ4 _ _ hq3 hw5 => ?_)
  obtain ⟨hk6, h⟩ := hq3
  have h := h hk6
  have hk7 := kp_trans wo_X1_table hk hk6 (fun _ q => q) (by decide)
  have hg8 : tg σ4 a0 = 1 := kp_tg hk6 wo_X1_taken ht0 (by decide)
  refine z_aload_n (pc := 4) K dX1_table_4 rfl (lv_at hl 0 rfl) ?_
  refine z_iconst (pc := 5) K dX1_table_5 ?_
  refine z_puti (pc := 6) (t := 1) 17 K hw5 (ob hg8) zq1 (by decide) kf_1_17 zt_1_17 ⟨by decide, by decide⟩ q535 (fun _ h => h) rfl dX1_table_6 (fun _ _ hw9 => ?_)
  obtain ⟨σ10, e11⟩ : ∃ z, z = st σ4 a0 17 0 0 := ⟨_, rfl⟩
  have h := h σ10 e11
  have hw9 := wc_e e11 hw9
  have hk12 := kp_e e11 hk7 wo_X1_table (by decide) hg8 (t := 1) (by decide)
  have hg13 : tg σ10 a0 = 1 := (tg_e e11 (by decide)).trans hg8
  obtain ⟨hle14, h⟩ := h
  refine z_new (pc := 9) (t := 4) K hw9 (by decide) zq4 q653 q232 q95 (cr_fit hcr (u := 9) ⟨by decide, by decide⟩ hle14) dX1_table_9 (fun _ hw15 => ?_)
  have hcr16 := cr_new hcr (n := 9) (u := 9) ⟨by decide, by decide⟩ hle14
  obtain ⟨σ17, e18⟩ : ∃ z, z = nw σ10 4 := ⟨_, rfl⟩
  have h := h σ17 e18
  have hke19 : Ke σ10 σ17 := ke_nw hw9 e18
  have hz20 : tg σ (nx σ10) = 0 := z0_kp hk12 wo_X1_table hw9.1.fresh
  have hw15 := wc_e e18 hw15
  have hk21 := kp_ke hk12 wo_X1_table hke19
  have hg22 : tg σ17 a0 = 1 := ke_tg hke19 hg13 (by decide)
  have hg23 : tg σ17 (nx σ10) = (-4) := tg_nw e18
  refine lv_dup (pc := 12) K.x K.b dX1_table_12 (jR_cat _ _) ?_
  refine zac_v (pc := 13) (maxL := 1) K hw15 (met_X4_init X l σ17 (nx σ10) hg23 (cr - 9) hcr16.2.2 _ h) (i_IN (n := 0) (As := []) K (hw15.1.pos (by rw [hg23]; decide)).1 (by decide) rfl q654 q234 q235 rfl rfl dX1_table_13) (locw K q235 q95) (zr_ok2A (by decide) (by decide)) hl.1 dX1_table_13 (by simp [jR_cat, jI_cat, jL_cat]) hcr16 (Int.toNat_of_nonneg hcr16.2.2) ⟨Nat.le_refl _, Nat.le_refl _⟩ (fun σ27 _ _ _ _ cr29 hq26 hw28 hcr30 => ?_)
  obtain ⟨hk31, hg32, h⟩ := hq26
  have h := h hk31 hg32
  have hk33 := kp_ki hk21 wo_X1_table hk31 hz20
  have hg34 : tg σ27 a0 = 1 := ki_tg hk31 hg22 (by decide) hg23 (by decide)
  have hg35 : tg σ27 (nx σ10) = 4 := hg32
  refine z_astore_n (pc := 16) (lv' := [(1, jR X (nx σ10)), (0, jR X a0)]) K dX1_table_16 rfl hl (by decide) (by simp [jR_cat]) (fun ls hl => ?_)
  refine z_aload_n (pc := 17) K dX1_table_17 rfl (lv_at hl 1 rfl) ?_
  refine z_get (pc := 18) (t := 1) (k := 14) K hw28 (ob (t := 1) hg34) zq1 (by decide) q532 (fun _ h => h) dX1_table_18 (zval_r kf_1_14) ?_
  refine z_aload_n (pc := 21) K dX1_table_21 rfl (lv_at hl 0 rfl) ?_
  have hg36 : tg σ27 (σ27 a0 14 0) = 6 := (z_tg (t := 1) (r := 6) hw28 hg34 ⟨by decide, by decide⟩ kf_1_14 kn_1_14 kt_1_14 (by decide) (by decide))
  refine zat_i (pc := 22) (maxL := 4) K hw28 (met_X7_read X l σ27 (σ27 a0 14 0) (nx σ10) hg36 hg35 cr29 hcr30.2.2 _ _ h) (i_V (n := 1) (t := 6) (As := [jR X (nx σ10)]) K hw28 (ob hg36) zq6 (by decide) q655 q656 q657 (sg_of K q658) rfl rfl dX1_table_22) (locw K q658 q98) (zr_ok2A (by decide) (by decide)) hl.1 dX1_table_22 (by decide) hcr30 (Int.toNat_of_nonneg hcr30.2.2) ⟨Nat.le_refl _, Nat.le_refl _⟩ (fun r37 σ40 _ _ _ _ cr42 hr38 hq39 hw41 hcr43 => ?_) (fun x σx _ _ _ _ crx hx0 hqx hwx hcx => ?_)
  rotate_left
  · obtain ⟨htx, hkx, h⟩ := hqx
    have h := h hkx
    have hkx0 := hkx
    have hkx := kp_trans wo_X1_table hk33 hkx (fun _ q => q) (by decide)
    have hg45 : tg σx a0 = 1 := kp_tg hkx0 wo_X7_read hg34 (by decide)
    have hg46 : tg σx (nx σ10) = 4 := kp_tg hkx0 wo_X7_read hg35 (by decide)
    refine z_catch (pc := 22) (t := 2) K hwx (ob htx) zq2 hex rfl (by decide) q129 q131 ?_
    exact wk_X1_table_b49 a0 Q σ K hex σx crx x _ _ _ _ _ h hwx hkx hcx hg45 htx (lv_sub hl [1] rfl)
  obtain ⟨hk44, h⟩ := hq39
  have h := h hk44
  have hk47 := kp_trans wo_X1_table hk33 hk44 (fun _ q => q) (by decide)
  have hg48 : tg σ40 a0 = 1 := kp_tg hk44 wo_X7_read hg34 (by decide)
  have hg49 : tg σ40 (nx σ10) = 4 := kp_tg hk44 wo_X7_read hg35 (by decide)
  refine lv_istore_n (pc := 25) (lv' := [(2, jI r37), (1, jR X (nx σ10)), (0, jR X a0)]) K.x K.b dX1_table_25 rfl hl (by decide) (by simp [jR_cat]) (fun ls hl => ?_)
  refine z_aload_n (pc := 26) K dX1_table_26 rfl (lv_at hl 2 rfl) ?_
  refine z_get (pc := 27) (t := 1) (k := 8) K hw41 (ob (t := 1) hg48) zq1 (by decide) q524 (fun _ h => h) dX1_table_27 (zval_r kf_1_8) ?_
  refine z_aload_n (pc := 30) K dX1_table_30 rfl (lv_at hl 1 rfl) ?_
  have hg50 : tg σ40 (σ40 a0 8 0) = 3 := (z_tg (t := 1) (r := 3) hw41 hg48 ⟨by decide, by decide⟩ kf_1_8 kn_1_8 kt_1_8 (by decide) (by decide))
  refine zc_v (pc := 31) (maxL := 2) K hw41 (met_X3_begin X l σ40 (σ40 a0 8 0) (nx σ10) hg50 hg49 _ h) (i_V (n := 1) (t := 3) (As := [jR X (nx σ10)]) K hw41 (ob hg50) zq3 (by decide) q886 q887 q888 (sg_of K q889) rfl rfl dX1_table_31) (locw K q889 q94) (zr_ok2A (by decide) (by decide)) hl.1 dX1_table_31 (Nat.le_of_ble_eq_true rfl) (cr_le hcr43) (fun σ54 _ _ hq53 hw55 => ?_)
  obtain ⟨hk56, h⟩ := hq53
  have h := h hk56
  have hk57 := kp_trans wo_X1_table hk47 hk56 (fun _ q => q) (by decide)
  have hg58 : tg σ54 a0 = 1 := kp_tg hk56 wo_X3_begin hg48 (by decide)
  have hg59 : tg σ54 (nx σ10) = 4 := kp_tg hk56 wo_X3_begin hg49 (by decide)
  refine z_aload_n (pc := 34) K dX1_table_34 rfl (lv_at hl 2 rfl) ?_
  refine z_get (pc := 35) (t := 1) (k := 11) K hw55 (ob (t := 1) hg58) zq1 (by decide) q529 (fun _ h => h) dX1_table_35 (zval_r kf_1_11) ?_
  refine z_iconst (pc := 38) K dX1_table_38 ?_
  have hg60 : tg σ54 (σ54 a0 11 0) = 5 := (z_tg (t := 1) (r := 5) hw55 hg58 ⟨by decide, by decide⟩ kf_1_11 kn_1_11 kt_1_11 (by decide) (by decide))
  refine z_putiN (pc := 39) (t := 5) 2 K hw55 (ob hg60) zq5 (by decide) kf_5_2 zt_5_2 ⟨by decide, by decide⟩ q361 (fun _ h => h) rfl dX1_table_39 (fun _ _ hw61 => ?_)
  obtain ⟨σ62, e63⟩ : ∃ z, z = st σ54 (σ54 a0 11 0) 2 0 0 := ⟨_, rfl⟩
  have h := h σ62 e63
  have hw61 := wc_e e63 hw61
  have hk64 := kp_e e63 hk57 wo_X1_table (by decide) hg60 (t := 5) (by decide)
  have hg65 : tg σ62 a0 = 1 := (tg_e e63 (by decide)).trans hg58
  have hg66 : tg σ62 (nx σ10) = 4 := (tg_e e63 (by decide)).trans hg59
  refine z_aload_n (pc := 42) K dX1_table_42 rfl (lv_at hl 2 rfl) ?_
  refine z_null (pc := 43) K dX1_table_43 ?_
  refine z_putr (pc := 44) (t := 1) 34 K hw61 (ob hg65) zq1 (by decide) kf_1_34 zt_1_34 (Or.inl ⟨rfl, rfl⟩) q552 (fun _ h => h) rfl dX1_table_44 (fun _ _ hw67 => ?_)
  obtain ⟨σ68, e69⟩ : ∃ z, z = st σ62 a0 34 0 (-1) := ⟨_, rfl⟩
  have h := h σ68 e69
  have hw67 := wc_e e69 hw67
  have hk70 := kp_e e69 hk64 wo_X1_table (by decide) hg65 (t := 1) (by decide)
  have hg71 : tg σ68 a0 = 1 := (tg_e e69 (by decide)).trans hg65
  have hg72 : tg σ68 (nx σ10) = 4 := (tg_e e69 (by decide)).trans hg66
  refine lv_iload_n (pc := 47) K.x K.b dX1_table_47 rfl (lv_at hl 0 rfl) ?_
  exact za_iret (pc := 48) K hw67 hcr43 hr38 ⟨hk70, h⟩ dX1_table_48
def ws_X1_talk : List (Int × Nat) := [(1, 1), (1, 2), (1, 17), (1, 18), (2, 6), (2, 7), (3, 0), (3, 1), (3, 2), (3, 3), (3, 4), (3, 5), (3, 6), (3, 7), (3, 8), (3, 9), (6, 1), (6, 2), (6, 3), (6, 4), (6, 5), (6, 6), (7, 1), (7, 2), (7, 3), (7, 4), (7, 5), (7, 6), (7, 8), (8, 1), (8, 2), (8, 3), (8, 4), (8, 5), (8, 6), (9, 1), (9, 2), (9, 3), (9, 4), (9, 5), (9, 6)]
theorem wo_X1_talk : wsOk ws_X1_talk = true := rfl
def wp_X1_talk_b87 (a0 : Int) (Q : Int → St → Int → Prop) (σ0 : St) (σ : St) (cr : Int) (v1 : Int) (s1 : Int) : Prop :=
  ∀ σ2 : St, σ2 = st σ a0 18 0 s1 → rng ((-1) - (σ2 v1 7 0)) ∧ Q ((-1) - (σ2 v1 7 0)) σ2 cr
def wp_X1_talk_b58 (a0 : Int) (Q : Int → St → Int → Prop) (σ0 : St) (σ : St) (cr : Int) (s0 : Int) : Prop :=
  ∀ σ2 : St, σ2 = st σ a0 17 0 (σ s0 6 0) → (if σ2 s0 6 0 = 5 then
    (wp_X1_talk_b87 a0 Q σ0 σ2 cr s0 (σ2 (σ2 a0 15 0) 8 0))
    else
    (wp_X1_talk_b87 a0 Q σ0 σ2 cr s0 0))
def wp_X1_talk (σ : St) (a0 : Int) (cr : Int) (Q : Int → St → Int → Prop) : Prop :=
  wp_X1_taken σ a0 (fun σ4 => Kp ws_X1_taken σ σ4 → ∀ σ10 : St, σ10 = st σ4 a0 17 0 0 → ∀ σ15 : St, σ15 = st σ10 a0 18 0 0 → wp_X3_begin σ15 (σ15 a0 9 0) (σ15 (σ15 a0 8 0) 0 0) (fun σ25 => Kp ws_X3_begin σ15 σ25 → wp_X8_read σ25 (σ25 a0 15 0) (σ25 a0 9 0) (fun σ35 => Kp ws_X8_read σ25 σ35 → wp_X3_be σ35 (σ35 a0 8 0) (σ35 a0 9 0) (fun σ46 => Kp ws_X3_be σ35 σ46 → Q (σ46 (σ46 a0 8 0) 8 0) σ46 cr)) (fun x σx => Kp ws_X8_read σ25 σx → (wp_X1_talk_b58 a0 Q σ σx cr x))))
set_option maxHeartbeats 4000000 in
theorem wk_X1_talk_b87 {X : Cxt} {p : Program} {l : Launch} {e : Env} {s : State} {m : MethodId} {args : Array Value} {below : List Frame} {meth : Method} {c : Code} {C0 : Nat} (a0 : Int) (Q : Int → St → Int → Prop) (σ0 : St) (K : MCx X p s m args meth c cX1_talk 2 "CombTable" (some .int)) (hex : c.exceptionTable.toList.map (fun h => (h.startPc, h.endPc, h.handlerPc, h.catchType)) = [(28, 57, 58, 13)]) : ∀ (σ : St) (cr : Int) (v1 : Int) (s1 : Int) (cells slots : Nat) (H : Heap) (locs : List Loc) (ls : Array Slot), wp_X1_talk_b87 a0 Q σ0 σ cr v1 s1 → Wc X σ s.heap H locs → Kp ws_X1_talk σ0 σ → Cr C0 cells slots cr → tg σ v1 = 2 → tg σ a0 = 1 → rng s1 → lv_has ls 2 [(1, jR X v1)] → W p l e (zrm 10 C0 C0) s m args below meth c H locs cells slots (MQA X below C0 (qIA (fun r σ' cr => Kp ws_X1_talk σ0 σ' ∧ Q r σ' cr)) (fun _ _ _ => False) args s) (F0 m 87 ls [jI s1, jR X a0]) := by
  intro σ cr v1 s1 cells slots H locs ls h hw hk hcr htv1 hts0 hs1 hl
  refine z_puti (pc := 87) (t := 1) 18 K hw (ob hts0) zq1 (by decide) kf_1_18 zt_1_18 hs1 q536 (fun _ h => h) rfl dX1_talk_87 (fun _ _ hw1 => ?_)
  obtain ⟨σ2, e3⟩ : ∃ z, z = st σ a0 18 0 s1 := ⟨_, rfl⟩
  have h := h σ2 e3
  have hw1 := wc_e e3 hw1
  have hk4 := kp_e e3 hk wo_X1_talk (by decide) hts0 (t := 1) (by decide)
  have hg5 : tg σ2 v1 = 2 := (tg_e e3 (by decide)).trans htv1
  refine z_iconst (pc := 90) K dX1_talk_90 ?_
  refine z_aload_n (pc := 91) K dX1_talk_91 rfl (lv_at hl 0 rfl) ?_
  refine z_get (pc := 92) (t := 2) (k := 7) K hw1 (ob (t := 2) hg5) zq2 (by decide) q178 (fun _ h => h) dX1_talk_92 (zval_i kf_2_7) ?_
  refine z_isub (pc := 95) K dX1_talk_95 ?_
  obtain ⟨hr6, h⟩ := h
  exact za_iret (pc := 96) K hw1 hcr hr6 ⟨hk4, h⟩ dX1_talk_96
set_option maxHeartbeats 4000000 in
theorem wk_X1_talk_b58 {X : Cxt} {p : Program} {l : Launch} {e : Env} {s : State} {m : MethodId} {args : Array Value} {below : List Frame} {meth : Method} {c : Code} {C0 : Nat} (a0 : Int) (Q : Int → St → Int → Prop) (σ0 : St) (K : MCx X p s m args meth c cX1_talk 2 "CombTable" (some .int)) (hex : c.exceptionTable.toList.map (fun h => (h.startPc, h.endPc, h.handlerPc, h.catchType)) = [(28, 57, 58, 13)]) : ∀ (σ : St) (cr : Int) (s0 : Int) (cells slots : Nat) (H : Heap) (locs : List Loc) (ls : Array Slot), wp_X1_talk_b58 a0 Q σ0 σ cr s0 → Wc X σ s.heap H locs → Kp ws_X1_talk σ0 σ → Cr C0 cells slots cr → tg σ a0 = 1 → tg σ s0 = 2 → lv_has ls 2 [(0, jR X a0)] → W p l e (zrm 10 C0 C0) s m args below meth c H locs cells slots (MQA X below C0 (qIA (fun r σ' cr => Kp ws_X1_talk σ0 σ' ∧ Q r σ' cr)) (fun _ _ _ => False) args s) (F0 m 58 ls [jR X s0]) := by
  intro σ cr s0 cells slots H locs ls h hw hk hcr ht0 hts0 hl
  refine z_astore_n (pc := 58) (lv' := [(1, jR X s0), (0, jR X a0)]) K dX1_talk_58 rfl hl (by decide) (by simp [jR_cat]) (fun ls hl => ?_)
  refine z_aload_n (pc := 59) K dX1_talk_59 rfl (lv_at hl 1 rfl) ?_
  refine z_aload_n (pc := 60) K dX1_talk_60 rfl (lv_at hl 0 rfl) ?_
  refine z_get (pc := 61) (t := 2) (k := 6) K hw (ob (t := 2) hts0) zq2 (by decide) q176 (fun _ h => h) dX1_talk_61 (zval_i kf_2_6) ?_
  refine z_puti (pc := 64) (t := 1) 17 K hw (ob ht0) zq1 (by decide) kf_1_17 zt_1_17 (z_rI hw (ob (t := 2) hts0) kf_2_6) q535 (fun _ h => h) rfl dX1_talk_64 (fun _ _ hw1 => ?_)
  obtain ⟨σ2, e3⟩ : ∃ z, z = st σ a0 17 0 (σ s0 6 0) := ⟨_, rfl⟩
  have h := h σ2 e3
  have hw1 := wc_e e3 hw1
  have hk4 := kp_e e3 hk wo_X1_talk (by decide) ht0 (t := 1) (by decide)
  have hg5 : tg σ2 a0 = 1 := (tg_e e3 (by decide)).trans ht0
  have hg6 : tg σ2 s0 = 2 := (tg_e e3 (by decide)).trans hts0
  refine z_aload_n (pc := 67) K dX1_talk_67 rfl (lv_at hl 1 rfl) ?_
  refine z_aload_n (pc := 68) K dX1_talk_68 rfl (lv_at hl 0 rfl) ?_
  refine z_get (pc := 69) (t := 2) (k := 6) K hw1 (ob (t := 2) hg6) zq2 (by decide) q176 (fun _ h => h) dX1_talk_69 (zval_i kf_2_6) ?_
  refine z_iconst (pc := 72) K dX1_talk_72 ?_
  refine z_icmp_ne (pc := 73) (tgt := 86) K (z_rI hw1 (ob (t := 2) hg6) kf_2_6) ⟨by decide, by decide⟩ dX1_talk_73 (by decide) (fun hc7 => ?_) (fun hc7 => ?_)
  · have h := ite_t h hc7
    refine z_aload_n (pc := 76) K dX1_talk_76 rfl (lv_at hl 1 rfl) ?_
    refine z_get (pc := 77) (t := 1) (k := 15) K hw1 (ob (t := 1) hg5) zq1 (by decide) q533 (fun _ h => h) dX1_talk_77 (zval_r kf_1_15) ?_
    have hg8 : tg σ2 (σ2 a0 15 0) = 7 := (z_tg (t := 1) (r := 7) hw1 hg5 ⟨by decide, by decide⟩ kf_1_15 kn_1_15 kt_1_15 (by decide) (by decide))
    refine z_get (pc := 80) (t := 7) (k := 8) K hw1 (ob (t := 7) hg8) zq7 (by decide) q433 (fun _ h => h) dX1_talk_80 (zval_i kf_7_8) ?_
    refine z_goto (pc := 83) (tgt := 87) K dX1_talk_83 (by decide) ?_
    exact wk_X1_talk_b87 a0 Q σ0 K hex σ2 cr s0 (σ2 (σ2 a0 15 0) 8 0) _ _ _ _ _ h hw1 hk4 hcr hg6 hg5 (z_rI hw1 (ob (t := 7) hg8) kf_7_8) (lv_sub hl [0] rfl)
  · have h := ite_f h hc7
    refine z_iconst (pc := 86) K dX1_talk_86 ?_
    exact wk_X1_talk_b87 a0 Q σ0 K hex σ2 cr s0 0 _ _ _ _ _ h hw1 hk4 hcr hg6 hg5 ⟨by decide, by decide⟩ (lv_sub hl [0] rfl)
set_option maxHeartbeats 4000000 in
theorem met_X1_talk (X : Cxt) (l : Launch) (σ : St) (a0 : Int) (ht0 : tg σ a0 = 1) (cr : Int) (hcr0 : 0 ≤ cr) (Q : Int → St → Int → Prop) (h : wp_X1_talk σ a0 cr Q) : MetA X l yX1_talk (wsW_ yX1_talk cX1_talk 2 (some .int) [(28, 57, 58, 13)]) 10 cr.toNat (ZP X σ [jR X a0]) (qIA (fun r σ' cr => Kp ws_X1_talk σ σ' ∧ Q r σ' cr)) (fun _ _ _ => False) := by
  have hcr : Cr cr.toNat 0 0 cr := by unfold Cr; omega
  refine z_startAW (own := "CombTable") (lv := [(0, jR X a0)]) (by decide) rfl (by simp [lv_args, jR_cat, jI_cat, jL_cat]) (by simp [lg_sl, jR_cat, jI_cat, jL_cat]) (fun p e s m below meth c ls K hex hw hl => ?_)
  have hk : Kp ws_X1_talk σ σ := kp_rf σ
  refine z_aload_n (pc := 0) K dX1_talk_0 rfl (lv_at hl 0 rfl) ?_
  refine zc_v (pc := 1) (maxL := 1) K hw (met_X1_taken X l σ a0 ht0 _ h) (i_V (n := 0) (t := 1) (As := []) K hw (ob ht0) zq1 (by decide) q649 q651 qs2 (sg_of K q652) rfl rfl dX1_talk_1) (locw K q652 q90) (zr_ok2A (by decide) (by decide)) hl.1 dX1_talk_1 (Nat.le_of_ble_eq_true rfl) (cr_le hcr) (fun σ4 _ _ hq3 hw5 => ?_)
  obtain ⟨hk6, h⟩ := hq3
  have h := h hk6
  have hk7 := kp_trans wo_X1_talk hk hk6 (fun _ q => q) (by decide)
  have hg8 : tg σ4 a0 = 1 := kp_tg hk6 wo_X1_taken ht0 (by decide)
  refine z_aload_n (pc := 4) K dX1_talk_4 rfl (lv_at hl 0 rfl) ?_
  refine z_iconst (pc := 5) K dX1_talk_5 ?_
  refine z_puti (pc := 6) (t := 1) 17 K hw5 (ob hg8) zq1 (by decide) kf_1_17 zt_1_17 ⟨by decide, by decide⟩ q535 (fun _ h => h) rfl dX1_talk_6 (fun _ _ hw9 => ?_)
  obtain ⟨σ10, e11⟩ : ∃ z, z = st σ4 a0 17 0 0 := ⟨_, rfl⟩
  have h := h σ10 e11
  have hw9 := wc_e e11 hw9
  have hk12 := kp_e e11 hk7 wo_X1_talk (by decide) hg8 (t := 1) (by decide)
  have hg13 : tg σ10 a0 = 1 := (tg_e e11 (by decide)).trans hg8
  refine z_aload_n (pc := 9) K dX1_talk_9 rfl (lv_at hl 0 rfl) ?_
  refine z_iconst (pc := 10) K dX1_talk_10 ?_
  refine z_puti (pc := 11) (t := 1) 18 K hw9 (ob hg13) zq1 (by decide) kf_1_18 zt_1_18 ⟨by decide, by decide⟩ q536 (fun _ h => h) rfl dX1_talk_11 (fun _ _ hw14 => ?_)
  obtain ⟨σ15, e16⟩ : ∃ z, z = st σ10 a0 18 0 0 := ⟨_, rfl⟩
  have h := h σ15 e16
  have hw14 := wc_e e16 hw14
  have hk17 := kp_e e16 hk12 wo_X1_talk (by decide) hg13 (t := 1) (by decide)
  have hg18 : tg σ15 a0 = 1 := (tg_e e16 (by decide)).trans hg13
  refine z_aload_n (pc := 14) K dX1_talk_14 rfl (lv_at hl 0 rfl) ?_
  refine z_get (pc := 15) (t := 1) (k := 9) K hw14 (ob (t := 1) hg18) zq1 (by decide) q527 (fun _ h => h) dX1_talk_15 (zval_r kf_1_9) ?_
  refine z_aload_n (pc := 18) K dX1_talk_18 rfl (lv_at hl 0 rfl) ?_
  refine z_get (pc := 19) (t := 1) (k := 8) K hw14 (ob (t := 1) hg18) zq1 (by decide) q524 (fun _ h => h) dX1_talk_19 (zval_r kf_1_8) ?_
  have hg19 : tg σ15 (σ15 a0 8 0) = 3 := (z_tg (t := 1) (r := 3) hw14 hg18 ⟨by decide, by decide⟩ kf_1_8 kn_1_8 kt_1_8 (by decide) (by decide))
  refine z_getN (pc := 22) (t := 3) (k := 0) K hw14 (ob (t := 3) hg19) zq3 (by decide) q303 (fun _ h => h) dX1_talk_22 (zval_r kf_3_0) ?_
  have hg20 : tg σ15 (σ15 a0 9 0) = 3 := (z_tg (t := 1) (r := 3) hw14 hg18 ⟨by decide, by decide⟩ kf_1_9 kn_1_9 kt_1_9 (by decide) (by decide))
  have hg21 : tg σ15 (σ15 (σ15 a0 8 0) 0 0) = 4 := (z_tg (t := 3) (r := 4) hw14 hg19 ⟨by decide, by decide⟩ kf_3_0 kn_3_0 kt_3_0 (by decide) (by decide))
  refine zc_v (pc := 25) (maxL := 2) K hw14 (met_X3_begin X l σ15 (σ15 a0 9 0) (σ15 (σ15 a0 8 0) 0 0) hg20 hg21 _ h) (i_V (n := 1) (t := 3) (As := [jR X (σ15 (σ15 a0 8 0) 0 0)]) K hw14 (ob hg20) zq3 (by decide) q886 q887 q888 (sg_of K q889) rfl rfl dX1_talk_25) (locw K q889 q94) (zr_ok2A (by decide) (by decide)) hl.1 dX1_talk_25 (Nat.le_of_ble_eq_true rfl) (cr_le hcr) (fun σ25 _ _ hq24 hw26 => ?_)
  obtain ⟨hk27, h⟩ := hq24
  have h := h hk27
  have hk28 := kp_trans wo_X1_talk hk17 hk27 (fun _ q => q) (by decide)
  have hg29 : tg σ25 a0 = 1 := kp_tg hk27 wo_X3_begin hg18 (by decide)
  refine z_aload_n (pc := 28) K dX1_talk_28 rfl (lv_at hl 0 rfl) ?_
  refine z_get (pc := 29) (t := 1) (k := 15) K hw26 (ob (t := 1) hg29) zq1 (by decide) q533 (fun _ h => h) dX1_talk_29 (zval_r kf_1_15) ?_
  refine z_aload_n (pc := 32) K dX1_talk_32 rfl (lv_at hl 0 rfl) ?_
  refine z_get (pc := 33) (t := 1) (k := 9) K hw26 (ob (t := 1) hg29) zq1 (by decide) q527 (fun _ h => h) dX1_talk_33 (zval_r kf_1_9) ?_
  have hg30 : tg σ25 (σ25 a0 15 0) = 7 := (z_tg (t := 1) (r := 7) hw26 hg29 ⟨by decide, by decide⟩ kf_1_15 kn_1_15 kt_1_15 (by decide) (by decide))
  have hg31 : tg σ25 (σ25 a0 9 0) = 3 := (z_tg (t := 1) (r := 3) hw26 hg29 ⟨by decide, by decide⟩ kf_1_9 kn_1_9 kt_1_9 (by decide) (by decide))
  refine zt_v (pc := 36) (maxL := 5) K hw26 (met_X8_read X l σ25 (σ25 a0 15 0) (σ25 a0 9 0) hg30 hg31 _ _ h) (i_V (n := 1) (t := 7) (As := [jR X (σ25 a0 9 0)]) K hw26 (ob hg30) zq7 (by decide) q961 q962 q963 (sg_of K q964) rfl rfl dX1_talk_36) (locw K q964 q99) (zr_ok2A (by decide) (by decide)) hl.1 dX1_talk_36 (Nat.le_of_ble_eq_true rfl) (cr_le hcr) (fun σ35 _ _ hq34 hw36 => ?_) (fun x σx _ _ hx0 hqx hwx => ?_)
  rotate_left
  · obtain ⟨htx, hkx, h⟩ := hqx
    have h := h hkx
    have hkx0 := hkx
    have hkx := kp_trans wo_X1_talk hk28 hkx (fun _ q => q) (by decide)
    have hg38 : tg σx a0 = 1 := kp_tg hkx0 wo_X8_read hg29 (by decide)
    refine z_catch (pc := 36) (t := 2) K hwx (ob htx) zq2 hex rfl (by decide) q129 q131 ?_
    exact wk_X1_talk_b58 a0 Q σ K hex σx cr x _ _ _ _ _ h hwx hkx hcr hg38 htx (lv_sub hl [0] rfl)
  obtain ⟨hk37, h⟩ := hq34
  have h := h hk37
  have hk39 := kp_trans wo_X1_talk hk28 hk37 (fun _ q => q) (by decide)
  have hg40 : tg σ35 a0 = 1 := kp_tg hk37 wo_X8_read hg29 (by decide)
  refine z_aload_n (pc := 39) K dX1_talk_39 rfl (lv_at hl 0 rfl) ?_
  refine z_get (pc := 40) (t := 1) (k := 8) K hw36 (ob (t := 1) hg40) zq1 (by decide) q524 (fun _ h => h) dX1_talk_40 (zval_r kf_1_8) ?_
  refine z_aload_n (pc := 43) K dX1_talk_43 rfl (lv_at hl 0 rfl) ?_
  refine z_get (pc := 44) (t := 1) (k := 9) K hw36 (ob (t := 1) hg40) zq1 (by decide) q527 (fun _ h => h) dX1_talk_44 (zval_r kf_1_9) ?_
  have hg41 : tg σ35 (σ35 a0 8 0) = 3 := (z_tg (t := 1) (r := 3) hw36 hg40 ⟨by decide, by decide⟩ kf_1_8 kn_1_8 kt_1_8 (by decide) (by decide))
  have hg42 : tg σ35 (σ35 a0 9 0) = 3 := (z_tg (t := 1) (r := 3) hw36 hg40 ⟨by decide, by decide⟩ kf_1_9 kn_1_9 kt_1_9 (by decide) (by decide))
  refine zc_v (pc := 47) (maxL := 2) K hw36 (met_X3_be X l σ35 (σ35 a0 8 0) (σ35 a0 9 0) hg41 hg42 _ h) (i_V (n := 1) (t := 3) (As := [jR X (σ35 a0 9 0)]) K hw36 (ob hg41) zq3 (by decide) q991 q992 q993 (sg_of K q994) rfl rfl dX1_talk_47) (locw K q994 q94) (zr_ok2A (by decide) (by decide)) hl.1 dX1_talk_47 (Nat.le_of_ble_eq_true rfl) (cr_le hcr) (fun σ46 _ _ hq45 hw47 => ?_)
  obtain ⟨hk48, h⟩ := hq45
  have h := h hk48
  have hk49 := kp_trans wo_X1_talk hk39 hk48 (fun _ q => q) (by decide)
  have hg50 : tg σ46 a0 = 1 := kp_tg hk48 wo_X3_be hg40 (by decide)
  refine z_aload_n (pc := 50) K dX1_talk_50 rfl (lv_at hl 0 rfl) ?_
  refine z_get (pc := 51) (t := 1) (k := 8) K hw47 (ob (t := 1) hg50) zq1 (by decide) q524 (fun _ h => h) dX1_talk_51 (zval_r kf_1_8) ?_
  have hg51 : tg σ46 (σ46 a0 8 0) = 3 := (z_tg (t := 1) (r := 3) hw47 hg50 ⟨by decide, by decide⟩ kf_1_8 kn_1_8 kt_1_8 (by decide) (by decide))
  refine z_getN (pc := 54) (t := 3) (k := 8) K hw47 (ob (t := 3) hg51) zq3 (by decide) q323 (fun _ h => h) dX1_talk_54 (zval_i kf_3_8) ?_
  exact za_iret (pc := 57) K hw47 hcr (z_rI hw47 (ob (t := 3) hg51) kf_3_8) ⟨hk49, h⟩ dX1_talk_57
def ws_X1_word : List (Int × Nat) := []
theorem wo_X1_word : wsOk ws_X1_word = true := rfl
def wp_X1_word_b46 (a0 : Int) (x1 : Int) (x2 : Int) (Q : Int → St → Int → Prop) (E : Int → St → Int → Prop) (σ0 : St) (σ : St) (cr : Int) (s0 : Int) : Prop :=
  (if x2 = 0 then
    (0 ≤ x1 ∧ x1 < 400) ∧ Q (σ (σ a0 8 0) 1 x1) σ cr
    else
    (if x2 = 1 then
      (0 ≤ x1 ∧ x1 < 400) ∧ Q (σ (σ a0 8 0) 2 x1) σ cr
      else
      (if x2 = 2 then
        (0 ≤ x1 ∧ x1 < 400) ∧ Q (σ (σ a0 8 0) 3 x1) σ cr
        else
        (if x2 = 3 then
          (0 ≤ x1 ∧ x1 < 400) ∧ Q (σ (σ a0 8 0) 4 x1) σ cr
          else
          (if x2 = 4 then
            (0 ≤ x1 ∧ x1 < 400) ∧ Q (σ (σ a0 8 0) 5 x1) σ cr
            else
            (if x2 = 5 then
              wp_X3_stateOf σ (σ a0 8 0) x1 (fun r18 => Q r18 σ cr)
              else
              (if x2 = 6 then
                (if s0 = 0 then
                  Q (-1) σ cr
                  else
                  wp_X3_to σ (σ a0 8 0) x1 (fun r26 => Q r26 σ cr))
                else
                (if s0 = 0 then
                  Q (-1) σ cr
                  else
                  wp_X3_kindOf σ (σ a0 8 0) x1 (fun r33 => r33 ≠ -1 ∧ rng (x1 + (σ r33 3 0)) ∧ Q (x1 + (σ r33 3 0)) σ cr)))))))))
def wp_X1_word_b23 (a0 : Int) (x1 : Int) (x2 : Int) (Q : Int → St → Int → Prop) (E : Int → St → Int → Prop) (σ0 : St) (σ : St) (cr : Int) (s0 : Int) : Prop :=
  wp_X1_must σ s0 cr (fun σ4 cr6 => Kp ws_X1_must σ σ4 → wp_X3_kindOf σ4 (σ4 a0 8 0) x1 (fun r12 => r12 ≠ -1 ∧ (if σ4 r12 2 0 = 2 then
    (wp_X1_word_b46 a0 x1 x2 Q E σ0 σ4 cr6 1)
    else
    (wp_X1_word_b46 a0 x1 x2 Q E σ0 σ4 cr6 0)))) (fun x σx crx => Kp ws_X1_must σ σx → E x σx crx)
def wp_X1_word_b22 (a0 : Int) (x1 : Int) (x2 : Int) (Q : Int → St → Int → Prop) (E : Int → St → Int → Prop) (σ0 : St) (σ : St) (cr : Int) : Prop :=
  (wp_X1_word_b23 a0 x1 x2 Q E σ0 σ cr 0)
def wp_X1_word (σ : St) (a0 : Int) (x1 : Int) (x2 : Int) (cr : Int) (Q : Int → St → Int → Prop) (E : Int → St → Int → Prop) : Prop :=
  wp_X1_isWord σ a0 x1 (fun r1 => (if r1 = 0 then
    (wp_X1_word_b22 a0 x1 x2 Q E σ σ cr)
    else
    wp_X1_isIn σ x2 0 7 (fun r7 => (if r7 = 0 then
      (wp_X1_word_b22 a0 x1 x2 Q E σ σ cr)
      else
      (wp_X1_word_b23 a0 x1 x2 Q E σ σ cr 1)))))
set_option maxHeartbeats 4000000 in
theorem wk_X1_word_b46 {X : Cxt} {p : Program} {l : Launch} {e : Env} {s : State} {m : MethodId} {args : Array Value} {below : List Frame} {meth : Method} {c : Code} {C0 : Nat} (a0 : Int) (x1 : Int) (x2 : Int) (Q : Int → St → Int → Prop) (E : Int → St → Int → Prop) (σ0 : St) (K : MCx X p s m args meth c cX1_word 4 "CombTable" (some .int)) (hex : c.exceptionTable.isEmpty = true) (hfl : l.flags = pinnedFlags ++ [noTraceFlag]) (hx1 : rng x1) (hx2 : rng x2) : ∀ (σ : St) (cr : Int) (s0 : Int) (cells slots : Nat) (H : Heap) (locs : List Loc) (ls : Array Slot), wp_X1_word_b46 a0 x1 x2 Q E σ0 σ cr s0 → Wc X σ s.heap H locs → Kp ws_X1_word σ0 σ → Cr C0 cells slots cr → tg σ a0 = 1 → (0 ≤ s0 ∧ s0 ≤ 1) → lv_has ls 4 [(0, jR X a0), (1, jI x1), (2, jI x2)] → W p l e (zrm 7 C0 C0) s m args below meth c H locs cells slots (MQA X below C0 (qIA (fun r σ' cr => Kp ws_X1_word σ0 σ' ∧ Q r σ' cr)) (fun x σ' cr => tg σ' x = 18 ∧ Kp ws_X1_word σ0 σ' ∧ E x σ' cr) args s) (F0 m 46 ls [jI s0]) := by
  intro σ cr s0 cells slots H locs ls h hw hk hcr ht0 hs0 hl
  refine lv_istore_n (pc := 46) (lv' := [(3, jI s0), (0, jR X a0), (1, jI x1), (2, jI x2)]) K.x K.b dX1_word_46 rfl hl (by decide) rfl (fun ls hl => ?_)
  refine lv_iload_n (pc := 47) K.x K.b dX1_word_47 rfl (lv_at hl 3 rfl) ?_
  by_cases hc1 : x2 = 0
  · have h := ite_t h hc1
    refine lv_tableIn (pc := 48) (tgt := 92) K.x K.b dX1_word_48 (by rw [rng_ofInt hx2]; omega) (by rw [rng_ofInt hx2]; omega) (off := 44) (by rw [rng_ofInt hx2, hc1]; rfl) (by decide) ?_
    refine z_aload_n (pc := 92) K dX1_word_92 rfl (lv_at hl 1 rfl) ?_
    refine z_get (pc := 93) (t := 1) (k := 8) K hw (ob (t := 1) ht0) zq1 (by decide) q524 (fun _ h => h) dX1_word_93 (zval_r kf_1_8) ?_
    have hg2 : tg σ (σ a0 8 0) = 3 := (z_tg (t := 1) (r := 3) hw ht0 ⟨by decide, by decide⟩ kf_1_8 kn_1_8 kt_1_8 (by decide) (by decide))
    refine z_getN (pc := 96) (t := 3) (k := 1) K hw (ob (t := 3) hg2) zq3 (by decide) q306 (fun _ h => h) dX1_word_96 (zval_p (κ := 1) kf_3_1) ?_
    refine lv_iload_n (pc := 99) K.x K.b dX1_word_99 rfl (lv_at hl 2 rfl) ?_
    obtain ⟨hj3, h⟩ := h
    refine z_iald (pc := 100) (t := 3) K hw hg2 ⟨by decide, by decide⟩ kf_3_1 kl_3_1 hj3 (by decide) dX1_word_100 ?_
    exact za_iret (pc := 101) K hw hcr (z_elI (t := 3) hw hg2 ⟨by decide, by decide⟩ kf_3_1 kl_3_1 hj3) ⟨hk, h⟩ dX1_word_101
  · have h := ite_f h hc1
    by_cases hc4 : x2 = 1
    · have h := ite_t h hc4
      refine lv_tableIn (pc := 48) (tgt := 102) K.x K.b dX1_word_48 (by rw [rng_ofInt hx2]; omega) (by rw [rng_ofInt hx2]; omega) (off := 54) (by rw [rng_ofInt hx2, hc4]; rfl) (by decide) ?_
      refine z_aload_n (pc := 102) K dX1_word_102 rfl (lv_at hl 1 rfl) ?_
      refine z_get (pc := 103) (t := 1) (k := 8) K hw (ob (t := 1) ht0) zq1 (by decide) q524 (fun _ h => h) dX1_word_103 (zval_r kf_1_8) ?_
      have hg5 : tg σ (σ a0 8 0) = 3 := (z_tg (t := 1) (r := 3) hw ht0 ⟨by decide, by decide⟩ kf_1_8 kn_1_8 kt_1_8 (by decide) (by decide))
      refine z_getN (pc := 106) (t := 3) (k := 2) K hw (ob (t := 3) hg5) zq3 (by decide) q309 (fun _ h => h) dX1_word_106 (zval_p (κ := 1) kf_3_2) ?_
      refine lv_iload_n (pc := 109) K.x K.b dX1_word_109 rfl (lv_at hl 2 rfl) ?_
      obtain ⟨hj6, h⟩ := h
      refine z_iald (pc := 110) (t := 3) K hw hg5 ⟨by decide, by decide⟩ kf_3_2 kl_3_2 hj6 (by decide) dX1_word_110 ?_
      exact za_iret (pc := 111) K hw hcr (z_elI (t := 3) hw hg5 ⟨by decide, by decide⟩ kf_3_2 kl_3_2 hj6) ⟨hk, h⟩ dX1_word_111
    · have h := ite_f h hc4
      by_cases hc7 : x2 = 2
      · have h := ite_t h hc7
        refine lv_tableIn (pc := 48) (tgt := 112) K.x K.b dX1_word_48 (by rw [rng_ofInt hx2]; omega) (by rw [rng_ofInt hx2]; omega) (off := 64) (by rw [rng_ofInt hx2, hc7]; rfl) (by decide) ?_
        refine z_aload_n (pc := 112) K dX1_word_112 rfl (lv_at hl 1 rfl) ?_
        refine z_get (pc := 113) (t := 1) (k := 8) K hw (ob (t := 1) ht0) zq1 (by decide) q524 (fun _ h => h) dX1_word_113 (zval_r kf_1_8) ?_
        have hg8 : tg σ (σ a0 8 0) = 3 := (z_tg (t := 1) (r := 3) hw ht0 ⟨by decide, by decide⟩ kf_1_8 kn_1_8 kt_1_8 (by decide) (by decide))
        refine z_getN (pc := 116) (t := 3) (k := 3) K hw (ob (t := 3) hg8) zq3 (by decide) q312 (fun _ h => h) dX1_word_116 (zval_p (κ := 1) kf_3_3) ?_
        refine lv_iload_n (pc := 119) K.x K.b dX1_word_119 rfl (lv_at hl 2 rfl) ?_
        obtain ⟨hj9, h⟩ := h
        refine z_iald (pc := 120) (t := 3) K hw hg8 ⟨by decide, by decide⟩ kf_3_3 kl_3_3 hj9 (by decide) dX1_word_120 ?_
        exact za_iret (pc := 121) K hw hcr (z_elI (t := 3) hw hg8 ⟨by decide, by decide⟩ kf_3_3 kl_3_3 hj9) ⟨hk, h⟩ dX1_word_121
      · have h := ite_f h hc7
        by_cases hc10 : x2 = 3
        · have h := ite_t h hc10
          refine lv_tableIn (pc := 48) (tgt := 122) K.x K.b dX1_word_48 (by rw [rng_ofInt hx2]; omega) (by rw [rng_ofInt hx2]; omega) (off := 74) (by rw [rng_ofInt hx2, hc10]; rfl) (by decide) ?_
          refine z_aload_n (pc := 122) K dX1_word_122 rfl (lv_at hl 1 rfl) ?_
          refine z_get (pc := 123) (t := 1) (k := 8) K hw (ob (t := 1) ht0) zq1 (by decide) q524 (fun _ h => h) dX1_word_123 (zval_r kf_1_8) ?_
          have hg11 : tg σ (σ a0 8 0) = 3 := (z_tg (t := 1) (r := 3) hw ht0 ⟨by decide, by decide⟩ kf_1_8 kn_1_8 kt_1_8 (by decide) (by decide))
          refine z_getN (pc := 126) (t := 3) (k := 4) K hw (ob (t := 3) hg11) zq3 (by decide) q315 (fun _ h => h) dX1_word_126 (zval_p (κ := 1) kf_3_4) ?_
          refine lv_iload_n (pc := 129) K.x K.b dX1_word_129 rfl (lv_at hl 2 rfl) ?_
          obtain ⟨hj12, h⟩ := h
          refine z_iald (pc := 130) (t := 3) K hw hg11 ⟨by decide, by decide⟩ kf_3_4 kl_3_4 hj12 (by decide) dX1_word_130 ?_
          exact za_iret (pc := 131) K hw hcr (z_elI (t := 3) hw hg11 ⟨by decide, by decide⟩ kf_3_4 kl_3_4 hj12) ⟨hk, h⟩ dX1_word_131
        · have h := ite_f h hc10
          by_cases hc13 : x2 = 4
          · have h := ite_t h hc13
            refine lv_tableIn (pc := 48) (tgt := 132) K.x K.b dX1_word_48 (by rw [rng_ofInt hx2]; omega) (by rw [rng_ofInt hx2]; omega) (off := 84) (by rw [rng_ofInt hx2, hc13]; rfl) (by decide) ?_
            refine z_aload_n (pc := 132) K dX1_word_132 rfl (lv_at hl 1 rfl) ?_
            refine z_get (pc := 133) (t := 1) (k := 8) K hw (ob (t := 1) ht0) zq1 (by decide) q524 (fun _ h => h) dX1_word_133 (zval_r kf_1_8) ?_
            have hg14 : tg σ (σ a0 8 0) = 3 := (z_tg (t := 1) (r := 3) hw ht0 ⟨by decide, by decide⟩ kf_1_8 kn_1_8 kt_1_8 (by decide) (by decide))
            refine z_getN (pc := 136) (t := 3) (k := 5) K hw (ob (t := 3) hg14) zq3 (by decide) q318 (fun _ h => h) dX1_word_136 (zval_p (κ := 1) kf_3_5) ?_
            refine lv_iload_n (pc := 139) K.x K.b dX1_word_139 rfl (lv_at hl 2 rfl) ?_
            obtain ⟨hj15, h⟩ := h
            refine z_iald (pc := 140) (t := 3) K hw hg14 ⟨by decide, by decide⟩ kf_3_5 kl_3_5 hj15 (by decide) dX1_word_140 ?_
            exact za_iret (pc := 141) K hw hcr (z_elI (t := 3) hw hg14 ⟨by decide, by decide⟩ kf_3_5 kl_3_5 hj15) ⟨hk, h⟩ dX1_word_141
          · have h := ite_f h hc13
            by_cases hc16 : x2 = 5
            · have h := ite_t h hc16
              refine lv_tableIn (pc := 48) (tgt := 142) K.x K.b dX1_word_48 (by rw [rng_ofInt hx2]; omega) (by rw [rng_ofInt hx2]; omega) (off := 94) (by rw [rng_ofInt hx2, hc16]; rfl) (by decide) ?_
              refine z_aload_n (pc := 142) K dX1_word_142 rfl (lv_at hl 1 rfl) ?_
              refine z_get (pc := 143) (t := 1) (k := 8) K hw (ob (t := 1) ht0) zq1 (by decide) q524 (fun _ h => h) dX1_word_143 (zval_r kf_1_8) ?_
              refine lv_iload_n (pc := 146) K.x K.b dX1_word_146 rfl (lv_at hl 2 rfl) ?_
              have hg17 : tg σ (σ a0 8 0) = 3 := (z_tg (t := 1) (r := 3) hw ht0 ⟨by decide, by decide⟩ kf_1_8 kn_1_8 kt_1_8 (by decide) (by decide))
              refine zr_i (pc := 147) (maxL := 2) K hw (met_X3_stateOf X l σ (σ a0 8 0) x1 hg17 hx1 _ h) (i_V (n := 1) (t := 3) (As := [jI x1]) K hw (ob hg17) zq3 (by decide) q1015 q1016 q1017 (sg_of K q1018) rfl rfl dX1_word_147) (locw K q1018 q94) (zr_ok2A (by decide) (by decide)) hl.1 dX1_word_147 (Nat.le_of_ble_eq_true rfl) (cr_le hcr) (fun r18 _ _ hr19 h hw22 => ?_)
              exact za_iret (pc := 150) K hw22 hcr hr19 ⟨hk, h⟩ dX1_word_150
            · have h := ite_f h hc16
              by_cases hc23 : x2 = 6
              · have h := ite_t h hc23
                refine lv_tableIn (pc := 48) (tgt := 151) K.x K.b dX1_word_48 (by rw [rng_ofInt hx2]; omega) (by rw [rng_ofInt hx2]; omega) (off := 103) (by rw [rng_ofInt hx2, hc23]; rfl) (by decide) ?_
                refine lv_iload_n (pc := 151) K.x K.b dX1_word_151 rfl (lv_at hl 0 rfl) ?_
                refine z_if_eq (pc := 152) (tgt := 166) K (b01r hs0) dX1_word_152 (by decide) (fun hc24 => ?_) (fun hc24 => ?_)
                · have h := ite_t h hc24
                  refine z_iconst (pc := 166) K dX1_word_166 ?_
                  exact za_iret (pc := 167) K hw hcr ⟨by decide, by decide⟩ ⟨hk, h⟩ dX1_word_167
                · have h := ite_f h hc24
                  refine z_aload_n (pc := 155) K dX1_word_155 rfl (lv_at hl 1 rfl) ?_
                  refine z_get (pc := 156) (t := 1) (k := 8) K hw (ob (t := 1) ht0) zq1 (by decide) q524 (fun _ h => h) dX1_word_156 (zval_r kf_1_8) ?_
                  refine lv_iload_n (pc := 159) K.x K.b dX1_word_159 rfl (lv_at hl 2 rfl) ?_
                  have hg25 : tg σ (σ a0 8 0) = 3 := (z_tg (t := 1) (r := 3) hw ht0 ⟨by decide, by decide⟩ kf_1_8 kn_1_8 kt_1_8 (by decide) (by decide))
                  refine zr_i (pc := 160) (maxL := 2) K hw (met_X3_to X l σ (σ a0 8 0) x1 hg25 hx1 _ h) (i_V (n := 1) (t := 3) (As := [jI x1]) K hw (ob hg25) zq3 (by decide) q1024 q933 q934 (sg_of K q935) rfl rfl dX1_word_160) (locw K q935 q94) (zr_ok2A (by decide) (by decide)) hl.1 dX1_word_160 (Nat.le_of_ble_eq_true rfl) (cr_le hcr) (fun r26 _ _ hr27 h hw30 => ?_)
                  refine z_goto (pc := 163) (tgt := 167) K dX1_word_163 (by decide) ?_
                  exact za_iret (pc := 167) K hw30 hcr hr27 ⟨hk, h⟩ dX1_word_167
              · have h := ite_f h hc23
                refine lv_tableOut (pc := 48) (tgt := 168) K.x K.b dX1_word_48 (by rw [rng_ofInt hx2]; omega) (by decide) ?_
                refine lv_iload_n (pc := 168) K.x K.b dX1_word_168 rfl (lv_at hl 0 rfl) ?_
                refine z_if_eq (pc := 169) (tgt := 188) K (b01r hs0) dX1_word_169 (by decide) (fun hc31 => ?_) (fun hc31 => ?_)
                · have h := ite_t h hc31
                  refine z_iconst (pc := 188) K dX1_word_188 ?_
                  exact za_iret (pc := 189) K hw hcr ⟨by decide, by decide⟩ ⟨hk, h⟩ dX1_word_189
                · have h := ite_f h hc31
                  refine lv_iload_n (pc := 172) K.x K.b dX1_word_172 rfl (lv_at hl 2 rfl) ?_
                  refine z_aload_n (pc := 173) K dX1_word_173 rfl (lv_at hl 1 rfl) ?_
                  refine z_get (pc := 174) (t := 1) (k := 8) K hw (ob (t := 1) ht0) zq1 (by decide) q524 (fun _ h => h) dX1_word_174 (zval_r kf_1_8) ?_
                  refine lv_iload_n (pc := 177) K.x K.b dX1_word_177 rfl (lv_at hl 2 rfl) ?_
                  have hg32 : tg σ (σ a0 8 0) = 3 := (z_tg (t := 1) (r := 3) hw ht0 ⟨by decide, by decide⟩ kf_1_8 kn_1_8 kt_1_8 (by decide) (by decide))
                  refine zr_r (pc := 178) (maxL := 2) K hw (met_X3_kindOf X l σ (σ a0 8 0) x1 hg32 hx1 _ h) (i_V (n := 1) (t := 3) (As := [jI x1]) K hw (ob hg32) zq3 (by decide) q1023 q929 q930 (sg_of K q931) rfl rfl dX1_word_178) (locw K q931 q94) (zr_ok2A (by decide) (by decide)) hl.1 dX1_word_178 (Nat.le_of_ble_eq_true rfl) (cr_le hcr) (fun r33 _ _ hr34 h hw37 => ?_)
                  obtain ⟨hn39, h⟩ := h
                  have hg38 : tg σ r33 = 12 := okR_nn hn39 (by decide) (by decide) hr34
                  refine z_getN (pc := 181) (t := 12) (k := 3) K hw37 (ob (t := 12) hg38) zq12 (by decide) q837 (fun _ h => h) dX1_word_181 (zval_i kf_12_3) ?_
                  refine z_iadd (pc := 184) K dX1_word_184 ?_
                  refine z_goto (pc := 185) (tgt := 189) K dX1_word_185 (by decide) ?_
                  obtain ⟨hr40, h⟩ := h
                  exact za_iret (pc := 189) K hw37 hcr hr40 ⟨hk, h⟩ dX1_word_189
set_option maxHeartbeats 4000000 in
theorem wk_X1_word_b23 {X : Cxt} {p : Program} {l : Launch} {e : Env} {s : State} {m : MethodId} {args : Array Value} {below : List Frame} {meth : Method} {c : Code} {C0 : Nat} (a0 : Int) (x1 : Int) (x2 : Int) (Q : Int → St → Int → Prop) (E : Int → St → Int → Prop) (σ0 : St) (K : MCx X p s m args meth c cX1_word 4 "CombTable" (some .int)) (hex : c.exceptionTable.isEmpty = true) (hfl : l.flags = pinnedFlags ++ [noTraceFlag]) (hx1 : rng x1) (hx2 : rng x2) : ∀ (σ : St) (cr : Int) (s0 : Int) (cells slots : Nat) (H : Heap) (locs : List Loc) (ls : Array Slot), wp_X1_word_b23 a0 x1 x2 Q E σ0 σ cr s0 → Wc X σ s.heap H locs → Kp ws_X1_word σ0 σ → Cr C0 cells slots cr → tg σ a0 = 1 → (0 ≤ s0 ∧ s0 ≤ 1) → lv_has ls 4 [(0, jR X a0), (1, jI x1), (2, jI x2)] → W p l e (zrm 7 C0 C0) s m args below meth c H locs cells slots (MQA X below C0 (qIA (fun r σ' cr => Kp ws_X1_word σ0 σ' ∧ Q r σ' cr)) (fun x σ' cr => tg σ' x = 18 ∧ Kp ws_X1_word σ0 σ' ∧ E x σ' cr) args s) (F0 m 23 ls [jI s0]) := by
  intro σ cr s0 cells slots H locs ls h hw hk hcr ht0 hs0 hl
  refine zat_v (pc := 23) (maxL := 1) K hw (met_X1_mustA X l hfl σ s0 hs0 cr hcr.2.2 _ _ h) (i_S (n := 1) (As := [jI s0]) K (by decide) q1372 q1373 q90 (sg_of K q1374) rfl rfl dX1_word_23) (locw K q1374 q90) (zr_ok2A (by decide) (by decide)) hl.1 dX1_word_23 (by decide) hcr (Int.toNat_of_nonneg hcr.2.2) ⟨Nat.le_refl _, Nat.le_refl _⟩ (fun σ4 _ _ _ _ cr6 hq3 hw5 hcr7 => ?_) (fun x σx _ _ _ _ crx hx0 hqx hwx hcx => ?_)
  rotate_left
  · obtain ⟨htx, hkx, h⟩ := hqx
    have h := h hkx
    exact za_out K hwx hcx hx0 ⟨htx, kp_trans wo_X1_word hk hkx (fun _ q => q) (by decide), h⟩ (no_cov hex 23)
  obtain ⟨hk8, h⟩ := hq3
  have h := h hk8
  have hk9 := kp_trans wo_X1_word hk hk8 (fun _ q => q) (by decide)
  have hg10 : tg σ4 a0 = 1 := kp_tg hk8 wo_X1_must ht0 (by decide)
  refine z_aload_n (pc := 26) K dX1_word_26 rfl (lv_at hl 0 rfl) ?_
  refine z_get (pc := 27) (t := 1) (k := 8) K hw5 (ob (t := 1) hg10) zq1 (by decide) q524 (fun _ h => h) dX1_word_27 (zval_r kf_1_8) ?_
  refine lv_iload_n (pc := 30) K.x K.b dX1_word_30 rfl (lv_at hl 1 rfl) ?_
  have hg11 : tg σ4 (σ4 a0 8 0) = 3 := (z_tg (t := 1) (r := 3) hw5 hg10 ⟨by decide, by decide⟩ kf_1_8 kn_1_8 kt_1_8 (by decide) (by decide))
  refine zr_r (pc := 31) (maxL := 2) K hw5 (met_X3_kindOf X l σ4 (σ4 a0 8 0) x1 hg11 hx1 _ h) (i_V (n := 1) (t := 3) (As := [jI x1]) K hw5 (ob hg11) zq3 (by decide) q1023 q929 q930 (sg_of K q931) rfl rfl dX1_word_31) (locw K q931 q94) (zr_ok2A (by decide) (by decide)) hl.1 dX1_word_31 (Nat.le_of_ble_eq_true rfl) (cr_le hcr7) (fun r12 _ _ hr13 h hw16 => ?_)
  obtain ⟨hn18, h⟩ := h
  have hg17 : tg σ4 r12 = 12 := okR_nn hn18 (by decide) (by decide) hr13
  refine z_getN (pc := 34) (t := 12) (k := 2) K hw16 (ob (t := 12) hg17) zq12 (by decide) q834 (fun _ h => h) dX1_word_34 (zval_i kf_12_2) ?_
  refine z_iconst (pc := 37) K dX1_word_37 ?_
  refine z_icmp_ne (pc := 38) (tgt := 45) K (z_rI hw16 (ob (t := 12) hg17) kf_12_2) ⟨by decide, by decide⟩ dX1_word_38 (by decide) (fun hc19 => ?_) (fun hc19 => ?_)
  · have h := ite_t h hc19
    refine z_iconst (pc := 41) K dX1_word_41 ?_
    refine z_goto (pc := 42) (tgt := 46) K dX1_word_42 (by decide) ?_
    exact wk_X1_word_b46 a0 x1 x2 Q E σ0 K hex hfl hx1 hx2 σ4 cr6 1 _ _ _ _ _ h hw16 hk9 hcr7 hg10 ⟨by decide, by decide⟩ (lv_sub hl [0, 1, 2] rfl)
  · have h := ite_f h hc19
    refine z_iconst (pc := 45) K dX1_word_45 ?_
    exact wk_X1_word_b46 a0 x1 x2 Q E σ0 K hex hfl hx1 hx2 σ4 cr6 0 _ _ _ _ _ h hw16 hk9 hcr7 hg10 ⟨by decide, by decide⟩ (lv_sub hl [0, 1, 2] rfl)
set_option maxHeartbeats 4000000 in
theorem wk_X1_word_b22 {X : Cxt} {p : Program} {l : Launch} {e : Env} {s : State} {m : MethodId} {args : Array Value} {below : List Frame} {meth : Method} {c : Code} {C0 : Nat} (a0 : Int) (x1 : Int) (x2 : Int) (Q : Int → St → Int → Prop) (E : Int → St → Int → Prop) (σ0 : St) (K : MCx X p s m args meth c cX1_word 4 "CombTable" (some .int)) (hex : c.exceptionTable.isEmpty = true) (hfl : l.flags = pinnedFlags ++ [noTraceFlag]) (hx1 : rng x1) (hx2 : rng x2) : ∀ (σ : St) (cr : Int) (cells slots : Nat) (H : Heap) (locs : List Loc) (ls : Array Slot), wp_X1_word_b22 a0 x1 x2 Q E σ0 σ cr → Wc X σ s.heap H locs → Kp ws_X1_word σ0 σ → Cr C0 cells slots cr → tg σ a0 = 1 → lv_has ls 4 [(0, jR X a0), (1, jI x1), (2, jI x2)] → W p l e (zrm 7 C0 C0) s m args below meth c H locs cells slots (MQA X below C0 (qIA (fun r σ' cr => Kp ws_X1_word σ0 σ' ∧ Q r σ' cr)) (fun x σ' cr => tg σ' x = 18 ∧ Kp ws_X1_word σ0 σ' ∧ E x σ' cr) args s) (F0 m 22 ls []) := by
  intro σ cr cells slots H locs ls h hw hk hcr ht0 hl
  refine z_iconst (pc := 22) K dX1_word_22 ?_
  exact wk_X1_word_b23 a0 x1 x2 Q E σ0 K hex hfl hx1 hx2 σ cr 0 _ _ _ _ _ h hw hk hcr ht0 ⟨by decide, by decide⟩ (lv_sub hl [0, 1, 2] rfl)
set_option maxHeartbeats 4000000 in
theorem met_X1_word (X : Cxt) (l : Launch) (hfl : l.flags = pinnedFlags ++ [noTraceFlag]) (σ : St) (a0 : Int) (x1 : Int) (x2 : Int) (ht0 : tg σ a0 = 1) (hx1 : rng x1) (hx2 : rng x2) (cr : Int) (hcr0 : 0 ≤ cr) (Q : Int → St → Int → Prop) (E : Int → St → Int → Prop) (h : wp_X1_word σ a0 x1 x2 cr Q E) : MetA X l yX1_word (ws_ yX1_word cX1_word 4 (some .int)) 7 cr.toNat (ZP X σ [jR X a0, jI x1, jI x2]) (qIA (fun r σ' cr => Kp ws_X1_word σ σ' ∧ Q r σ' cr)) (fun x σ' cr => tg σ' x = 18 ∧ Kp ws_X1_word σ σ' ∧ E x σ' cr) := by
  have hcr : Cr cr.toNat 0 0 cr := by unfold Cr; omega
  refine z_startA (own := "CombTable") (lv := [(0, jR X a0), (1, jI x1), (2, jI x2)]) (by decide) rfl (by simp [lv_args, jR_cat, jI_cat, jL_cat]) (by simp [lg_sl, jR_cat, jI_cat, jL_cat]) (fun p e s m below meth c ls _ K hex _ hw hl => ?_)
  have hk : Kp ws_X1_word σ σ := kp_rf σ
  refine z_aload_n (pc := 0) K dX1_word_0 rfl (lv_at hl 0 rfl) ?_
  refine lv_iload_n (pc := 1) K.x K.b dX1_word_1 rfl (lv_at hl 1 rfl) ?_
  refine zr_z (pc := 2) (maxL := 2) K hw (met_X1_isWord X l σ a0 x1 ht0 hx1 _ h) (i_V (n := 1) (t := 1) (As := [jI x1]) K hw (ob ht0) zq1 (by decide) q1189 q1191 qs20 (sg_of K q1192) rfl rfl dX1_word_2) (locw K q1192 q90) (zr_ok2A (by decide) (by decide)) hl.1 dX1_word_2 (Nat.le_of_ble_eq_true rfl) (cr_le hcr) (fun r1 _ _ hr2 h hw5 => ?_)
  refine z_if_eq (pc := 5) (tgt := 22) K (b01r hr2) dX1_word_5 (by decide) (fun hc6 => ?_) (fun hc6 => ?_)
  · have h := ite_t h hc6
    exact wk_X1_word_b22 a0 x1 x2 Q E σ K hex hfl hx1 hx2 σ cr _ _ _ _ _ h hw5 hk hcr ht0 (lv_sub hl [0, 1, 2] rfl)
  · have h := ite_f h hc6
    refine lv_iload_n (pc := 8) K.x K.b dX1_word_8 rfl (lv_at hl 2 rfl) ?_
    refine z_iconst (pc := 9) K dX1_word_9 ?_
    refine z_bipush (pc := 10) K dX1_word_10 (by decide) ?_
    refine zr_z (pc := 12) (maxL := 3) K hw5 (met_X1_isIn X l σ x2 0 7 hx2 ⟨by decide, by decide⟩ ⟨by decide, by decide⟩ _ h) (i_S (n := 3) (As := [jI x2, jI 0, jI 7]) K (by decide) q1010 q682 q90 (sg_of K q683) rfl rfl dX1_word_12) (locw K q683 q90) (zr_ok2A (by decide) (by decide)) hl.1 dX1_word_12 (Nat.le_of_ble_eq_true rfl) (cr_le hcr) (fun r7 _ _ hr8 h hw11 => ?_)
    refine z_if_eq (pc := 15) (tgt := 22) K (b01r hr8) dX1_word_15 (by decide) (fun hc12 => ?_) (fun hc12 => ?_)
    · have h := ite_t h hc12
      exact wk_X1_word_b22 a0 x1 x2 Q E σ K hex hfl hx1 hx2 σ cr _ _ _ _ _ h hw11 hk hcr ht0 (lv_sub hl [0, 1, 2] rfl)
    · have h := ite_f h hc12
      refine z_iconst (pc := 18) K dX1_word_18 ?_
      refine z_goto (pc := 19) (tgt := 23) K dX1_word_19 (by decide) ?_
      exact wk_X1_word_b23 a0 x1 x2 Q E σ K hex hfl hx1 hx2 σ cr 1 _ _ _ _ _ h hw11 hk hcr ht0 ⟨by decide, by decide⟩ (lv_sub hl [0, 1, 2] rfl)
def ws_X0_kind : List (Int × Nat) := [(62, 0)]
theorem wo_X0_kind : wsOk ws_X0_kind = true := rfl
def wp_X0_kind (σ : St) (o0 : Int) (x1 : Int) (x2 : Int) (o3 : Int) (cr : Int) (Q : Int → St → Int → Prop) : Prop :=
  wp_X1_kind σ o0 x1 x2 cr (fun r1 σ4 cr6 => Kp ws_X1_kind σ σ4 → ∀ σ17 : St, σ17 = st σ4 o3 0 0 r1 → Q 0 σ17 cr6) (fun x σx crx => Kp ws_X1_kind σ σx → Q 1 σx crx)
set_option maxHeartbeats 4000000 in
theorem met_X0_kind (X : Cxt) (l : Launch) (hfl : l.flags = pinnedFlags ++ [noTraceFlag]) (σ : St) (o0 : Int) (x1 : Int) (x2 : Int) (o3 : Int) (ht0 : tg σ o0 = 1) (hx1 : rng x1) (hx2 : rng x2) (ht3 : tg σ o3 = 62) (hln3 : σ o3 1 0 = 1) (cr : Int) (hcr0 : 0 ≤ cr) (Q : Int → St → Int → Prop) (h : wp_X0_kind σ o0 x1 x2 o3 cr Q) : MetA X l yX0_kind (wsW_ yX0_kind cX0_kind 5 (some .int) [(0, 10, 13, 13)]) 8 cr.toNat (ZP X σ [jR X o0, jI x1, jI x2, jR X o3]) (qIA (fun r σ' cr => Kp ws_X0_kind σ σ' ∧ Q r σ' cr)) (fun _ _ _ => False) := by
  have hcr : Cr cr.toNat 0 0 cr := by unfold Cr; omega
  refine z_startAW (own := "CombTableLaw") (lv := [(0, jR X o0), (1, jI x1), (2, jI x2), (3, jR X o3)]) (by decide) rfl (by simp [lv_args, jR_cat, jI_cat, jL_cat]) (by simp [lg_sl, jR_cat, jI_cat, jL_cat]) (fun p e s m below meth c ls K hex hw hl => ?_)
  have hk : Kp ws_X0_kind σ σ := kp_rf σ
  refine z_aload_n (pc := 0) K dX0_kind_0 rfl (lv_at hl 3 rfl) ?_
  refine z_iconst (pc := 1) K dX0_kind_1 ?_
  refine z_aload_n (pc := 2) K dX0_kind_2 rfl (lv_at hl 0 rfl) ?_
  refine lv_iload_n (pc := 3) K.x K.b dX0_kind_3 rfl (lv_at hl 1 rfl) ?_
  refine lv_iload_n (pc := 4) K.x K.b dX0_kind_4 rfl (lv_at hl 2 rfl) ?_
  refine zat_i (pc := 5) (maxL := 4) K hw (met_X1_kind X l hfl σ o0 x1 x2 ht0 hx1 hx2 cr hcr.2.2 _ _ h) (i_V (n := 2) (t := 1) (As := [jI x1, jI x2]) K hw (ob ht0) zq1 (by decide) q1368 q1369 q1370 (sg_of K q1371) rfl rfl dX0_kind_5) (locw K q1371 q90) (zr_ok2A (by decide) (by decide)) hl.1 dX0_kind_5 (by simp [jR_cat, jI_cat, jL_cat]) hcr (Int.toNat_of_nonneg hcr.2.2) ⟨Nat.le_refl _, Nat.le_refl _⟩ (fun r1 σ4 _ _ _ _ cr6 hr2 hq3 hw5 hcr7 => ?_) (fun x σx _ _ _ _ crx hx0 hqx hwx hcx => ?_)
  rotate_left
  · obtain ⟨htx, hkx, h⟩ := hqx
    have h := h hkx
    have hkx0 := hkx
    have hkx := kp_trans wo_X0_kind hk hkx (fun _ q => q) (by decide)
    have hg9 : tg σx o0 = 1 := kp_tg hkx0 wo_X1_kind ht0 (by decide)
    have hg10 : tg σx o3 = 62 := kp_tg hkx0 wo_X1_kind ht3 (by decide)
    have hln11 : σx o3 1 0 = 1 := len_kp hkx0 ht3 (by decide) (by decide) hln3
    refine z_catch (pc := 5) (t := 18) K hwx (ob htx) zq18 hex rfl (by decide) q1367 q1377 ?_
    refine z_astore (pc := 13) (lv' := [(4, jR X x), (0, jR X o0), (1, jI x1), (2, jI x2), (3, jR X o3)]) K dX0_kind_13 hl (by decide) (by simp [jR_cat]) (fun ls hl => ?_)
    refine z_iconst (pc := 15) K dX0_kind_15 ?_
    exact za_iret (pc := 16) K hwx hcx ⟨by decide, by decide⟩ ⟨hkx, h⟩ dX0_kind_16
  obtain ⟨hk8, h⟩ := hq3
  have h := h hk8
  have hk12 := kp_trans wo_X0_kind hk hk8 (fun _ q => q) (by decide)
  have hg13 : tg σ4 o0 = 1 := kp_tg hk8 wo_X1_kind ht0 (by decide)
  have hg14 : tg σ4 o3 = 62 := kp_tg hk8 wo_X1_kind ht3 (by decide)
  have hln15 : σ4 o3 1 0 = 1 := len_kp hk8 ht3 (by decide) (by decide) hln3
  refine z_i2l (pc := 8) K hr2 dX0_kind_8 ?_
  refine z_lastS (pc := 9) K hw5 hg14 hln15 ⟨by decide, by decide⟩ (by decide) (rng_L hr2) dX0_kind_9 (fun _ _ hw16 => ?_)
  obtain ⟨σ17, e18⟩ : ∃ z, z = st σ4 o3 0 0 r1 := ⟨_, rfl⟩
  have h := h σ17 e18
  have hw16 := wc_e e18 hw16
  have hk19 := kp_e e18 hk12 wo_X0_kind (by decide) hg14 (t := 62) (by decide)
  have hg20 : tg σ17 o0 = 1 := (tg_e e18 (by decide)).trans hg13
  have hg21 : tg σ17 o3 = 62 := (tg_e e18 (by decide)).trans hg14
  have hln22 : σ17 o3 1 0 = 1 := len_e e18 (by decide) hln15
  refine z_goto (pc := 10) (tgt := 17) K dX0_kind_10 (by decide) ?_
  refine z_iconst (pc := 17) K dX0_kind_17 ?_
  exact za_iret (pc := 18) K hw16 hcr7 ⟨by decide, by decide⟩ ⟨hk19, h⟩ dX0_kind_18
def ws_X0_word : List (Int × Nat) := [(62, 0)]
theorem wo_X0_word : wsOk ws_X0_word = true := rfl
def wp_X0_word (σ : St) (o0 : Int) (x1 : Int) (x2 : Int) (o3 : Int) (cr : Int) (Q : Int → St → Int → Prop) : Prop :=
  wp_X1_word σ o0 x1 x2 cr (fun r1 σ4 cr6 => Kp ws_X1_word σ σ4 → ∀ σ17 : St, σ17 = st σ4 o3 0 0 r1 → Q 0 σ17 cr6) (fun x σx crx => Kp ws_X1_word σ σx → Q 1 σx crx)
set_option maxHeartbeats 4000000 in
theorem met_X0_word (X : Cxt) (l : Launch) (hfl : l.flags = pinnedFlags ++ [noTraceFlag]) (σ : St) (o0 : Int) (x1 : Int) (x2 : Int) (o3 : Int) (ht0 : tg σ o0 = 1) (hx1 : rng x1) (hx2 : rng x2) (ht3 : tg σ o3 = 62) (hln3 : σ o3 1 0 = 1) (cr : Int) (hcr0 : 0 ≤ cr) (Q : Int → St → Int → Prop) (h : wp_X0_word σ o0 x1 x2 o3 cr Q) : MetA X l yX0_word (wsW_ yX0_word cX0_word 5 (some .int) [(0, 10, 13, 13)]) 8 cr.toNat (ZP X σ [jR X o0, jI x1, jI x2, jR X o3]) (qIA (fun r σ' cr => Kp ws_X0_word σ σ' ∧ Q r σ' cr)) (fun _ _ _ => False) := by
  have hcr : Cr cr.toNat 0 0 cr := by unfold Cr; omega
  refine z_startAW (own := "CombTableLaw") (lv := [(0, jR X o0), (1, jI x1), (2, jI x2), (3, jR X o3)]) (by decide) rfl (by simp [lv_args, jR_cat, jI_cat, jL_cat]) (by simp [lg_sl, jR_cat, jI_cat, jL_cat]) (fun p e s m below meth c ls K hex hw hl => ?_)
  have hk : Kp ws_X0_word σ σ := kp_rf σ
  refine z_aload_n (pc := 0) K dX0_word_0 rfl (lv_at hl 3 rfl) ?_
  refine z_iconst (pc := 1) K dX0_word_1 ?_
  refine z_aload_n (pc := 2) K dX0_word_2 rfl (lv_at hl 0 rfl) ?_
  refine lv_iload_n (pc := 3) K.x K.b dX0_word_3 rfl (lv_at hl 1 rfl) ?_
  refine lv_iload_n (pc := 4) K.x K.b dX0_word_4 rfl (lv_at hl 2 rfl) ?_
  refine zat_i (pc := 5) (maxL := 4) K hw (met_X1_word X l hfl σ o0 x1 x2 ht0 hx1 hx2 cr hcr.2.2 _ _ h) (i_V (n := 2) (t := 1) (As := [jI x1, jI x2]) K hw (ob ht0) zq1 (by decide) q1401 q1402 q1403 (sg_of K q1404) rfl rfl dX0_word_5) (locw K q1404 q90) (zr_ok2A (by decide) (by decide)) hl.1 dX0_word_5 (by simp [jR_cat, jI_cat, jL_cat]) hcr (Int.toNat_of_nonneg hcr.2.2) ⟨Nat.le_refl _, Nat.le_refl _⟩ (fun r1 σ4 _ _ _ _ cr6 hr2 hq3 hw5 hcr7 => ?_) (fun x σx _ _ _ _ crx hx0 hqx hwx hcx => ?_)
  rotate_left
  · obtain ⟨htx, hkx, h⟩ := hqx
    have h := h hkx
    have hkx0 := hkx
    have hkx := kp_trans wo_X0_word hk hkx (fun _ q => q) (by decide)
    have hg9 : tg σx o0 = 1 := kp_tg hkx0 wo_X1_word ht0 (by decide)
    have hg10 : tg σx o3 = 62 := kp_tg hkx0 wo_X1_word ht3 (by decide)
    have hln11 : σx o3 1 0 = 1 := len_kp hkx0 ht3 (by decide) (by decide) hln3
    refine z_catch (pc := 5) (t := 18) K hwx (ob htx) zq18 hex rfl (by decide) q1367 q1377 ?_
    refine z_astore (pc := 13) (lv' := [(4, jR X x), (0, jR X o0), (1, jI x1), (2, jI x2), (3, jR X o3)]) K dX0_word_13 hl (by decide) (by simp [jR_cat]) (fun ls hl => ?_)
    refine z_iconst (pc := 15) K dX0_word_15 ?_
    exact za_iret (pc := 16) K hwx hcx ⟨by decide, by decide⟩ ⟨hkx, h⟩ dX0_word_16
  obtain ⟨hk8, h⟩ := hq3
  have h := h hk8
  have hk12 := kp_trans wo_X0_word hk hk8 (fun _ q => q) (by decide)
  have hg13 : tg σ4 o0 = 1 := kp_tg hk8 wo_X1_word ht0 (by decide)
  have hg14 : tg σ4 o3 = 62 := kp_tg hk8 wo_X1_word ht3 (by decide)
  have hln15 : σ4 o3 1 0 = 1 := len_kp hk8 ht3 (by decide) (by decide) hln3
  refine z_i2l (pc := 8) K hr2 dX0_word_8 ?_
  refine z_lastS (pc := 9) K hw5 hg14 hln15 ⟨by decide, by decide⟩ (by decide) (rng_L hr2) dX0_word_9 (fun _ _ hw16 => ?_)
  obtain ⟨σ17, e18⟩ : ∃ z, z = st σ4 o3 0 0 r1 := ⟨_, rfl⟩
  have h := h σ17 e18
  have hw16 := wc_e e18 hw16
  have hk19 := kp_e e18 hk12 wo_X0_word (by decide) hg14 (t := 62) (by decide)
  have hg20 : tg σ17 o0 = 1 := (tg_e e18 (by decide)).trans hg13
  have hg21 : tg σ17 o3 = 62 := (tg_e e18 (by decide)).trans hg14
  have hln22 : σ17 o3 1 0 = 1 := len_e e18 (by decide) hln15
  refine z_goto (pc := 10) (tgt := 17) K dX0_word_10 (by decide) ?_
  refine z_iconst (pc := 17) K dX0_word_17 ?_
  exact za_iret (pc := 18) K hw16 hcr7 ⟨by decide, by decide⟩ ⟨hk19, h⟩ dX0_word_18
