/-! printed by gen/walk2.py -/
set_option maxRecDepth 100000
def wp_X5_init (σ : St) (a0 : Int) (cr : Int) (Q : St → Int → Prop) : Prop :=
  24 ≤ cr ∧ ∀ σ4 : St, σ4 = na σ 1 24 → ∀ σ14 : St, σ14 = att σ4 a0 0 (nx σ) → 24 ≤ (cr - 24) ∧ ∀ σ22 : St, σ22 = na σ14 1 24 → ∀ σ32 : St, σ32 = att σ22 a0 1 (nx σ14) → RefOk (sealz σ32 [a0]) a0 5 ∧ ∀ σ37 : St, σ37 = sealz σ32 [a0] → Q σ37 ((cr - 24) - 24)
set_option maxHeartbeats 4000000 in
theorem met_X5_init (X : Cxt) (l : Launch) (σ : St) (a0 : Int) (ht0 : tg σ a0 = (-5)) (cr : Int) (hcr0 : 0 ≤ cr) (Q : St → Int → Prop) (h : wp_X5_init σ a0 cr Q) : MetA X l yX5_init (ws_ yX5_init cX5_init 1 (none)) 2 cr.toNat (ZP X σ [jR X a0]) (qVA (fun σ' cr => Ki a0 σ σ' ∧ tg σ' a0 = 5 ∧ Q σ' cr)) (fun _ _ _ => False) := by
  have hcr : Cr cr.toNat 0 0 cr := by unfold Cr; omega
  refine z_startA (own := "CombTable$Minutes") (lv := [(0, jR X a0)]) (by decide) rfl (by simp [lv_args, jR_cat, jI_cat, jL_cat]) (by simp [lg_sl, jR_cat, jI_cat, jL_cat]) (fun p e s m below meth c ls _ K _ hnm hw hl => ?_)
  have hk : Ki a0 σ σ := ki_rf σ
  have hat : AtF σ a0 [] := fun _ h => absurd h List.not_mem_nil
  refine z_aload_n (pc := 0) K dX5_init_0 rfl (lv_at hl 0 rfl) ?_
  refine z_objI (pc := 1) K (hw.1.pos (by rw [ht0]; decide)).1 q352 q127 q128 hl.1 (zr_ok3A (by decide) (by decide)) (by decide) dX5_init_1 ?_
  refine z_aload_n (pc := 4) K dX5_init_4 rfl (lv_at hl 0 rfl) ?_
  refine z_bipush (pc := 5) K dX5_init_5 (by decide) ?_
  obtain ⟨hle1, h⟩ := h
  refine z_newa (pc := 7) (atype := .int) (κ := 1) (N' := 24) K hw (by decide) rfl (fun _ => rfl) q298 ⟨by decide, by decide⟩ rfl (by decide) (cr_fit hcr (u := 24) ⟨by decide, by decide⟩ hle1) dX5_init_7 (fun _ hw2 => ?_)
  have hcr3 := cr_new hcr (n := 24) (u := 24) ⟨by decide, by decide⟩ hle1
  obtain ⟨σ4, e5⟩ : ∃ z, z = na σ 1 24 := ⟨_, rfl⟩
  have h := h σ4 e5
  have hke6 : Ke σ σ4 := ke_na hw e5
  have hz7 : tg σ (nx σ) = 0 := z0_ki hk (by rw [ht0]; decide) hw.1.fresh
  have hw2 := wc_e e5 hw2
  have ha8 := at_ke hat hke6 ht0 (by decide)
  have hk9 := ki_ke hk hke6
  have hg10 : tg σ4 a0 = -5 := ke_tg hke6 ht0 (by decide)
  have hg11 : tg σ4 (nx σ) = 61 := tg_na e5
  have hln12 : σ4 (nx σ) 1 0 = 24 := len_na e5
  refine z_putA (pc := 9) (t := 5) (k := 0) (κ := 1) K hw2 (by decide) hg10 zq5 (by decide) (by decide) kf_5_0 hg11 (hln12.trans kl_5_0.symm) q353 (fun _ h => h) rfl hnm rfl dX5_init_9 (fun _ _ hw13 => ?_)
  obtain ⟨σ14, e15⟩ : ∃ z, z = att σ4 a0 0 (nx σ) := ⟨_, rfl⟩
  have h := h σ14 e15
  have ha16 := at_att ha8 e15 (hw2.1.pos (by rw [hg11]; decide)).1 hg10 hg11 (by decide)
  have hw13 := wc_e e15 hw13
  have hk17 := ki_att2 hk9 hz7 e15
  have hg18 : tg σ14 a0 = -5 := tg_att e15 (by decide) hg10 hg11 (by decide)
  refine z_aload_n (pc := 12) K dX5_init_12 rfl (lv_at hl 0 rfl) ?_
  refine z_bipush (pc := 13) K dX5_init_13 (by decide) ?_
  obtain ⟨hle19, h⟩ := h
  refine z_newa (pc := 15) (atype := .int) (κ := 1) (N' := 24) K hw13 (by decide) rfl (fun _ => rfl) q298 ⟨by decide, by decide⟩ rfl (by decide) (cr_fit hcr3 (u := 24) ⟨by decide, by decide⟩ hle19) dX5_init_15 (fun _ hw20 => ?_)
  have hcr21 := cr_new hcr3 (n := 24) (u := 24) ⟨by decide, by decide⟩ hle19
  obtain ⟨σ22, e23⟩ : ∃ z, z = na σ14 1 24 := ⟨_, rfl⟩
  have h := h σ22 e23
  have hke24 : Ke σ14 σ22 := ke_na hw13 e23
  have hz25 : tg σ (nx σ14) = 0 := z0_ki hk17 (by rw [hg18]; decide) hw13.1.fresh
  have hw20 := wc_e e23 hw20
  have ha26 := at_ke ha16 hke24 hg18 (by decide)
  have hk27 := ki_ke hk17 hke24
  have hg28 : tg σ22 a0 = -5 := ke_tg hke24 hg18 (by decide)
  have hg29 : tg σ22 (nx σ14) = 61 := tg_na e23
  have hln30 : σ22 (nx σ14) 1 0 = 24 := len_na e23
  refine z_putA (pc := 17) (t := 5) (k := 1) (κ := 1) K hw20 (by decide) hg28 zq5 (by decide) (by decide) kf_5_1 hg29 (hln30.trans kl_5_1.symm) q356 (fun _ h => h) rfl hnm rfl dX5_init_17 (fun _ _ hw31 => ?_)
  obtain ⟨σ32, e33⟩ : ∃ z, z = att σ22 a0 1 (nx σ14) := ⟨_, rfl⟩
  have h := h σ32 e33
  have ha34 := at_att ha26 e33 (hw20.1.pos (by rw [hg29]; decide)).1 hg28 hg29 (by decide)
  have hw31 := wc_e e33 hw31
  have hk35 := ki_att2 hk27 hz25 e33
  have hg36 : tg σ32 a0 = -5 := tg_att e33 (by decide) hg28 hg29 (by decide)
  obtain ⟨hs39, h⟩ := h
  have hs39 := seal_1 hg36 (t := 5) (by decide) ha34 (by decide) hs39
  obtain ⟨σ37, e38⟩ : ∃ z, z = sealz σ32 [a0] := ⟨_, rfl⟩
  have h := h σ37 e38
  have hw42 := wc_seal hw31 e38 hs39
  have hk40 := ki_seal hk35 e38 (fun x hx => Or.inl (List.mem_singleton.mp hx))
  have hg41 : tg σ37 a0 = 5 := tg_seal e38 hg36 List.mem_cons_self
  exact za_vret (pc := 20) K hw42 hcr21 ⟨hk40, hg41, h⟩ dX5_init_20
def wp_X6_init (σ : St) (a0 : Int) (o1 : Int) (x2 : Int) (Q : St → Prop) : Prop :=
  ∀ σ2 : St, σ2 = st σ a0 7 0 o1 → ∀ σ9 : St, σ9 = st σ2 a0 0 0 x2 → Q σ9
set_option maxHeartbeats 4000000 in
theorem met_X6_init_6 (X : Cxt) (l : Launch) (σ : St) (a0 : Int) (o1 : Int) (x2 : Int) (ht0 : tg σ a0 = (-6)) (ht1 : tg σ o1 = (-1)) (hx2 : rng x2) (Q : St → Prop) (h : wp_X6_init σ a0 o1 x2 Q) : MetT l yX6_init (ws_ yX6_init cX6_init 3 (none)) (zrm 2 0 0) (ZP X σ [jR X a0, jR X o1, jI x2]) (ZQ X (qV (fun σ' => Ki a0 σ σ' ∧ tg σ' a0 = (-6) ∧ Q σ')) (fun _ _ => False)) 0 0 (zA X) := by
  refine z_start (own := "CombTable$Reader") (lv := [(0, jR X a0), (1, jR X o1), (2, jI x2)]) (by decide) rfl (by simp [lv_args, jR_cat, jI_cat, jL_cat]) (by simp [lg_sl, jR_cat, jI_cat, jL_cat]) (fun p e s m below meth c ls K _ hnm hw hl => ?_)
  have hk : Ki a0 σ σ := ki_rf σ
  have hat : AtF σ a0 [] := fun _ h => absurd h List.not_mem_nil
  refine z_aload_n (pc := 0) K dX6_init_0 rfl (lv_at hl 0 rfl) ?_
  refine z_aload_n (pc := 1) K dX6_init_1 rfl (lv_at hl 1 rfl) ?_
  refine z_putrF (pc := 2) (t := 6) 7 K hw (by decide) ht0 zq6 (by decide) kf_6_7 zt_6_7 q402 (fun _ h => h) rfl hnm rfl dX6_init_2 (fun _ _ hw1 => ?_)
  obtain ⟨σ2, e3⟩ : ∃ z, z = st σ a0 7 0 o1 := ⟨_, rfl⟩
  have h := h σ2 e3
  have hw1 := wc_e e3 hw1
  have ha4 := at_st hat e3 (by decide)
  have hk5 := ki_same hk (ki_e e3)
  have hg6 : tg σ2 a0 = -6 := (tg_e e3 (by decide)).trans ht0
  have hg7 : tg σ2 o1 = -1 := (tg_e e3 (by decide)).trans ht1
  refine z_aload_n (pc := 5) K dX6_init_5 rfl (lv_at hl 0 rfl) ?_
  refine z_objI (pc := 6) K (hw1.1.pos (by rw [hg6]; decide)).1 q377 q127 q128 hl.1 ⟨by decide, by decide⟩ (by decide) dX6_init_6 ?_
  refine z_aload_n (pc := 9) K dX6_init_9 rfl (lv_at hl 0 rfl) ?_
  refine lv_iload_n (pc := 10) K.x K.b dX6_init_10 rfl (lv_at hl 2 rfl) ?_
  refine z_putiF (pc := 11) (t := 6) 0 K hw1 (obm (t := 6) hg6) zq6 (by decide) kf_6_0 zt_6_0 hx2 q381 (fun _ h => h) rfl hnm rfl dX6_init_11 (fun _ _ hw8 => ?_)
  obtain ⟨σ9, e10⟩ : ∃ z, z = st σ2 a0 0 0 x2 := ⟨_, rfl⟩
  have h := h σ9 e10
  have hw8 := wc_e e10 hw8
  have ha11 := at_st ha4 e10 (by decide)
  have hk12 := ki_same hk5 (ki_e e10)
  have hg13 : tg σ9 a0 = -6 := (tg_e e10 (by decide)).trans hg6
  have hg14 : tg σ9 o1 = -1 := (tg_e e10 (by decide)).trans hg7
  exact z_vret (pc := 14) K hw8 ⟨hk12, hg13, h⟩ dX6_init_14
set_option maxHeartbeats 4000000 in
theorem met_X6_init_7 (X : Cxt) (l : Launch) (σ : St) (a0 : Int) (o1 : Int) (x2 : Int) (ht0 : tg σ a0 = (-7)) (ht1 : tg σ o1 = (-1)) (hx2 : rng x2) (Q : St → Prop) (h : wp_X6_init σ a0 o1 x2 Q) : MetT l yX6_init (ws_ yX6_init cX6_init 3 (none)) (zrm 2 0 0) (ZP X σ [jR X a0, jR X o1, jI x2]) (ZQ X (qV (fun σ' => Ki a0 σ σ' ∧ tg σ' a0 = (-7) ∧ Q σ')) (fun _ _ => False)) 0 0 (zA X) := by
  refine z_start (own := "CombTable$Reader") (lv := [(0, jR X a0), (1, jR X o1), (2, jI x2)]) (by decide) rfl (by simp [lv_args, jR_cat, jI_cat, jL_cat]) (by simp [lg_sl, jR_cat, jI_cat, jL_cat]) (fun p e s m below meth c ls K _ hnm hw hl => ?_)
  have hk : Ki a0 σ σ := ki_rf σ
  have hat : AtF σ a0 [] := fun _ h => absurd h List.not_mem_nil
  refine z_aload_n (pc := 0) K dX6_init_0 rfl (lv_at hl 0 rfl) ?_
  refine z_aload_n (pc := 1) K dX6_init_1 rfl (lv_at hl 1 rfl) ?_
  refine z_putrF (pc := 2) (t := 7) 7 K hw (by decide) ht0 zq7 (by decide) kf_7_7 zt_7_7 q402 (fun _ h => h) rfl hnm rfl dX6_init_2 (fun _ _ hw1 => ?_)
  obtain ⟨σ2, e3⟩ : ∃ z, z = st σ a0 7 0 o1 := ⟨_, rfl⟩
  have h := h σ2 e3
  have hw1 := wc_e e3 hw1
  have ha4 := at_st hat e3 (by decide)
  have hk5 := ki_same hk (ki_e e3)
  have hg6 : tg σ2 a0 = -7 := (tg_e e3 (by decide)).trans ht0
  have hg7 : tg σ2 o1 = -1 := (tg_e e3 (by decide)).trans ht1
  refine z_aload_n (pc := 5) K dX6_init_5 rfl (lv_at hl 0 rfl) ?_
  refine z_objI (pc := 6) K (hw1.1.pos (by rw [hg6]; decide)).1 q377 q127 q128 hl.1 ⟨by decide, by decide⟩ (by decide) dX6_init_6 ?_
  refine z_aload_n (pc := 9) K dX6_init_9 rfl (lv_at hl 0 rfl) ?_
  refine lv_iload_n (pc := 10) K.x K.b dX6_init_10 rfl (lv_at hl 2 rfl) ?_
  refine z_putiF (pc := 11) (t := 7) 0 K hw1 (obm (t := 7) hg6) zq7 (by decide) kf_7_0 zt_7_0 hx2 q381 (fun _ h => h) rfl hnm rfl dX6_init_11 (fun _ _ hw8 => ?_)
  obtain ⟨σ9, e10⟩ : ∃ z, z = st σ2 a0 0 0 x2 := ⟨_, rfl⟩
  have h := h σ9 e10
  have hw8 := wc_e e10 hw8
  have ha11 := at_st ha4 e10 (by decide)
  have hk12 := ki_same hk5 (ki_e e10)
  have hg13 : tg σ9 a0 = -7 := (tg_e e10 (by decide)).trans hg6
  have hg14 : tg σ9 o1 = -1 := (tg_e e10 (by decide)).trans hg7
  exact z_vret (pc := 14) K hw8 ⟨hk12, hg13, h⟩ dX6_init_14
set_option maxHeartbeats 4000000 in
theorem met_X6_init_8 (X : Cxt) (l : Launch) (σ : St) (a0 : Int) (o1 : Int) (x2 : Int) (ht0 : tg σ a0 = (-8)) (ht1 : tg σ o1 = (-1)) (hx2 : rng x2) (Q : St → Prop) (h : wp_X6_init σ a0 o1 x2 Q) : MetT l yX6_init (ws_ yX6_init cX6_init 3 (none)) (zrm 2 0 0) (ZP X σ [jR X a0, jR X o1, jI x2]) (ZQ X (qV (fun σ' => Ki a0 σ σ' ∧ tg σ' a0 = (-8) ∧ Q σ')) (fun _ _ => False)) 0 0 (zA X) := by
  refine z_start (own := "CombTable$Reader") (lv := [(0, jR X a0), (1, jR X o1), (2, jI x2)]) (by decide) rfl (by simp [lv_args, jR_cat, jI_cat, jL_cat]) (by simp [lg_sl, jR_cat, jI_cat, jL_cat]) (fun p e s m below meth c ls K _ hnm hw hl => ?_)
  have hk : Ki a0 σ σ := ki_rf σ
  have hat : AtF σ a0 [] := fun _ h => absurd h List.not_mem_nil
  refine z_aload_n (pc := 0) K dX6_init_0 rfl (lv_at hl 0 rfl) ?_
  refine z_aload_n (pc := 1) K dX6_init_1 rfl (lv_at hl 1 rfl) ?_
  refine z_putrF (pc := 2) (t := 8) 7 K hw (by decide) ht0 zq8 (by decide) kf_8_7 zt_8_7 q402 (fun _ h => h) rfl hnm rfl dX6_init_2 (fun _ _ hw1 => ?_)
  obtain ⟨σ2, e3⟩ : ∃ z, z = st σ a0 7 0 o1 := ⟨_, rfl⟩
  have h := h σ2 e3
  have hw1 := wc_e e3 hw1
  have ha4 := at_st hat e3 (by decide)
  have hk5 := ki_same hk (ki_e e3)
  have hg6 : tg σ2 a0 = -8 := (tg_e e3 (by decide)).trans ht0
  have hg7 : tg σ2 o1 = -1 := (tg_e e3 (by decide)).trans ht1
  refine z_aload_n (pc := 5) K dX6_init_5 rfl (lv_at hl 0 rfl) ?_
  refine z_objI (pc := 6) K (hw1.1.pos (by rw [hg6]; decide)).1 q377 q127 q128 hl.1 ⟨by decide, by decide⟩ (by decide) dX6_init_6 ?_
  refine z_aload_n (pc := 9) K dX6_init_9 rfl (lv_at hl 0 rfl) ?_
  refine lv_iload_n (pc := 10) K.x K.b dX6_init_10 rfl (lv_at hl 2 rfl) ?_
  refine z_putiF (pc := 11) (t := 8) 0 K hw1 (obm (t := 8) hg6) zq8 (by decide) kf_8_0 zt_8_0 hx2 q381 (fun _ h => h) rfl hnm rfl dX6_init_11 (fun _ _ hw8 => ?_)
  obtain ⟨σ9, e10⟩ : ∃ z, z = st σ2 a0 0 0 x2 := ⟨_, rfl⟩
  have h := h σ9 e10
  have hw8 := wc_e e10 hw8
  have ha11 := at_st ha4 e10 (by decide)
  have hk12 := ki_same hk5 (ki_e e10)
  have hg13 : tg σ9 a0 = -8 := (tg_e e10 (by decide)).trans hg6
  have hg14 : tg σ9 o1 = -1 := (tg_e e10 (by decide)).trans hg7
  exact z_vret (pc := 14) K hw8 ⟨hk12, hg13, h⟩ dX6_init_14
set_option maxHeartbeats 4000000 in
theorem met_X6_init_9 (X : Cxt) (l : Launch) (σ : St) (a0 : Int) (o1 : Int) (x2 : Int) (ht0 : tg σ a0 = (-9)) (ht1 : tg σ o1 = (-1)) (hx2 : rng x2) (Q : St → Prop) (h : wp_X6_init σ a0 o1 x2 Q) : MetT l yX6_init (ws_ yX6_init cX6_init 3 (none)) (zrm 2 0 0) (ZP X σ [jR X a0, jR X o1, jI x2]) (ZQ X (qV (fun σ' => Ki a0 σ σ' ∧ tg σ' a0 = (-9) ∧ Q σ')) (fun _ _ => False)) 0 0 (zA X) := by
  refine z_start (own := "CombTable$Reader") (lv := [(0, jR X a0), (1, jR X o1), (2, jI x2)]) (by decide) rfl (by simp [lv_args, jR_cat, jI_cat, jL_cat]) (by simp [lg_sl, jR_cat, jI_cat, jL_cat]) (fun p e s m below meth c ls K _ hnm hw hl => ?_)
  have hk : Ki a0 σ σ := ki_rf σ
  have hat : AtF σ a0 [] := fun _ h => absurd h List.not_mem_nil
  refine z_aload_n (pc := 0) K dX6_init_0 rfl (lv_at hl 0 rfl) ?_
  refine z_aload_n (pc := 1) K dX6_init_1 rfl (lv_at hl 1 rfl) ?_
  refine z_putrF (pc := 2) (t := 9) 7 K hw (by decide) ht0 zq9 (by decide) kf_9_7 zt_9_7 q402 (fun _ h => h) rfl hnm rfl dX6_init_2 (fun _ _ hw1 => ?_)
  obtain ⟨σ2, e3⟩ : ∃ z, z = st σ a0 7 0 o1 := ⟨_, rfl⟩
  have h := h σ2 e3
  have hw1 := wc_e e3 hw1
  have ha4 := at_st hat e3 (by decide)
  have hk5 := ki_same hk (ki_e e3)
  have hg6 : tg σ2 a0 = -9 := (tg_e e3 (by decide)).trans ht0
  have hg7 : tg σ2 o1 = -1 := (tg_e e3 (by decide)).trans ht1
  refine z_aload_n (pc := 5) K dX6_init_5 rfl (lv_at hl 0 rfl) ?_
  refine z_objI (pc := 6) K (hw1.1.pos (by rw [hg6]; decide)).1 q377 q127 q128 hl.1 ⟨by decide, by decide⟩ (by decide) dX6_init_6 ?_
  refine z_aload_n (pc := 9) K dX6_init_9 rfl (lv_at hl 0 rfl) ?_
  refine lv_iload_n (pc := 10) K.x K.b dX6_init_10 rfl (lv_at hl 2 rfl) ?_
  refine z_putiF (pc := 11) (t := 9) 0 K hw1 (obm (t := 9) hg6) zq9 (by decide) kf_9_0 zt_9_0 hx2 q381 (fun _ h => h) rfl hnm rfl dX6_init_11 (fun _ _ hw8 => ?_)
  obtain ⟨σ9, e10⟩ : ∃ z, z = st σ2 a0 0 0 x2 := ⟨_, rfl⟩
  have h := h σ9 e10
  have hw8 := wc_e e10 hw8
  have ha11 := at_st ha4 e10 (by decide)
  have hk12 := ki_same hk5 (ki_e e10)
  have hg13 : tg σ9 a0 = -9 := (tg_e e10 (by decide)).trans hg6
  have hg14 : tg σ9 o1 = -1 := (tg_e e10 (by decide)).trans hg7
  exact z_vret (pc := 14) K hw8 ⟨hk12, hg13, h⟩ dX6_init_14
def wp_X9_init (σ : St) (a0 : Int) (o1 : Int) (Q : St → Prop) : Prop :=
  ∀ σ2 : St, σ2 = st σ a0 9 0 o1 → wp_X6_init σ2 a0 o1 300 (fun σ11 => Ki a0 σ2 σ11 → tg σ11 a0 = (-8) → Q σ11)
set_option maxHeartbeats 4000000 in
theorem met_X9_init (X : Cxt) (l : Launch) (σ : St) (a0 : Int) (o1 : Int) (ht0 : tg σ a0 = (-8)) (ht1 : tg σ o1 = (-1)) (Q : St → Prop) (h : wp_X9_init σ a0 o1 Q) : MetT l yX9_init (ws_ yX9_init cX9_init 2 (none)) (zrm 3 0 0) (ZP X σ [jR X a0, jR X o1]) (ZQ X (qV (fun σ' => Ki a0 σ σ' ∧ tg σ' a0 = (-8) ∧ Q σ')) (fun _ _ => False)) 0 0 (zA X) := by
  refine z_start (own := "CombTable$MinutesReader") (lv := [(0, jR X a0), (1, jR X o1)]) (by decide) rfl (by simp [lv_args, jR_cat, jI_cat, jL_cat]) (by simp [lg_sl, jR_cat, jI_cat, jL_cat]) (fun p e s m below meth c ls K _ hnm hw hl => ?_)
  have hk : Ki a0 σ σ := ki_rf σ
  have hat : AtF σ a0 [] := fun _ h => absurd h List.not_mem_nil
  refine z_aload_n (pc := 0) K dX9_init_0 rfl (lv_at hl 0 rfl) ?_
  refine z_aload_n (pc := 1) K dX9_init_1 rfl (lv_at hl 1 rfl) ?_
  refine z_putrF (pc := 2) (t := 8) 9 K hw (by decide) ht0 zq8 (by decide) kf_8_9 zt_8_9 q455 (fun _ h => h) rfl hnm rfl dX9_init_2 (fun _ _ hw1 => ?_)
  obtain ⟨σ2, e3⟩ : ∃ z, z = st σ a0 9 0 o1 := ⟨_, rfl⟩
  have h := h σ2 e3
  have hw1 := wc_e e3 hw1
  have ha4 := at_st hat e3 (by decide)
  have hk5 := ki_same hk (ki_e e3)
  have hg6 : tg σ2 a0 = -8 := (tg_e e3 (by decide)).trans ht0
  have hg7 : tg σ2 o1 = -1 := (tg_e e3 (by decide)).trans ht1
  refine z_aload_n (pc := 5) K dX9_init_5 rfl (lv_at hl 0 rfl) ?_
  refine z_aload_n (pc := 6) K dX9_init_6 rfl (lv_at hl 1 rfl) ?_
  refine z_sipush (pc := 7) K dX9_init_7 (by decide) ?_
  refine zc_v (pc := 10) (maxL := 3) K hw1 (met_X6_init_8 X l σ2 a0 o1 300 hg6 hg7 ⟨by decide, by decide⟩ _ h) (i_I (n := 2) (As := [jR X o1, jI 300]) K (hw1.1.pos (by rw [hg6]; decide)).1 (by decide) rfl q453 q375 q376 rfl rfl dX9_init_10) (locw K q376 q97) ⟨by decide, by decide⟩ hl.1 dX9_init_10 (Nat.le_of_ble_eq_true rfl) ⟨Nat.le_refl _, Nat.le_refl _⟩ (fun σ11 _ _ hq10 hw12 => ?_)
  obtain ⟨hk13, hg14, h⟩ := hq10
  have h := h hk13 hg14
  have ha15 : AtF σ11 a0 [] := fun _ h => absurd h List.not_mem_nil
  have hk16 := ki_same hk5 hk13
  have hg17 : tg σ11 a0 = -8 := hg14
  have hg18 : tg σ11 o1 = -1 := ki_tg hk13 hg7 (by decide) hg6 (by decide)
  exact z_vret (pc := 13) K hw12 ⟨hk16, hg17, h⟩ dX9_init_13
def wp_X10_init (σ : St) (a0 : Int) (o1 : Int) (cr : Int) (Q : St → Int → Prop) : Prop :=
  ∀ σ2 : St, σ2 = st σ a0 11 0 o1 → wp_X6_init σ2 a0 o1 200 (fun σ11 => Ki a0 σ2 σ11 → tg σ11 a0 = (-9) → 3 ≤ cr ∧ ∀ σ22 : St, σ22 = na σ11 4 3 → ∀ σ33 : St, σ33 = st σ22 (nx σ11) 0 0 (-27) → ∀ σ42 : St, σ42 = st σ33 (nx σ11) 0 1 (-28) → ∀ σ51 : St, σ51 = st σ42 (nx σ11) 0 2 (-29) → ∀ σ60 : St, σ60 = att σ51 a0 8 (nx σ11) → 4 ≤ (cr - 3) ∧ ∀ σ69 : St, σ69 = na σ60 4 4 → ∀ σ80 : St, σ80 = st σ69 (nx σ60) 0 0 (-30) → ∀ σ89 : St, σ89 = st σ80 (nx σ60) 0 1 (-31) → ∀ σ98 : St, σ98 = st σ89 (nx σ60) 0 2 (-32) → ∀ σ107 : St, σ107 = st σ98 (nx σ60) 0 3 (-33) → ∀ σ116 : St, σ116 = att σ107 a0 9 (nx σ60) → Q σ116 ((cr - 3) - 4))
set_option maxHeartbeats 4000000 in
theorem met_X10_init (X : Cxt) (l : Launch) (σ : St) (a0 : Int) (o1 : Int) (ht0 : tg σ a0 = (-9)) (ht1 : tg σ o1 = (-1)) (cr : Int) (hcr0 : 0 ≤ cr) (Q : St → Int → Prop) (h : wp_X10_init σ a0 o1 cr Q) : MetA X l yX10_init (ws_ yX10_init cX10_init 2 (none)) 3 cr.toNat (ZP X σ [jR X a0, jR X o1]) (qVA (fun σ' cr => Ki a0 σ σ' ∧ tg σ' a0 = (-9) ∧ Q σ' cr)) (fun _ _ _ => False) := by
  have hcr : Cr cr.toNat 0 0 cr := by unfold Cr; omega
  refine z_startA (own := "CombTable$SentenceReader") (lv := [(0, jR X a0), (1, jR X o1)]) (by decide) rfl (by simp [lv_args, jR_cat, jI_cat, jL_cat]) (by simp [lg_sl, jR_cat, jI_cat, jL_cat]) (fun p e s m below meth c ls _ K _ hnm hw hl => ?_)
  have hk : Ki a0 σ σ := ki_rf σ
  have hat : AtF σ a0 [] := fun _ h => absurd h List.not_mem_nil
  refine z_aload_n (pc := 0) K dX10_init_0 rfl (lv_at hl 0 rfl) ?_
  refine z_aload_n (pc := 1) K dX10_init_1 rfl (lv_at hl 1 rfl) ?_
  refine z_putrF (pc := 2) (t := 9) 11 K hw (by decide) ht0 zq9 (by decide) kf_9_11 zt_9_11 q487 (fun _ h => h) rfl hnm rfl dX10_init_2 (fun _ _ hw1 => ?_)
  obtain ⟨σ2, e3⟩ : ∃ z, z = st σ a0 11 0 o1 := ⟨_, rfl⟩
  have h := h σ2 e3
  have hw1 := wc_e e3 hw1
  have ha4 := at_st hat e3 (by decide)
  have hk5 := ki_same hk (ki_e e3)
  have hg6 : tg σ2 a0 = -9 := (tg_e e3 (by decide)).trans ht0
  have hg7 : tg σ2 o1 = -1 := (tg_e e3 (by decide)).trans ht1
  refine z_aload_n (pc := 5) K dX10_init_5 rfl (lv_at hl 0 rfl) ?_
  refine z_aload_n (pc := 6) K dX10_init_6 rfl (lv_at hl 1 rfl) ?_
  refine z_sipush (pc := 7) K dX10_init_7 (by decide) ?_
  refine zc_v (pc := 10) (maxL := 3) K hw1 (met_X6_init_9 X l σ2 a0 o1 200 hg6 hg7 ⟨by decide, by decide⟩ _ h) (i_I (n := 2) (As := [jR X o1, jI 200]) K (hw1.1.pos (by rw [hg6]; decide)).1 (by decide) rfl q474 q375 q376 rfl rfl dX10_init_10) (locw K q376 q97) (zr_ok2A (by decide) (by decide)) hl.1 dX10_init_10 (Nat.le_of_ble_eq_true rfl) (cr_le hcr) (fun σ11 _ _ hq10 hw12 => ?_)
  obtain ⟨hk13, hg14, h⟩ := hq10
  have h := h hk13 hg14
  have ha15 : AtF σ11 a0 [] := fun _ h => absurd h List.not_mem_nil
  have hk16 := ki_same hk5 hk13
  have hg17 : tg σ11 a0 = -9 := hg14
  have hg18 : tg σ11 o1 = -1 := ki_tg hk13 hg7 (by decide) hg6 (by decide)
  refine z_aload_n (pc := 13) K dX10_init_13 rfl (lv_at hl 0 rfl) ?_
  refine z_iconst (pc := 14) K dX10_init_14 ?_
  obtain ⟨hle19, h⟩ := h
  refine z_anew (pc := 15) (κ := 4) (N' := 3) K hw12 ⟨by decide, by decide⟩ rfl q475 q199 ⟨by decide, by decide⟩ rfl (cr_fit hcr (u := 3) ⟨by decide, by decide⟩ hle19) dX10_init_15 (fun _ hw20 => ?_)
  have hcr21 := cr_new hcr (n := 3) (u := 3) ⟨by decide, by decide⟩ hle19
  obtain ⟨σ22, e23⟩ : ∃ z, z = na σ11 4 3 := ⟨_, rfl⟩
  have h := h σ22 e23
  have hke24 : Ke σ11 σ22 := ke_na hw12 e23
  have hz25 : tg σ (nx σ11) = 0 := z0_ki hk16 (by rw [hg17]; decide) hw12.1.fresh
  have hw20 := wc_e e23 hw20
  have ha26 := at_ke ha15 hke24 hg17 (by decide)
  have hk27 := ki_ke hk16 hke24
  have hg28 : tg σ22 a0 = -9 := ke_tg hke24 hg17 (by decide)
  have hg29 : tg σ22 o1 = -1 := ke_tg hke24 hg18 (by decide)
  have hg30 : tg σ22 (nx σ11) = 64 := tg_na e23
  have hln31 : σ22 (nx σ11) 1 0 = 3 := len_na e23
  refine lv_dup (pc := 18) K.x K.b dX10_init_18 (jR_cat _ _) ?_
  refine z_iconst (pc := 19) K dX10_init_19 ?_
  refine z_ldcS (pc := 20) (i := 25) K (-27) (by decide) (tx := "by") rfl dX10_init_20 ?_
  refine z_aastS (pc := 22) K hw20 hg30 hln31 ⟨by decide, by decide⟩ (by decide) ⟨by decide, by decide⟩ dX10_init_22 (fun _ _ hw32 => ?_)
  obtain ⟨σ33, e34⟩ : ∃ z, z = st σ22 (nx σ11) 0 0 (-27) := ⟨_, rfl⟩
  have h := h σ33 e34
  have hw32 := wc_e e34 hw32
  have ha35 := at_st ha26 e34 (by decide)
  have hk36 := ki_ki hk27 (ki_e e34) hz25
  have hg37 : tg σ33 a0 = -9 := (tg_e e34 (by decide)).trans hg28
  have hg38 : tg σ33 o1 = -1 := (tg_e e34 (by decide)).trans hg29
  have hg39 : tg σ33 (nx σ11) = 64 := (tg_e e34 (by decide)).trans hg30
  have hln40 : σ33 (nx σ11) 1 0 = 3 := len_e e34 (by decide) hln31
  refine lv_dup (pc := 23) K.x K.b dX10_init_23 (jR_cat _ _) ?_
  refine z_iconst (pc := 24) K dX10_init_24 ?_
  refine z_ldcS (pc := 25) (i := 26) K (-28) (by decide) (tx := "to") rfl dX10_init_25 ?_
  refine z_aastS (pc := 27) K hw32 hg39 hln40 ⟨by decide, by decide⟩ (by decide) ⟨by decide, by decide⟩ dX10_init_27 (fun _ _ hw41 => ?_)
  obtain ⟨σ42, e43⟩ : ∃ z, z = st σ33 (nx σ11) 0 1 (-28) := ⟨_, rfl⟩
  have h := h σ42 e43
  have hw41 := wc_e e43 hw41
  have ha44 := at_st ha35 e43 (by decide)
  have hk45 := ki_ki hk36 (ki_e e43) hz25
  have hg46 : tg σ42 a0 = -9 := (tg_e e43 (by decide)).trans hg37
  have hg47 : tg σ42 o1 = -1 := (tg_e e43 (by decide)).trans hg38
  have hg48 : tg σ42 (nx σ11) = 64 := (tg_e e43 (by decide)).trans hg39
  have hln49 : σ42 (nx σ11) 1 0 = 3 := len_e e43 (by decide) hln40
  refine lv_dup (pc := 28) K.x K.b dX10_init_28 (jR_cat _ _) ?_
  refine z_iconst (pc := 29) K dX10_init_29 ?_
  refine z_ldcS (pc := 30) (i := 27) K (-29) (by decide) (tx := "is") rfl dX10_init_30 ?_
  refine z_aastS (pc := 32) K hw41 hg48 hln49 ⟨by decide, by decide⟩ (by decide) ⟨by decide, by decide⟩ dX10_init_32 (fun _ _ hw50 => ?_)
  obtain ⟨σ51, e52⟩ : ∃ z, z = st σ42 (nx σ11) 0 2 (-29) := ⟨_, rfl⟩
  have h := h σ51 e52
  have hw50 := wc_e e52 hw50
  have ha53 := at_st ha44 e52 (by decide)
  have hk54 := ki_ki hk45 (ki_e e52) hz25
  have hg55 : tg σ51 a0 = -9 := (tg_e e52 (by decide)).trans hg46
  have hg56 : tg σ51 o1 = -1 := (tg_e e52 (by decide)).trans hg47
  have hg57 : tg σ51 (nx σ11) = 64 := (tg_e e52 (by decide)).trans hg48
  have hln58 : σ51 (nx σ11) 1 0 = 3 := len_e e52 (by decide) hln49
  refine z_putA (pc := 33) (t := 9) (k := 8) (κ := 4) K hw50 (by decide) hg55 zq9 (by decide) (by decide) kf_9_8 hg57 (hln58.trans kl_9_8.symm) q483 (fun _ h => h) rfl hnm rfl dX10_init_33 (fun _ _ hw59 => ?_)
  obtain ⟨σ60, e61⟩ : ∃ z, z = att σ51 a0 8 (nx σ11) := ⟨_, rfl⟩
  have h := h σ60 e61
  have ha62 := at_att ha53 e61 (hw50.1.pos (by rw [hg57]; decide)).1 hg55 hg57 (by decide)
  have hw59 := wc_e e61 hw59
  have hk63 := ki_att2 hk54 hz25 e61
  have hg64 : tg σ60 a0 = -9 := tg_att e61 (by decide) hg55 hg57 (by decide)
  have hg65 : tg σ60 o1 = -1 := tg_att e61 (by decide) hg56 hg57 (by decide)
  refine z_aload_n (pc := 36) K dX10_init_36 rfl (lv_at hl 0 rfl) ?_
  refine z_iconst (pc := 37) K dX10_init_37 ?_
  obtain ⟨hle66, h⟩ := h
  refine z_anew (pc := 38) (κ := 4) (N' := 4) K hw59 ⟨by decide, by decide⟩ rfl q475 q199 ⟨by decide, by decide⟩ rfl (cr_fit hcr21 (u := 4) ⟨by decide, by decide⟩ hle66) dX10_init_38 (fun _ hw67 => ?_)
  have hcr68 := cr_new hcr21 (n := 4) (u := 4) ⟨by decide, by decide⟩ hle66
  obtain ⟨σ69, e70⟩ : ∃ z, z = na σ60 4 4 := ⟨_, rfl⟩
  have h := h σ69 e70
  have hke71 : Ke σ60 σ69 := ke_na hw59 e70
  have hz72 : tg σ (nx σ60) = 0 := z0_ki hk63 (by rw [hg64]; decide) hw59.1.fresh
  have hw67 := wc_e e70 hw67
  have ha73 := at_ke ha62 hke71 hg64 (by decide)
  have hk74 := ki_ke hk63 hke71
  have hg75 : tg σ69 a0 = -9 := ke_tg hke71 hg64 (by decide)
  have hg76 : tg σ69 o1 = -1 := ke_tg hke71 hg65 (by decide)
  have hg77 : tg σ69 (nx σ60) = 64 := tg_na e70
  have hln78 : σ69 (nx σ60) 1 0 = 4 := len_na e70
  refine lv_dup (pc := 41) K.x K.b dX10_init_41 (jR_cat _ _) ?_
  refine z_iconst (pc := 42) K dX10_init_42 ?_
  refine z_ldcS (pc := 43) (i := 28) K (-30) (by decide) (tx := "place") rfl dX10_init_43 ?_
  refine z_aastS (pc := 45) K hw67 hg77 hln78 ⟨by decide, by decide⟩ (by decide) ⟨by decide, by decide⟩ dX10_init_45 (fun _ _ hw79 => ?_)
  obtain ⟨σ80, e81⟩ : ∃ z, z = st σ69 (nx σ60) 0 0 (-30) := ⟨_, rfl⟩
  have h := h σ80 e81
  have hw79 := wc_e e81 hw79
  have ha82 := at_st ha73 e81 (by decide)
  have hk83 := ki_ki hk74 (ki_e e81) hz72
  have hg84 : tg σ80 a0 = -9 := (tg_e e81 (by decide)).trans hg75
  have hg85 : tg σ80 o1 = -1 := (tg_e e81 (by decide)).trans hg76
  have hg86 : tg σ80 (nx σ60) = 64 := (tg_e e81 (by decide)).trans hg77
  have hln87 : σ80 (nx σ60) 1 0 = 4 := len_e e81 (by decide) hln78
  refine lv_dup (pc := 46) K.x K.b dX10_init_46 (jR_cat _ _) ?_
  refine z_iconst (pc := 47) K dX10_init_47 ?_
  refine z_ldcS (pc := 48) (i := 29) K (-31) (by decide) (tx := "thread") rfl dX10_init_48 ?_
  refine z_aastS (pc := 50) K hw79 hg86 hln87 ⟨by decide, by decide⟩ (by decide) ⟨by decide, by decide⟩ dX10_init_50 (fun _ _ hw88 => ?_)
  obtain ⟨σ89, e90⟩ : ∃ z, z = st σ80 (nx σ60) 0 1 (-31) := ⟨_, rfl⟩
  have h := h σ89 e90
  have hw88 := wc_e e90 hw88
  have ha91 := at_st ha82 e90 (by decide)
  have hk92 := ki_ki hk83 (ki_e e90) hz72
  have hg93 : tg σ89 a0 = -9 := (tg_e e90 (by decide)).trans hg84
  have hg94 : tg σ89 o1 = -1 := (tg_e e90 (by decide)).trans hg85
  have hg95 : tg σ89 (nx σ60) = 64 := (tg_e e90 (by decide)).trans hg86
  have hln96 : σ89 (nx σ60) 1 0 = 4 := len_e e90 (by decide) hln87
  refine lv_dup (pc := 51) K.x K.b dX10_init_51 (jR_cat _ _) ?_
  refine z_iconst (pc := 52) K dX10_init_52 ?_
  refine z_ldcS (pc := 53) (i := 30) K (-32) (by decide) (tx := "depth") rfl dX10_init_53 ?_
  refine z_aastS (pc := 55) K hw88 hg95 hln96 ⟨by decide, by decide⟩ (by decide) ⟨by decide, by decide⟩ dX10_init_55 (fun _ _ hw97 => ?_)
  obtain ⟨σ98, e99⟩ : ∃ z, z = st σ89 (nx σ60) 0 2 (-32) := ⟨_, rfl⟩
  have h := h σ98 e99
  have hw97 := wc_e e99 hw97
  have ha100 := at_st ha91 e99 (by decide)
  have hk101 := ki_ki hk92 (ki_e e99) hz72
  have hg102 : tg σ98 a0 = -9 := (tg_e e99 (by decide)).trans hg93
  have hg103 : tg σ98 o1 = -1 := (tg_e e99 (by decide)).trans hg94
  have hg104 : tg σ98 (nx σ60) = 64 := (tg_e e99 (by decide)).trans hg95
  have hln105 : σ98 (nx σ60) 1 0 = 4 := len_e e99 (by decide) hln96
  refine lv_dup (pc := 56) K.x K.b dX10_init_56 (jR_cat _ _) ?_
  refine z_iconst (pc := 57) K dX10_init_57 ?_
  refine z_ldcS (pc := 58) (i := 31) K (-33) (by decide) (tx := "state") rfl dX10_init_58 ?_
  refine z_aastS (pc := 60) K hw97 hg104 hln105 ⟨by decide, by decide⟩ (by decide) ⟨by decide, by decide⟩ dX10_init_60 (fun _ _ hw106 => ?_)
  obtain ⟨σ107, e108⟩ : ∃ z, z = st σ98 (nx σ60) 0 3 (-33) := ⟨_, rfl⟩
  have h := h σ107 e108
  have hw106 := wc_e e108 hw106
  have ha109 := at_st ha100 e108 (by decide)
  have hk110 := ki_ki hk101 (ki_e e108) hz72
  have hg111 : tg σ107 a0 = -9 := (tg_e e108 (by decide)).trans hg102
  have hg112 : tg σ107 o1 = -1 := (tg_e e108 (by decide)).trans hg103
  have hg113 : tg σ107 (nx σ60) = 64 := (tg_e e108 (by decide)).trans hg104
  have hln114 : σ107 (nx σ60) 1 0 = 4 := len_e e108 (by decide) hln105
  refine z_putA (pc := 61) (t := 9) (k := 9) (κ := 4) K hw106 (by decide) hg111 zq9 (by decide) (by decide) kf_9_9 hg113 (hln114.trans kl_9_9.symm) q484 (fun _ h => h) rfl hnm rfl dX10_init_61 (fun _ _ hw115 => ?_)
  obtain ⟨σ116, e117⟩ : ∃ z, z = att σ107 a0 9 (nx σ60) := ⟨_, rfl⟩
  have h := h σ116 e117
  have ha118 := at_att ha109 e117 (hw106.1.pos (by rw [hg113]; decide)).1 hg111 hg113 (by decide)
  have hw115 := wc_e e117 hw115
  have hk119 := ki_att2 hk110 hz72 e117
  have hg120 : tg σ116 a0 = -9 := tg_att e117 (by decide) hg111 hg113 (by decide)
  have hg121 : tg σ116 o1 = -1 := tg_att e117 (by decide) hg112 hg113 (by decide)
  exact za_vret (pc := 64) K hw115 hcr68 ⟨hk119, hg120, h⟩ dX10_init_64
def wp_X7_init (σ : St) (a0 : Int) (o1 : Int) (Q : St → Prop) : Prop :=
  ∀ σ2 : St, σ2 = st σ a0 10 0 o1 → wp_X6_init σ2 a0 o1 900 (fun σ11 => Ki a0 σ2 σ11 → tg σ11 a0 = (-6) → Q σ11)
set_option maxHeartbeats 4000000 in
theorem met_X7_init (X : Cxt) (l : Launch) (σ : St) (a0 : Int) (o1 : Int) (ht0 : tg σ a0 = (-6)) (ht1 : tg σ o1 = (-1)) (Q : St → Prop) (h : wp_X7_init σ a0 o1 Q) : MetT l yX7_init (ws_ yX7_init cX7_init 2 (none)) (zrm 3 0 0) (ZP X σ [jR X a0, jR X o1]) (ZQ X (qV (fun σ' => Ki a0 σ σ' ∧ tg σ' a0 = (-6) ∧ Q σ')) (fun _ _ => False)) 0 0 (zA X) := by
  refine z_start (own := "CombTable$TableReader") (lv := [(0, jR X a0), (1, jR X o1)]) (by decide) rfl (by simp [lv_args, jR_cat, jI_cat, jL_cat]) (by simp [lg_sl, jR_cat, jI_cat, jL_cat]) (fun p e s m below meth c ls K _ hnm hw hl => ?_)
  have hk : Ki a0 σ σ := ki_rf σ
  have hat : AtF σ a0 [] := fun _ h => absurd h List.not_mem_nil
  refine z_aload_n (pc := 0) K dX7_init_0 rfl (lv_at hl 0 rfl) ?_
  refine z_aload_n (pc := 1) K dX7_init_1 rfl (lv_at hl 1 rfl) ?_
  refine z_putrF (pc := 2) (t := 6) 10 K hw (by decide) ht0 zq6 (by decide) kf_6_10 zt_6_10 q380 (fun _ h => h) rfl hnm rfl dX7_init_2 (fun _ _ hw1 => ?_)
  obtain ⟨σ2, e3⟩ : ∃ z, z = st σ a0 10 0 o1 := ⟨_, rfl⟩
  have h := h σ2 e3
  have hw1 := wc_e e3 hw1
  have ha4 := at_st hat e3 (by decide)
  have hk5 := ki_same hk (ki_e e3)
  have hg6 : tg σ2 a0 = -6 := (tg_e e3 (by decide)).trans ht0
  have hg7 : tg σ2 o1 = -1 := (tg_e e3 (by decide)).trans ht1
  refine z_aload_n (pc := 5) K dX7_init_5 rfl (lv_at hl 0 rfl) ?_
  refine z_aload_n (pc := 6) K dX7_init_6 rfl (lv_at hl 1 rfl) ?_
  refine z_sipush (pc := 7) K dX7_init_7 (by decide) ?_
  refine zc_v (pc := 10) (maxL := 3) K hw1 (met_X6_init_6 X l σ2 a0 o1 900 hg6 hg7 ⟨by decide, by decide⟩ _ h) (i_I (n := 2) (As := [jR X o1, jI 900]) K (hw1.1.pos (by rw [hg6]; decide)).1 (by decide) rfl q374 q375 q376 rfl rfl dX7_init_10) (locw K q376 q97) ⟨by decide, by decide⟩ hl.1 dX7_init_10 (Nat.le_of_ble_eq_true rfl) ⟨Nat.le_refl _, Nat.le_refl _⟩ (fun σ11 _ _ hq10 hw12 => ?_)
  obtain ⟨hk13, hg14, h⟩ := hq10
  have h := h hk13 hg14
  have ha15 : AtF σ11 a0 [] := fun _ h => absurd h List.not_mem_nil
  have hk16 := ki_same hk5 hk13
  have hg17 : tg σ11 a0 = -6 := hg14
  have hg18 : tg σ11 o1 = -1 := ki_tg hk13 hg7 (by decide) hg6 (by decide)
  exact z_vret (pc := 13) K hw12 ⟨hk16, hg17, h⟩ dX7_init_13
def wp_X4_init (σ : St) (a0 : Int) (cr : Int) (Q : St → Int → Prop) : Prop :=
  8 ≤ cr ∧ ∀ σ4 : St, σ4 = na σ 5 8 → ∀ σ14 : St, σ14 = att σ4 a0 0 (nx σ) → 10 ≤ (cr - 8) ∧ ∀ σ22 : St, σ22 = na σ14 6 10 → ∀ σ32 : St, σ32 = att σ22 a0 1 (nx σ14) → 6 ≤ ((cr - 8) - 10) ∧ ∀ σ40 : St, σ40 = na σ32 1 6 → ∀ σ50 : St, σ50 = st σ40 (nx σ32) 0 0 2 → ∀ σ58 : St, σ58 = st σ50 (nx σ32) 0 1 0 → ∀ σ66 : St, σ66 = st σ58 (nx σ32) 0 2 0 → ∀ σ74 : St, σ74 = st σ66 (nx σ32) 0 3 0 → ∀ σ82 : St, σ82 = st σ74 (nx σ32) 0 4 0 → ∀ σ90 : St, σ90 = st σ82 (nx σ32) 0 5 0 → ∀ σ98 : St, σ98 = att σ90 a0 2 (nx σ32) → ∀ σ104 : St, σ104 = st σ98 a0 6 0 1 → RefOk (sealz σ104 [a0]) a0 4 ∧ ∀ σ109 : St, σ109 = sealz σ104 [a0] → Q σ109 (((cr - 8) - 10) - 6)
set_option maxHeartbeats 4000000 in
theorem met_X4_init (X : Cxt) (l : Launch) (σ : St) (a0 : Int) (ht0 : tg σ a0 = (-4)) (cr : Int) (hcr0 : 0 ≤ cr) (Q : St → Int → Prop) (h : wp_X4_init σ a0 cr Q) : MetA X l yX4_init (ws_ yX4_init cX4_init 1 (none)) 2 cr.toNat (ZP X σ [jR X a0]) (qVA (fun σ' cr => Ki a0 σ σ' ∧ tg σ' a0 = 4 ∧ Q σ' cr)) (fun _ _ _ => False) := by
  have hcr : Cr cr.toNat 0 0 cr := by unfold Cr; omega
  refine z_startA (own := "CombTable$Table") (lv := [(0, jR X a0)]) (by decide) rfl (by simp [lv_args, jR_cat, jI_cat, jL_cat]) (by simp [lg_sl, jR_cat, jI_cat, jL_cat]) (fun p e s m below meth c ls _ K _ hnm hw hl => ?_)
  have hk : Ki a0 σ σ := ki_rf σ
  have hat : AtF σ a0 [] := fun _ h => absurd h List.not_mem_nil
  refine z_aload_n (pc := 0) K dX4_init_0 rfl (lv_at hl 0 rfl) ?_
  refine z_objI (pc := 1) K (hw.1.pos (by rw [ht0]; decide)).1 q236 q127 q128 hl.1 (zr_ok3A (by decide) (by decide)) (by decide) dX4_init_1 ?_
  refine z_aload_n (pc := 4) K dX4_init_4 rfl (lv_at hl 0 rfl) ?_
  refine z_bipush (pc := 5) K dX4_init_5 (by decide) ?_
  obtain ⟨hle1, h⟩ := h
  refine z_anew (pc := 7) (κ := 5) (N' := 8) K hw ⟨by decide, by decide⟩ rfl q237 q238 ⟨by decide, by decide⟩ rfl (cr_fit hcr (u := 8) ⟨by decide, by decide⟩ hle1) dX4_init_7 (fun _ hw2 => ?_)
  have hcr3 := cr_new hcr (n := 8) (u := 8) ⟨by decide, by decide⟩ hle1
  obtain ⟨σ4, e5⟩ : ∃ z, z = na σ 5 8 := ⟨_, rfl⟩
  have h := h σ4 e5
  have hke6 : Ke σ σ4 := ke_na hw e5
  have hz7 : tg σ (nx σ) = 0 := z0_ki hk (by rw [ht0]; decide) hw.1.fresh
  have hw2 := wc_e e5 hw2
  have ha8 := at_ke hat hke6 ht0 (by decide)
  have hk9 := ki_ke hk hke6
  have hg10 : tg σ4 a0 = -4 := ke_tg hke6 ht0 (by decide)
  have hg11 : tg σ4 (nx σ) = 65 := tg_na e5
  have hln12 : σ4 (nx σ) 1 0 = 8 := len_na e5
  refine z_putA (pc := 10) (t := 4) (k := 0) (κ := 5) K hw2 (by decide) hg10 zq4 (by decide) (by decide) kf_4_0 hg11 (hln12.trans kl_4_0.symm) q241 (fun _ h => h) rfl hnm rfl dX4_init_10 (fun _ _ hw13 => ?_)
  obtain ⟨σ14, e15⟩ : ∃ z, z = att σ4 a0 0 (nx σ) := ⟨_, rfl⟩
  have h := h σ14 e15
  have ha16 := at_att ha8 e15 (hw2.1.pos (by rw [hg11]; decide)).1 hg10 hg11 (by decide)
  have hw13 := wc_e e15 hw13
  have hk17 := ki_att2 hk9 hz7 e15
  have hg18 : tg σ14 a0 = -4 := tg_att e15 (by decide) hg10 hg11 (by decide)
  refine z_aload_n (pc := 13) K dX4_init_13 rfl (lv_at hl 0 rfl) ?_
  refine z_bipush (pc := 14) K dX4_init_14 (by decide) ?_
  obtain ⟨hle19, h⟩ := h
  refine z_anew (pc := 16) (κ := 6) (N' := 10) K hw13 ⟨by decide, by decide⟩ rfl q239 q240 ⟨by decide, by decide⟩ rfl (cr_fit hcr3 (u := 10) ⟨by decide, by decide⟩ hle19) dX4_init_16 (fun _ hw20 => ?_)
  have hcr21 := cr_new hcr3 (n := 10) (u := 10) ⟨by decide, by decide⟩ hle19
  obtain ⟨σ22, e23⟩ : ∃ z, z = na σ14 6 10 := ⟨_, rfl⟩
  have h := h σ22 e23
  have hke24 : Ke σ14 σ22 := ke_na hw13 e23
  have hz25 : tg σ (nx σ14) = 0 := z0_ki hk17 (by rw [hg18]; decide) hw13.1.fresh
  have hw20 := wc_e e23 hw20
  have ha26 := at_ke ha16 hke24 hg18 (by decide)
  have hk27 := ki_ke hk17 hke24
  have hg28 : tg σ22 a0 = -4 := ke_tg hke24 hg18 (by decide)
  have hg29 : tg σ22 (nx σ14) = 66 := tg_na e23
  have hln30 : σ22 (nx σ14) 1 0 = 10 := len_na e23
  refine z_putA (pc := 19) (t := 4) (k := 1) (κ := 6) K hw20 (by decide) hg28 zq4 (by decide) (by decide) kf_4_1 hg29 (hln30.trans kl_4_1.symm) q247 (fun _ h => h) rfl hnm rfl dX4_init_19 (fun _ _ hw31 => ?_)
  obtain ⟨σ32, e33⟩ : ∃ z, z = att σ22 a0 1 (nx σ14) := ⟨_, rfl⟩
  have h := h σ32 e33
  have ha34 := at_att ha26 e33 (hw20.1.pos (by rw [hg29]; decide)).1 hg28 hg29 (by decide)
  have hw31 := wc_e e33 hw31
  have hk35 := ki_att2 hk27 hz25 e33
  have hg36 : tg σ32 a0 = -4 := tg_att e33 (by decide) hg28 hg29 (by decide)
  refine z_aload_n (pc := 22) K dX4_init_22 rfl (lv_at hl 0 rfl) ?_
  refine z_bipush (pc := 23) K dX4_init_23 (by decide) ?_
  obtain ⟨hle37, h⟩ := h
  refine z_newa (pc := 25) (atype := .int) (κ := 1) (N' := 6) K hw31 (by decide) rfl (fun _ => rfl) q298 ⟨by decide, by decide⟩ rfl (by decide) (cr_fit hcr21 (u := 6) ⟨by decide, by decide⟩ hle37) dX4_init_25 (fun _ hw38 => ?_)
  have hcr39 := cr_new hcr21 (n := 6) (u := 6) ⟨by decide, by decide⟩ hle37
  obtain ⟨σ40, e41⟩ : ∃ z, z = na σ32 1 6 := ⟨_, rfl⟩
  have h := h σ40 e41
  have hke42 : Ke σ32 σ40 := ke_na hw31 e41
  have hz43 : tg σ (nx σ32) = 0 := z0_ki hk35 (by rw [hg36]; decide) hw31.1.fresh
  have hw38 := wc_e e41 hw38
  have ha44 := at_ke ha34 hke42 hg36 (by decide)
  have hk45 := ki_ke hk35 hke42
  have hg46 : tg σ40 a0 = -4 := ke_tg hke42 hg36 (by decide)
  have hg47 : tg σ40 (nx σ32) = 61 := tg_na e41
  have hln48 : σ40 (nx σ32) 1 0 = 6 := len_na e41
  refine lv_dup (pc := 27) K.x K.b dX4_init_27 (jR_cat _ _) ?_
  refine z_iconst (pc := 28) K dX4_init_28 ?_
  refine z_iconst (pc := 29) K dX4_init_29 ?_
  refine z_iastS (pc := 30) K hw38 hg47 hln48 ⟨by decide, by decide⟩ (by decide) ⟨by decide, by decide⟩ dX4_init_30 (fun _ _ hw49 => ?_)
  obtain ⟨σ50, e51⟩ : ∃ z, z = st σ40 (nx σ32) 0 0 2 := ⟨_, rfl⟩
  have h := h σ50 e51
  have hw49 := wc_e e51 hw49
  have ha52 := at_st ha44 e51 (by decide)
  have hk53 := ki_ki hk45 (ki_e e51) hz43
  have hg54 : tg σ50 a0 = -4 := (tg_e e51 (by decide)).trans hg46
  have hg55 : tg σ50 (nx σ32) = 61 := (tg_e e51 (by decide)).trans hg47
  have hln56 : σ50 (nx σ32) 1 0 = 6 := len_e e51 (by decide) hln48
  refine lv_dup (pc := 31) K.x K.b dX4_init_31 (jR_cat _ _) ?_
  refine z_iconst (pc := 32) K dX4_init_32 ?_
  refine z_iconst (pc := 33) K dX4_init_33 ?_
  refine z_iastS (pc := 34) K hw49 hg55 hln56 ⟨by decide, by decide⟩ (by decide) ⟨by decide, by decide⟩ dX4_init_34 (fun _ _ hw57 => ?_)
  obtain ⟨σ58, e59⟩ : ∃ z, z = st σ50 (nx σ32) 0 1 0 := ⟨_, rfl⟩
  have h := h σ58 e59
  have hw57 := wc_e e59 hw57
  have ha60 := at_st ha52 e59 (by decide)
  have hk61 := ki_ki hk53 (ki_e e59) hz43
  have hg62 : tg σ58 a0 = -4 := (tg_e e59 (by decide)).trans hg54
  have hg63 : tg σ58 (nx σ32) = 61 := (tg_e e59 (by decide)).trans hg55
  have hln64 : σ58 (nx σ32) 1 0 = 6 := len_e e59 (by decide) hln56
  refine lv_dup (pc := 35) K.x K.b dX4_init_35 (jR_cat _ _) ?_
  refine z_iconst (pc := 36) K dX4_init_36 ?_
  refine z_iconst (pc := 37) K dX4_init_37 ?_
  refine z_iastS (pc := 38) K hw57 hg63 hln64 ⟨by decide, by decide⟩ (by decide) ⟨by decide, by decide⟩ dX4_init_38 (fun _ _ hw65 => ?_)
  obtain ⟨σ66, e67⟩ : ∃ z, z = st σ58 (nx σ32) 0 2 0 := ⟨_, rfl⟩
  have h := h σ66 e67
  have hw65 := wc_e e67 hw65
  have ha68 := at_st ha60 e67 (by decide)
  have hk69 := ki_ki hk61 (ki_e e67) hz43
  have hg70 : tg σ66 a0 = -4 := (tg_e e67 (by decide)).trans hg62
  have hg71 : tg σ66 (nx σ32) = 61 := (tg_e e67 (by decide)).trans hg63
  have hln72 : σ66 (nx σ32) 1 0 = 6 := len_e e67 (by decide) hln64
  refine lv_dup (pc := 39) K.x K.b dX4_init_39 (jR_cat _ _) ?_
  refine z_iconst (pc := 40) K dX4_init_40 ?_
  refine z_iconst (pc := 41) K dX4_init_41 ?_
  refine z_iastS (pc := 42) K hw65 hg71 hln72 ⟨by decide, by decide⟩ (by decide) ⟨by decide, by decide⟩ dX4_init_42 (fun _ _ hw73 => ?_)
  obtain ⟨σ74, e75⟩ : ∃ z, z = st σ66 (nx σ32) 0 3 0 := ⟨_, rfl⟩
  have h := h σ74 e75
  have hw73 := wc_e e75 hw73
  have ha76 := at_st ha68 e75 (by decide)
  have hk77 := ki_ki hk69 (ki_e e75) hz43
  have hg78 : tg σ74 a0 = -4 := (tg_e e75 (by decide)).trans hg70
  have hg79 : tg σ74 (nx σ32) = 61 := (tg_e e75 (by decide)).trans hg71
  have hln80 : σ74 (nx σ32) 1 0 = 6 := len_e e75 (by decide) hln72
  refine lv_dup (pc := 43) K.x K.b dX4_init_43 (jR_cat _ _) ?_
  refine z_iconst (pc := 44) K dX4_init_44 ?_
  refine z_iconst (pc := 45) K dX4_init_45 ?_
  refine z_iastS (pc := 46) K hw73 hg79 hln80 ⟨by decide, by decide⟩ (by decide) ⟨by decide, by decide⟩ dX4_init_46 (fun _ _ hw81 => ?_)
  obtain ⟨σ82, e83⟩ : ∃ z, z = st σ74 (nx σ32) 0 4 0 := ⟨_, rfl⟩
  have h := h σ82 e83
  have hw81 := wc_e e83 hw81
  have ha84 := at_st ha76 e83 (by decide)
  have hk85 := ki_ki hk77 (ki_e e83) hz43
  have hg86 : tg σ82 a0 = -4 := (tg_e e83 (by decide)).trans hg78
  have hg87 : tg σ82 (nx σ32) = 61 := (tg_e e83 (by decide)).trans hg79
  have hln88 : σ82 (nx σ32) 1 0 = 6 := len_e e83 (by decide) hln80
  refine lv_dup (pc := 47) K.x K.b dX4_init_47 (jR_cat _ _) ?_
  refine z_iconst (pc := 48) K dX4_init_48 ?_
  refine z_iconst (pc := 49) K dX4_init_49 ?_
  refine z_iastS (pc := 50) K hw81 hg87 hln88 ⟨by decide, by decide⟩ (by decide) ⟨by decide, by decide⟩ dX4_init_50 (fun _ _ hw89 => ?_)
  obtain ⟨σ90, e91⟩ : ∃ z, z = st σ82 (nx σ32) 0 5 0 := ⟨_, rfl⟩
  have h := h σ90 e91
  have hw89 := wc_e e91 hw89
  have ha92 := at_st ha84 e91 (by decide)
  have hk93 := ki_ki hk85 (ki_e e91) hz43
  have hg94 : tg σ90 a0 = -4 := (tg_e e91 (by decide)).trans hg86
  have hg95 : tg σ90 (nx σ32) = 61 := (tg_e e91 (by decide)).trans hg87
  have hln96 : σ90 (nx σ32) 1 0 = 6 := len_e e91 (by decide) hln88
  refine z_putA (pc := 51) (t := 4) (k := 2) (κ := 1) K hw89 (by decide) hg94 zq4 (by decide) (by decide) kf_4_2 hg95 (hln96.trans kl_4_2.symm) q254 (fun _ h => h) rfl hnm rfl dX4_init_51 (fun _ _ hw97 => ?_)
  obtain ⟨σ98, e99⟩ : ∃ z, z = att σ90 a0 2 (nx σ32) := ⟨_, rfl⟩
  have h := h σ98 e99
  have ha100 := at_att ha92 e99 (hw89.1.pos (by rw [hg95]; decide)).1 hg94 hg95 (by decide)
  have hw97 := wc_e e99 hw97
  have hk101 := ki_att2 hk93 hz43 e99
  have hg102 : tg σ98 a0 = -4 := tg_att e99 (by decide) hg94 hg95 (by decide)
  refine z_aload_n (pc := 54) K dX4_init_54 rfl (lv_at hl 0 rfl) ?_
  refine z_iconst (pc := 55) K dX4_init_55 ?_
  refine z_puti (pc := 56) (t := 4) 6 K hw97 (obm (t := 4) hg102) zq4 (by decide) kf_4_6 zt_4_6 ⟨by decide, by decide⟩ q270 (fun _ h => h) rfl dX4_init_56 (fun _ _ hw103 => ?_)
  obtain ⟨σ104, e105⟩ : ∃ z, z = st σ98 a0 6 0 1 := ⟨_, rfl⟩
  have h := h σ104 e105
  have hw103 := wc_e e105 hw103
  have ha106 := at_st ha100 e105 (by decide)
  have hk107 := ki_same hk101 (ki_e e105)
  have hg108 : tg σ104 a0 = -4 := (tg_e e105 (by decide)).trans hg102
  obtain ⟨hs111, h⟩ := h
  have hs111 := seal_1 hg108 (t := 4) (by decide) ha106 (by decide) hs111
  obtain ⟨σ109, e110⟩ : ∃ z, z = sealz σ104 [a0] := ⟨_, rfl⟩
  have h := h σ109 e110
  have hw114 := wc_seal hw103 e110 hs111
  have hk112 := ki_seal hk107 e110 (fun x hx => Or.inl (List.mem_singleton.mp hx))
  have hg113 : tg σ109 a0 = 4 := tg_seal e110 hg108 List.mem_cons_self
  exact za_vret (pc := 59) K hw114 hcr39 ⟨hk112, hg113, h⟩ dX4_init_59
def wp_X3_init (σ : St) (a0 : Int) (cr : Int) (Q : St → Int → Prop) : Prop :=
  9 ≤ cr ∧ ∀ σ4 : St, σ4 = nw σ 4 → wp_X4_init σ4 (nx σ) (cr - 9) (fun σ15 cr17 => Ki (nx σ) σ4 σ15 → tg σ15 (nx σ) = 4 → ∀ σ26 : St, σ26 = st σ15 a0 0 0 (nx σ) → 400 ≤ cr17 ∧ ∀ σ34 : St, σ34 = na σ26 1 400 → ∀ σ44 : St, σ44 = att σ34 a0 1 (nx σ26) → 400 ≤ (cr17 - 400) ∧ ∀ σ52 : St, σ52 = na σ44 1 400 → ∀ σ62 : St, σ62 = att σ52 a0 2 (nx σ44) → 400 ≤ ((cr17 - 400) - 400) ∧ ∀ σ70 : St, σ70 = na σ62 1 400 → ∀ σ80 : St, σ80 = att σ70 a0 3 (nx σ62) → 400 ≤ (((cr17 - 400) - 400) - 400) ∧ ∀ σ88 : St, σ88 = na σ80 1 400 → ∀ σ98 : St, σ98 = att σ88 a0 4 (nx σ80) → 400 ≤ ((((cr17 - 400) - 400) - 400) - 400) ∧ ∀ σ106 : St, σ106 = na σ98 1 400 → ∀ σ116 : St, σ116 = att σ106 a0 5 (nx σ98) → 400 ≤ (((((cr17 - 400) - 400) - 400) - 400) - 400) ∧ ∀ σ124 : St, σ124 = na σ116 1 400 → ∀ σ134 : St, σ134 = att σ124 a0 6 (nx σ116) → 400 ≤ ((((((cr17 - 400) - 400) - 400) - 400) - 400) - 400) ∧ ∀ σ142 : St, σ142 = na σ134 1 400 → ∀ σ152 : St, σ152 = att σ142 a0 7 (nx σ134) → RefOk (sealz σ152 [a0]) a0 3 ∧ ∀ σ157 : St, σ157 = sealz σ152 [a0] → Q σ157 (((((((cr17 - 400) - 400) - 400) - 400) - 400) - 400) - 400))
set_option maxHeartbeats 4000000 in
theorem met_X3_init (X : Cxt) (l : Launch) (σ : St) (a0 : Int) (ht0 : tg σ a0 = (-3)) (cr : Int) (hcr0 : 0 ≤ cr) (Q : St → Int → Prop) (h : wp_X3_init σ a0 cr Q) : MetA X l yX3_init (ws_ yX3_init cX3_init 1 (none)) 3 cr.toNat (ZP X σ [jR X a0]) (qVA (fun σ' cr => Ki a0 σ σ' ∧ tg σ' a0 = 3 ∧ Q σ' cr)) (fun _ _ _ => False) := by
  have hcr : Cr cr.toNat 0 0 cr := by unfold Cr; omega
  refine z_startA (own := "CombTable$Talk") (lv := [(0, jR X a0)]) (by decide) rfl (by simp [lv_args, jR_cat, jI_cat, jL_cat]) (by simp [lg_sl, jR_cat, jI_cat, jL_cat]) (fun p e s m below meth c ls _ K _ hnm hw hl => ?_)
  have hk : Ki a0 σ σ := ki_rf σ
  have hat : AtF σ a0 [] := fun _ h => absurd h List.not_mem_nil
  refine z_aload_n (pc := 0) K dX3_init_0 rfl (lv_at hl 0 rfl) ?_
  refine z_objI (pc := 1) K (hw.1.pos (by rw [ht0]; decide)).1 q230 q127 q128 hl.1 (zr_ok3A (by decide) (by decide)) (by decide) dX3_init_1 ?_
  refine z_aload_n (pc := 4) K dX3_init_4 rfl (lv_at hl 0 rfl) ?_
  obtain ⟨hle1, h⟩ := h
  refine z_new (pc := 5) (t := 4) K hw (by decide) zq4 q231 q232 q95 (cr_fit hcr (u := 9) ⟨by decide, by decide⟩ hle1) dX3_init_5 (fun _ hw2 => ?_)
  have hcr3 := cr_new hcr (n := 9) (u := 9) ⟨by decide, by decide⟩ hle1
  obtain ⟨σ4, e5⟩ : ∃ z, z = nw σ 4 := ⟨_, rfl⟩
  have h := h σ4 e5
  have hke6 : Ke σ σ4 := ke_nw hw e5
  have hz7 : tg σ (nx σ) = 0 := z0_ki hk (by rw [ht0]; decide) hw.1.fresh
  have hw2 := wc_e e5 hw2
  have ha8 := at_ke hat hke6 ht0 (by decide)
  have hk9 := ki_ke hk hke6
  have hg10 : tg σ4 a0 = -3 := ke_tg hke6 ht0 (by decide)
  have hg11 : tg σ4 (nx σ) = (-4) := tg_nw e5
  refine lv_dup (pc := 8) K.x K.b dX3_init_8 (jR_cat _ _) ?_
  refine zac_v (pc := 9) (maxL := 1) K hw2 (met_X4_init X l σ4 (nx σ) hg11 (cr - 9) hcr3.2.2 _ h) (i_IN (n := 0) (As := []) K (hw2.1.pos (by rw [hg11]; decide)).1 (by decide) rfl q233 q234 q235 rfl rfl dX3_init_9) (locw K q235 q95) (zr_ok2A (by decide) (by decide)) hl.1 dX3_init_9 (by simp [jR_cat, jI_cat, jL_cat]) hcr3 (Int.toNat_of_nonneg hcr3.2.2) ⟨Nat.le_refl _, Nat.le_refl _⟩ (fun σ15 _ _ _ _ cr17 hq14 hw16 hcr18 => ?_)
  obtain ⟨hk19, hg20, h⟩ := hq14
  have h := h hk19 hg20
  have ha21 := at_ki ha8 hk19 hg10 (by decide) hg11 (by decide)
  have hk22 := ki_ki hk9 hk19 hz7
  have hg23 : tg σ15 a0 = -3 := ki_tg hk19 hg10 (by decide) hg11 (by decide)
  have hg24 : tg σ15 (nx σ) = 4 := hg20
  refine z_putrQ (pc := 12) (t := 3) 0 K hw16 (by decide) hg23 zq3 (by decide) kf_3_0 zt_3_0 q299 (fun _ h => h) rfl dX3_init_12 (fun _ _ hw25 => ?_)
  obtain ⟨σ26, e27⟩ : ∃ z, z = st σ15 a0 0 0 (nx σ) := ⟨_, rfl⟩
  have h := h σ26 e27
  have hw25 := wc_e e27 hw25
  have ha28 := at_st ha21 e27 (by decide)
  have hk29 := ki_same hk22 (ki_e e27)
  have hg30 : tg σ26 a0 = -3 := (tg_e e27 (by decide)).trans hg23
  refine z_aload_n (pc := 15) K dX3_init_15 rfl (lv_at hl 0 rfl) ?_
  refine z_sipush (pc := 16) K dX3_init_16 (by decide) ?_
  obtain ⟨hle31, h⟩ := h
  refine z_newa (pc := 19) (atype := .int) (κ := 1) (N' := 400) K hw25 (by decide) rfl (fun _ => rfl) q298 ⟨by decide, by decide⟩ rfl (by decide) (cr_fit hcr18 (u := 400) ⟨by decide, by decide⟩ hle31) dX3_init_19 (fun _ hw32 => ?_)
  have hcr33 := cr_new hcr18 (n := 400) (u := 400) ⟨by decide, by decide⟩ hle31
  obtain ⟨σ34, e35⟩ : ∃ z, z = na σ26 1 400 := ⟨_, rfl⟩
  have h := h σ34 e35
  have hke36 : Ke σ26 σ34 := ke_na hw25 e35
  have hz37 : tg σ (nx σ26) = 0 := z0_ki hk29 (by rw [hg30]; decide) hw25.1.fresh
  have hw32 := wc_e e35 hw32
  have ha38 := at_ke ha28 hke36 hg30 (by decide)
  have hk39 := ki_ke hk29 hke36
  have hg40 : tg σ34 a0 = -3 := ke_tg hke36 hg30 (by decide)
  have hg41 : tg σ34 (nx σ26) = 61 := tg_na e35
  have hln42 : σ34 (nx σ26) 1 0 = 400 := len_na e35
  refine z_putA (pc := 21) (t := 3) (k := 1) (κ := 1) K hw32 (by decide) hg40 zq3 (by decide) (by decide) kf_3_1 hg41 (hln42.trans kl_3_1.symm) q304 (fun _ h => h) rfl hnm rfl dX3_init_21 (fun _ _ hw43 => ?_)
  obtain ⟨σ44, e45⟩ : ∃ z, z = att σ34 a0 1 (nx σ26) := ⟨_, rfl⟩
  have h := h σ44 e45
  have ha46 := at_att ha38 e45 (hw32.1.pos (by rw [hg41]; decide)).1 hg40 hg41 (by decide)
  have hw43 := wc_e e45 hw43
  have hk47 := ki_att2 hk39 hz37 e45
  have hg48 : tg σ44 a0 = -3 := tg_att e45 (by decide) hg40 hg41 (by decide)
  refine z_aload_n (pc := 24) K dX3_init_24 rfl (lv_at hl 0 rfl) ?_
  refine z_sipush (pc := 25) K dX3_init_25 (by decide) ?_
  obtain ⟨hle49, h⟩ := h
  refine z_newa (pc := 28) (atype := .int) (κ := 1) (N' := 400) K hw43 (by decide) rfl (fun _ => rfl) q298 ⟨by decide, by decide⟩ rfl (by decide) (cr_fit hcr33 (u := 400) ⟨by decide, by decide⟩ hle49) dX3_init_28 (fun _ hw50 => ?_)
  have hcr51 := cr_new hcr33 (n := 400) (u := 400) ⟨by decide, by decide⟩ hle49
  obtain ⟨σ52, e53⟩ : ∃ z, z = na σ44 1 400 := ⟨_, rfl⟩
  have h := h σ52 e53
  have hke54 : Ke σ44 σ52 := ke_na hw43 e53
  have hz55 : tg σ (nx σ44) = 0 := z0_ki hk47 (by rw [hg48]; decide) hw43.1.fresh
  have hw50 := wc_e e53 hw50
  have ha56 := at_ke ha46 hke54 hg48 (by decide)
  have hk57 := ki_ke hk47 hke54
  have hg58 : tg σ52 a0 = -3 := ke_tg hke54 hg48 (by decide)
  have hg59 : tg σ52 (nx σ44) = 61 := tg_na e53
  have hln60 : σ52 (nx σ44) 1 0 = 400 := len_na e53
  refine z_putA (pc := 30) (t := 3) (k := 2) (κ := 1) K hw50 (by decide) hg58 zq3 (by decide) (by decide) kf_3_2 hg59 (hln60.trans kl_3_2.symm) q307 (fun _ h => h) rfl hnm rfl dX3_init_30 (fun _ _ hw61 => ?_)
  obtain ⟨σ62, e63⟩ : ∃ z, z = att σ52 a0 2 (nx σ44) := ⟨_, rfl⟩
  have h := h σ62 e63
  have ha64 := at_att ha56 e63 (hw50.1.pos (by rw [hg59]; decide)).1 hg58 hg59 (by decide)
  have hw61 := wc_e e63 hw61
  have hk65 := ki_att2 hk57 hz55 e63
  have hg66 : tg σ62 a0 = -3 := tg_att e63 (by decide) hg58 hg59 (by decide)
  refine z_aload_n (pc := 33) K dX3_init_33 rfl (lv_at hl 0 rfl) ?_
  refine z_sipush (pc := 34) K dX3_init_34 (by decide) ?_
  obtain ⟨hle67, h⟩ := h
  refine z_newa (pc := 37) (atype := .int) (κ := 1) (N' := 400) K hw61 (by decide) rfl (fun _ => rfl) q298 ⟨by decide, by decide⟩ rfl (by decide) (cr_fit hcr51 (u := 400) ⟨by decide, by decide⟩ hle67) dX3_init_37 (fun _ hw68 => ?_)
  have hcr69 := cr_new hcr51 (n := 400) (u := 400) ⟨by decide, by decide⟩ hle67
  obtain ⟨σ70, e71⟩ : ∃ z, z = na σ62 1 400 := ⟨_, rfl⟩
  have h := h σ70 e71
  have hke72 : Ke σ62 σ70 := ke_na hw61 e71
  have hz73 : tg σ (nx σ62) = 0 := z0_ki hk65 (by rw [hg66]; decide) hw61.1.fresh
  have hw68 := wc_e e71 hw68
  have ha74 := at_ke ha64 hke72 hg66 (by decide)
  have hk75 := ki_ke hk65 hke72
  have hg76 : tg σ70 a0 = -3 := ke_tg hke72 hg66 (by decide)
  have hg77 : tg σ70 (nx σ62) = 61 := tg_na e71
  have hln78 : σ70 (nx σ62) 1 0 = 400 := len_na e71
  refine z_putA (pc := 39) (t := 3) (k := 3) (κ := 1) K hw68 (by decide) hg76 zq3 (by decide) (by decide) kf_3_3 hg77 (hln78.trans kl_3_3.symm) q310 (fun _ h => h) rfl hnm rfl dX3_init_39 (fun _ _ hw79 => ?_)
  obtain ⟨σ80, e81⟩ : ∃ z, z = att σ70 a0 3 (nx σ62) := ⟨_, rfl⟩
  have h := h σ80 e81
  have ha82 := at_att ha74 e81 (hw68.1.pos (by rw [hg77]; decide)).1 hg76 hg77 (by decide)
  have hw79 := wc_e e81 hw79
  have hk83 := ki_att2 hk75 hz73 e81
  have hg84 : tg σ80 a0 = -3 := tg_att e81 (by decide) hg76 hg77 (by decide)
  refine z_aload_n (pc := 42) K dX3_init_42 rfl (lv_at hl 0 rfl) ?_
  refine z_sipush (pc := 43) K dX3_init_43 (by decide) ?_
  obtain ⟨hle85, h⟩ := h
  refine z_newa (pc := 46) (atype := .int) (κ := 1) (N' := 400) K hw79 (by decide) rfl (fun _ => rfl) q298 ⟨by decide, by decide⟩ rfl (by decide) (cr_fit hcr69 (u := 400) ⟨by decide, by decide⟩ hle85) dX3_init_46 (fun _ hw86 => ?_)
  have hcr87 := cr_new hcr69 (n := 400) (u := 400) ⟨by decide, by decide⟩ hle85
  obtain ⟨σ88, e89⟩ : ∃ z, z = na σ80 1 400 := ⟨_, rfl⟩
  have h := h σ88 e89
  have hke90 : Ke σ80 σ88 := ke_na hw79 e89
  have hz91 : tg σ (nx σ80) = 0 := z0_ki hk83 (by rw [hg84]; decide) hw79.1.fresh
  have hw86 := wc_e e89 hw86
  have ha92 := at_ke ha82 hke90 hg84 (by decide)
  have hk93 := ki_ke hk83 hke90
  have hg94 : tg σ88 a0 = -3 := ke_tg hke90 hg84 (by decide)
  have hg95 : tg σ88 (nx σ80) = 61 := tg_na e89
  have hln96 : σ88 (nx σ80) 1 0 = 400 := len_na e89
  refine z_putA (pc := 48) (t := 3) (k := 4) (κ := 1) K hw86 (by decide) hg94 zq3 (by decide) (by decide) kf_3_4 hg95 (hln96.trans kl_3_4.symm) q313 (fun _ h => h) rfl hnm rfl dX3_init_48 (fun _ _ hw97 => ?_)
  obtain ⟨σ98, e99⟩ : ∃ z, z = att σ88 a0 4 (nx σ80) := ⟨_, rfl⟩
  have h := h σ98 e99
  have ha100 := at_att ha92 e99 (hw86.1.pos (by rw [hg95]; decide)).1 hg94 hg95 (by decide)
  have hw97 := wc_e e99 hw97
  have hk101 := ki_att2 hk93 hz91 e99
  have hg102 : tg σ98 a0 = -3 := tg_att e99 (by decide) hg94 hg95 (by decide)
  refine z_aload_n (pc := 51) K dX3_init_51 rfl (lv_at hl 0 rfl) ?_
  refine z_sipush (pc := 52) K dX3_init_52 (by decide) ?_
  obtain ⟨hle103, h⟩ := h
  refine z_newa (pc := 55) (atype := .int) (κ := 1) (N' := 400) K hw97 (by decide) rfl (fun _ => rfl) q298 ⟨by decide, by decide⟩ rfl (by decide) (cr_fit hcr87 (u := 400) ⟨by decide, by decide⟩ hle103) dX3_init_55 (fun _ hw104 => ?_)
  have hcr105 := cr_new hcr87 (n := 400) (u := 400) ⟨by decide, by decide⟩ hle103
  obtain ⟨σ106, e107⟩ : ∃ z, z = na σ98 1 400 := ⟨_, rfl⟩
  have h := h σ106 e107
  have hke108 : Ke σ98 σ106 := ke_na hw97 e107
  have hz109 : tg σ (nx σ98) = 0 := z0_ki hk101 (by rw [hg102]; decide) hw97.1.fresh
  have hw104 := wc_e e107 hw104
  have ha110 := at_ke ha100 hke108 hg102 (by decide)
  have hk111 := ki_ke hk101 hke108
  have hg112 : tg σ106 a0 = -3 := ke_tg hke108 hg102 (by decide)
  have hg113 : tg σ106 (nx σ98) = 61 := tg_na e107
  have hln114 : σ106 (nx σ98) 1 0 = 400 := len_na e107
  refine z_putA (pc := 57) (t := 3) (k := 5) (κ := 1) K hw104 (by decide) hg112 zq3 (by decide) (by decide) kf_3_5 hg113 (hln114.trans kl_3_5.symm) q316 (fun _ h => h) rfl hnm rfl dX3_init_57 (fun _ _ hw115 => ?_)
  obtain ⟨σ116, e117⟩ : ∃ z, z = att σ106 a0 5 (nx σ98) := ⟨_, rfl⟩
  have h := h σ116 e117
  have ha118 := at_att ha110 e117 (hw104.1.pos (by rw [hg113]; decide)).1 hg112 hg113 (by decide)
  have hw115 := wc_e e117 hw115
  have hk119 := ki_att2 hk111 hz109 e117
  have hg120 : tg σ116 a0 = -3 := tg_att e117 (by decide) hg112 hg113 (by decide)
  refine z_aload_n (pc := 60) K dX3_init_60 rfl (lv_at hl 0 rfl) ?_
  refine z_sipush (pc := 61) K dX3_init_61 (by decide) ?_
  obtain ⟨hle121, h⟩ := h
  refine z_newa (pc := 64) (atype := .int) (κ := 1) (N' := 400) K hw115 (by decide) rfl (fun _ => rfl) q298 ⟨by decide, by decide⟩ rfl (by decide) (cr_fit hcr105 (u := 400) ⟨by decide, by decide⟩ hle121) dX3_init_64 (fun _ hw122 => ?_)
  have hcr123 := cr_new hcr105 (n := 400) (u := 400) ⟨by decide, by decide⟩ hle121
  obtain ⟨σ124, e125⟩ : ∃ z, z = na σ116 1 400 := ⟨_, rfl⟩
  have h := h σ124 e125
  have hke126 : Ke σ116 σ124 := ke_na hw115 e125
  have hz127 : tg σ (nx σ116) = 0 := z0_ki hk119 (by rw [hg120]; decide) hw115.1.fresh
  have hw122 := wc_e e125 hw122
  have ha128 := at_ke ha118 hke126 hg120 (by decide)
  have hk129 := ki_ke hk119 hke126
  have hg130 : tg σ124 a0 = -3 := ke_tg hke126 hg120 (by decide)
  have hg131 : tg σ124 (nx σ116) = 61 := tg_na e125
  have hln132 : σ124 (nx σ116) 1 0 = 400 := len_na e125
  refine z_putA (pc := 66) (t := 3) (k := 6) (κ := 1) K hw122 (by decide) hg130 zq3 (by decide) (by decide) kf_3_6 hg131 (hln132.trans kl_3_6.symm) q319 (fun _ h => h) rfl hnm rfl dX3_init_66 (fun _ _ hw133 => ?_)
  obtain ⟨σ134, e135⟩ : ∃ z, z = att σ124 a0 6 (nx σ116) := ⟨_, rfl⟩
  have h := h σ134 e135
  have ha136 := at_att ha128 e135 (hw122.1.pos (by rw [hg131]; decide)).1 hg130 hg131 (by decide)
  have hw133 := wc_e e135 hw133
  have hk137 := ki_att2 hk129 hz127 e135
  have hg138 : tg σ134 a0 = -3 := tg_att e135 (by decide) hg130 hg131 (by decide)
  refine z_aload_n (pc := 69) K dX3_init_69 rfl (lv_at hl 0 rfl) ?_
  refine z_sipush (pc := 70) K dX3_init_70 (by decide) ?_
  obtain ⟨hle139, h⟩ := h
  refine z_newa (pc := 73) (atype := .int) (κ := 1) (N' := 400) K hw133 (by decide) rfl (fun _ => rfl) q298 ⟨by decide, by decide⟩ rfl (by decide) (cr_fit hcr123 (u := 400) ⟨by decide, by decide⟩ hle139) dX3_init_73 (fun _ hw140 => ?_)
  have hcr141 := cr_new hcr123 (n := 400) (u := 400) ⟨by decide, by decide⟩ hle139
  obtain ⟨σ142, e143⟩ : ∃ z, z = na σ134 1 400 := ⟨_, rfl⟩
  have h := h σ142 e143
  have hke144 : Ke σ134 σ142 := ke_na hw133 e143
  have hz145 : tg σ (nx σ134) = 0 := z0_ki hk137 (by rw [hg138]; decide) hw133.1.fresh
  have hw140 := wc_e e143 hw140
  have ha146 := at_ke ha136 hke144 hg138 (by decide)
  have hk147 := ki_ke hk137 hke144
  have hg148 : tg σ142 a0 = -3 := ke_tg hke144 hg138 (by decide)
  have hg149 : tg σ142 (nx σ134) = 61 := tg_na e143
  have hln150 : σ142 (nx σ134) 1 0 = 400 := len_na e143
  refine z_putA (pc := 75) (t := 3) (k := 7) (κ := 1) K hw140 (by decide) hg148 zq3 (by decide) (by decide) kf_3_7 hg149 (hln150.trans kl_3_7.symm) q320 (fun _ h => h) rfl hnm rfl dX3_init_75 (fun _ _ hw151 => ?_)
  obtain ⟨σ152, e153⟩ : ∃ z, z = att σ142 a0 7 (nx σ134) := ⟨_, rfl⟩
  have h := h σ152 e153
  have ha154 := at_att ha146 e153 (hw140.1.pos (by rw [hg149]; decide)).1 hg148 hg149 (by decide)
  have hw151 := wc_e e153 hw151
  have hk155 := ki_att2 hk147 hz145 e153
  have hg156 : tg σ152 a0 = -3 := tg_att e153 (by decide) hg148 hg149 (by decide)
  obtain ⟨hs159, h⟩ := h
  have hs159 := seal_1 hg156 (t := 3) (by decide) ha154 (by decide) hs159
  obtain ⟨σ157, e158⟩ : ∃ z, z = sealz σ152 [a0] := ⟨_, rfl⟩
  have h := h σ157 e158
  have hw162 := wc_seal hw151 e158 hs159
  have hk160 := ki_seal hk155 e158 (fun x hx => Or.inl (List.mem_singleton.mp hx))
  have hg161 : tg σ157 a0 = 3 := tg_seal e158 hg156 List.mem_cons_self
  exact za_vret (pc := 78) K hw162 hcr141 ⟨hk160, hg161, h⟩ dX3_init_78
def wp_X8_init (σ : St) (a0 : Int) (o1 : Int) (Q : St → Prop) : Prop :=
  ∀ σ2 : St, σ2 = st σ a0 9 0 o1 → wp_X6_init σ2 a0 o1 900 (fun σ11 => Ki a0 σ2 σ11 → tg σ11 a0 = (-7) → Q σ11)
set_option maxHeartbeats 4000000 in
theorem met_X8_init (X : Cxt) (l : Launch) (σ : St) (a0 : Int) (o1 : Int) (ht0 : tg σ a0 = (-7)) (ht1 : tg σ o1 = (-1)) (Q : St → Prop) (h : wp_X8_init σ a0 o1 Q) : MetT l yX8_init (ws_ yX8_init cX8_init 2 (none)) (zrm 3 0 0) (ZP X σ [jR X a0, jR X o1]) (ZQ X (qV (fun σ' => Ki a0 σ σ' ∧ tg σ' a0 = (-7) ∧ Q σ')) (fun _ _ => False)) 0 0 (zA X) := by
  refine z_start (own := "CombTable$TalkReader") (lv := [(0, jR X a0), (1, jR X o1)]) (by decide) rfl (by simp [lv_args, jR_cat, jI_cat, jL_cat]) (by simp [lg_sl, jR_cat, jI_cat, jL_cat]) (fun p e s m below meth c ls K _ hnm hw hl => ?_)
  have hk : Ki a0 σ σ := ki_rf σ
  have hat : AtF σ a0 [] := fun _ h => absurd h List.not_mem_nil
  refine z_aload_n (pc := 0) K dX8_init_0 rfl (lv_at hl 0 rfl) ?_
  refine z_aload_n (pc := 1) K dX8_init_1 rfl (lv_at hl 1 rfl) ?_
  refine z_putrF (pc := 2) (t := 7) 9 K hw (by decide) ht0 zq7 (by decide) kf_7_9 zt_7_9 q434 (fun _ h => h) rfl hnm rfl dX8_init_2 (fun _ _ hw1 => ?_)
  obtain ⟨σ2, e3⟩ : ∃ z, z = st σ a0 9 0 o1 := ⟨_, rfl⟩
  have h := h σ2 e3
  have hw1 := wc_e e3 hw1
  have ha4 := at_st hat e3 (by decide)
  have hk5 := ki_same hk (ki_e e3)
  have hg6 : tg σ2 a0 = -7 := (tg_e e3 (by decide)).trans ht0
  have hg7 : tg σ2 o1 = -1 := (tg_e e3 (by decide)).trans ht1
  refine z_aload_n (pc := 5) K dX8_init_5 rfl (lv_at hl 0 rfl) ?_
  refine z_aload_n (pc := 6) K dX8_init_6 rfl (lv_at hl 1 rfl) ?_
  refine z_sipush (pc := 7) K dX8_init_7 (by decide) ?_
  refine zc_v (pc := 10) (maxL := 3) K hw1 (met_X6_init_7 X l σ2 a0 o1 900 hg6 hg7 ⟨by decide, by decide⟩ _ h) (i_I (n := 2) (As := [jR X o1, jI 900]) K (hw1.1.pos (by rw [hg6]; decide)).1 (by decide) rfl q431 q375 q376 rfl rfl dX8_init_10) (locw K q376 q97) ⟨by decide, by decide⟩ hl.1 dX8_init_10 (Nat.le_of_ble_eq_true rfl) ⟨Nat.le_refl _, Nat.le_refl _⟩ (fun σ11 _ _ hq10 hw12 => ?_)
  obtain ⟨hk13, hg14, h⟩ := hq10
  have h := h hk13 hg14
  have ha15 : AtF σ11 a0 [] := fun _ h => absurd h List.not_mem_nil
  have hk16 := ki_same hk5 hk13
  have hg17 : tg σ11 a0 = -7 := hg14
  have hg18 : tg σ11 o1 = -1 := ki_tg hk13 hg7 (by decide) hg6 (by decide)
  exact z_vret (pc := 13) K hw12 ⟨hk16, hg17, h⟩ dX8_init_13
def wp_X15_init (σ : St) (a0 : Int) (Q : St → Prop) : Prop :=
  Q σ
set_option maxHeartbeats 4000000 in
theorem met_X15_init_13 (X : Cxt) (l : Launch) (σ : St) (a0 : Int) (ht0 : tg σ a0 = (-13)) (Q : St → Prop) (h : wp_X15_init σ a0 Q) : MetT l yX15_init (ws_ yX15_init cX15_init 1 (none)) (zrm 2 0 0) (ZP X σ [jR X a0]) (ZQ X (qV (fun σ' => Ki a0 σ σ' ∧ tg σ' a0 = (-13) ∧ Q σ')) (fun _ _ => False)) 0 0 (zA X) := by
  refine z_start (own := "CombTable$Cond") (lv := [(0, jR X a0)]) (by decide) rfl (by simp [lv_args, jR_cat, jI_cat, jL_cat]) (by simp [lg_sl, jR_cat, jI_cat, jL_cat]) (fun p e s m below meth c ls K _ hnm hw hl => ?_)
  have hk : Ki a0 σ σ := ki_rf σ
  have hat : AtF σ a0 [] := fun _ h => absurd h List.not_mem_nil
  refine z_aload_n (pc := 0) K dX15_init_0 rfl (lv_at hl 0 rfl) ?_
  refine z_objI (pc := 1) K (hw.1.pos (by rw [ht0]; decide)).1 q1257 q127 q128 hl.1 ⟨by decide, by decide⟩ (by decide) dX15_init_1 ?_
  exact z_vret (pc := 4) K hw ⟨hk, ht0, h⟩ dX15_init_4
set_option maxHeartbeats 4000000 in
theorem met_X15_init_14 (X : Cxt) (l : Launch) (σ : St) (a0 : Int) (ht0 : tg σ a0 = (-14)) (Q : St → Prop) (h : wp_X15_init σ a0 Q) : MetT l yX15_init (ws_ yX15_init cX15_init 1 (none)) (zrm 2 0 0) (ZP X σ [jR X a0]) (ZQ X (qV (fun σ' => Ki a0 σ σ' ∧ tg σ' a0 = (-14) ∧ Q σ')) (fun _ _ => False)) 0 0 (zA X) := by
  refine z_start (own := "CombTable$Cond") (lv := [(0, jR X a0)]) (by decide) rfl (by simp [lv_args, jR_cat, jI_cat, jL_cat]) (by simp [lg_sl, jR_cat, jI_cat, jL_cat]) (fun p e s m below meth c ls K _ hnm hw hl => ?_)
  have hk : Ki a0 σ σ := ki_rf σ
  have hat : AtF σ a0 [] := fun _ h => absurd h List.not_mem_nil
  refine z_aload_n (pc := 0) K dX15_init_0 rfl (lv_at hl 0 rfl) ?_
  refine z_objI (pc := 1) K (hw.1.pos (by rw [ht0]; decide)).1 q1257 q127 q128 hl.1 ⟨by decide, by decide⟩ (by decide) dX15_init_1 ?_
  exact z_vret (pc := 4) K hw ⟨hk, ht0, h⟩ dX15_init_4
set_option maxHeartbeats 4000000 in
theorem met_X15_init_15 (X : Cxt) (l : Launch) (σ : St) (a0 : Int) (ht0 : tg σ a0 = (-15)) (Q : St → Prop) (h : wp_X15_init σ a0 Q) : MetT l yX15_init (ws_ yX15_init cX15_init 1 (none)) (zrm 2 0 0) (ZP X σ [jR X a0]) (ZQ X (qV (fun σ' => Ki a0 σ σ' ∧ tg σ' a0 = (-15) ∧ Q σ')) (fun _ _ => False)) 0 0 (zA X) := by
  refine z_start (own := "CombTable$Cond") (lv := [(0, jR X a0)]) (by decide) rfl (by simp [lv_args, jR_cat, jI_cat, jL_cat]) (by simp [lg_sl, jR_cat, jI_cat, jL_cat]) (fun p e s m below meth c ls K _ hnm hw hl => ?_)
  have hk : Ki a0 σ σ := ki_rf σ
  have hat : AtF σ a0 [] := fun _ h => absurd h List.not_mem_nil
  refine z_aload_n (pc := 0) K dX15_init_0 rfl (lv_at hl 0 rfl) ?_
  refine z_objI (pc := 1) K (hw.1.pos (by rw [ht0]; decide)).1 q1257 q127 q128 hl.1 ⟨by decide, by decide⟩ (by decide) dX15_init_1 ?_
  exact z_vret (pc := 4) K hw ⟨hk, ht0, h⟩ dX15_init_4
set_option maxHeartbeats 4000000 in
theorem met_X15_init_16 (X : Cxt) (l : Launch) (σ : St) (a0 : Int) (ht0 : tg σ a0 = (-16)) (Q : St → Prop) (h : wp_X15_init σ a0 Q) : MetT l yX15_init (ws_ yX15_init cX15_init 1 (none)) (zrm 2 0 0) (ZP X σ [jR X a0]) (ZQ X (qV (fun σ' => Ki a0 σ σ' ∧ tg σ' a0 = (-16) ∧ Q σ')) (fun _ _ => False)) 0 0 (zA X) := by
  refine z_start (own := "CombTable$Cond") (lv := [(0, jR X a0)]) (by decide) rfl (by simp [lv_args, jR_cat, jI_cat, jL_cat]) (by simp [lg_sl, jR_cat, jI_cat, jL_cat]) (fun p e s m below meth c ls K _ hnm hw hl => ?_)
  have hk : Ki a0 σ σ := ki_rf σ
  have hat : AtF σ a0 [] := fun _ h => absurd h List.not_mem_nil
  refine z_aload_n (pc := 0) K dX15_init_0 rfl (lv_at hl 0 rfl) ?_
  refine z_objI (pc := 1) K (hw.1.pos (by rw [ht0]; decide)).1 q1257 q127 q128 hl.1 ⟨by decide, by decide⟩ (by decide) dX15_init_1 ?_
  exact z_vret (pc := 4) K hw ⟨hk, ht0, h⟩ dX15_init_4
set_option maxHeartbeats 4000000 in
theorem met_X15_init_17 (X : Cxt) (l : Launch) (σ : St) (a0 : Int) (ht0 : tg σ a0 = (-17)) (Q : St → Prop) (h : wp_X15_init σ a0 Q) : MetT l yX15_init (ws_ yX15_init cX15_init 1 (none)) (zrm 2 0 0) (ZP X σ [jR X a0]) (ZQ X (qV (fun σ' => Ki a0 σ σ' ∧ tg σ' a0 = (-17) ∧ Q σ')) (fun _ _ => False)) 0 0 (zA X) := by
  refine z_start (own := "CombTable$Cond") (lv := [(0, jR X a0)]) (by decide) rfl (by simp [lv_args, jR_cat, jI_cat, jL_cat]) (by simp [lg_sl, jR_cat, jI_cat, jL_cat]) (fun p e s m below meth c ls K _ hnm hw hl => ?_)
  have hk : Ki a0 σ σ := ki_rf σ
  have hat : AtF σ a0 [] := fun _ h => absurd h List.not_mem_nil
  refine z_aload_n (pc := 0) K dX15_init_0 rfl (lv_at hl 0 rfl) ?_
  refine z_objI (pc := 1) K (hw.1.pos (by rw [ht0]; decide)).1 q1257 q127 q128 hl.1 ⟨by decide, by decide⟩ (by decide) dX15_init_1 ?_
  exact z_vret (pc := 4) K hw ⟨hk, ht0, h⟩ dX15_init_4
def wp_X20_init (σ : St) (a0 : Int) (o1 : Int) (o2 : Int) (Q : St → Prop) : Prop :=
  wp_X15_init σ a0 (fun σ4 => Ki a0 σ σ4 → tg σ4 a0 = (-17) → ∀ σ14 : St, σ14 = st σ4 a0 0 0 o1 → ∀ σ22 : St, σ22 = st σ14 a0 1 0 o2 → RefOk (sealz σ22 [a0]) a0 17 ∧ ∀ σ29 : St, σ29 = sealz σ22 [a0] → Q σ29)
set_option maxHeartbeats 4000000 in
theorem met_X20_init (X : Cxt) (l : Launch) (σ : St) (a0 : Int) (o1 : Int) (o2 : Int) (ht0 : tg σ a0 = (-17)) (hc1 : okR σ 100 o1) (hc2 : okR σ 100 o2) (Q : St → Prop) (h : wp_X20_init σ a0 o1 o2 Q) : MetT l yX20_init (ws_ yX20_init cX20_init 3 (none)) (zrm 3 0 0) (ZP X σ [jR X a0, jR X o1, jR X o2]) (ZQ X (qV (fun σ' => Ki a0 σ σ' ∧ tg σ' a0 = 17 ∧ Q σ')) (fun _ _ => False)) 0 0 (zA X) := by
  refine z_start (own := "CombTable$Any") (lv := [(0, jR X a0), (1, jR X o1), (2, jR X o2)]) (by decide) rfl (by simp [lv_args, jR_cat, jI_cat, jL_cat]) (by simp [lg_sl, jR_cat, jI_cat, jL_cat]) (fun p e s m below meth c ls K _ hnm hw hl => ?_)
  have hk : Ki a0 σ σ := ki_rf σ
  have hat : AtF σ a0 [] := fun _ h => absurd h List.not_mem_nil
  refine z_aload_n (pc := 0) K dX20_init_0 rfl (lv_at hl 0 rfl) ?_
  refine zc_v (pc := 1) (maxL := 1) K hw (met_X15_init_17 X l σ a0 ht0 _ h) (i_IN (n := 0) (As := []) K (hw.1.pos (by rw [ht0]; decide)).1 (by decide) rfl q1317 q1255 q1256 rfl rfl dX20_init_1) (locw K q1256 q115) ⟨by decide, by decide⟩ hl.1 dX20_init_1 (Nat.le_of_ble_eq_true rfl) ⟨Nat.le_refl _, Nat.le_refl _⟩ (fun σ4 _ _ hq3 hw5 => ?_)
  obtain ⟨hk6, hg7, h⟩ := hq3
  have h := h hk6 hg7
  have ha8 : AtF σ4 a0 [] := fun _ h => absurd h List.not_mem_nil
  have hk9 := ki_same hk hk6
  have hg10 : tg σ4 a0 = -17 := hg7
  have ho11 : o1 = -1 ∨ okR σ4 100 o1 := (((Or.inr hc1)).imp_right (fun q => ki_okR hk6 q (by decide) ht0 (by decide)))
  have ho12 : o2 = -1 ∨ okR σ4 100 o2 := (((Or.inr hc2)).imp_right (fun q => ki_okR hk6 q (by decide) ht0 (by decide)))
  refine z_aload_n (pc := 4) K dX20_init_4 rfl (lv_at hl 0 rfl) ?_
  refine z_aload_n (pc := 5) K dX20_init_5 rfl (lv_at hl 1 rfl) ?_
  refine z_putrF (pc := 6) (t := 17) 0 K hw5 (by decide) hg10 zq17 (by decide) kf_17_0 zt_17_0 q1318 (fun _ h => h) rfl hnm rfl dX20_init_6 (fun _ _ hw13 => ?_)
  obtain ⟨σ14, e15⟩ : ∃ z, z = st σ4 a0 0 0 o1 := ⟨_, rfl⟩
  have h := h σ14 e15
  have hw13 := wc_e e15 hw13
  have ha16 := at_st ha8 e15 (by decide)
  have hk17 := ki_same hk9 (ki_e e15)
  have hg18 : tg σ14 a0 = -17 := (tg_e e15 (by decide)).trans hg10
  have ho19 : o1 = -1 ∨ okR σ14 100 o1 := ((ho11).imp_right (fun q => (by rw [e15]; exact (off_okR (off_st _ _ _ _ _) (by decide)).mpr q)))
  have ho20 : o2 = -1 ∨ okR σ14 100 o2 := ((ho12).imp_right (fun q => (by rw [e15]; exact (off_okR (off_st _ _ _ _ _) (by decide)).mpr q)))
  refine z_aload_n (pc := 9) K dX20_init_9 rfl (lv_at hl 0 rfl) ?_
  refine z_aload_n (pc := 10) K dX20_init_10 rfl (lv_at hl 2 rfl) ?_
  refine z_putrF (pc := 11) (t := 17) 1 K hw13 (by decide) hg18 zq17 (by decide) kf_17_1 zt_17_1 q1319 (fun _ h => h) rfl hnm rfl dX20_init_11 (fun _ _ hw21 => ?_)
  obtain ⟨σ22, e23⟩ : ∃ z, z = st σ14 a0 1 0 o2 := ⟨_, rfl⟩
  have h := h σ22 e23
  have hw21 := wc_e e23 hw21
  have ha24 := at_st ha16 e23 (by decide)
  have hk25 := ki_same hk17 (ki_e e23)
  have hg26 : tg σ22 a0 = -17 := (tg_e e23 (by decide)).trans hg18
  have ho27 : o1 = -1 ∨ okR σ22 100 o1 := ((ho19).imp_right (fun q => (by rw [e23]; exact (off_okR (off_st _ _ _ _ _) (by decide)).mpr q)))
  have ho28 : o2 = -1 ∨ okR σ22 100 o2 := ((ho20).imp_right (fun q => (by rw [e23]; exact (off_okR (off_st _ _ _ _ _) (by decide)).mpr q)))
  obtain ⟨hs31, h⟩ := h
  have hs31 := seal_1 hg26 (t := 17) (by decide) ha24 (by decide) hs31
  obtain ⟨σ29, e30⟩ : ∃ z, z = sealz σ22 [a0] := ⟨_, rfl⟩
  have h := h σ29 e30
  have hw34 := wc_seal hw21 e30 hs31
  have hk32 := ki_seal hk25 e30 (fun x hx => Or.inl (List.mem_singleton.mp hx))
  have hg33 : tg σ29 a0 = 17 := tg_seal e30 hg26 List.mem_cons_self
  exact z_vret (pc := 14) K hw34 ⟨hk32, hg33, h⟩ dX20_init_14
def wp_X19_init (σ : St) (a0 : Int) (o1 : Int) (o2 : Int) (Q : St → Prop) : Prop :=
  wp_X15_init σ a0 (fun σ4 => Ki a0 σ σ4 → tg σ4 a0 = (-16) → ∀ σ14 : St, σ14 = st σ4 a0 0 0 o1 → ∀ σ22 : St, σ22 = st σ14 a0 1 0 o2 → RefOk (sealz σ22 [a0]) a0 16 ∧ ∀ σ29 : St, σ29 = sealz σ22 [a0] → Q σ29)
set_option maxHeartbeats 4000000 in
theorem met_X19_init (X : Cxt) (l : Launch) (σ : St) (a0 : Int) (o1 : Int) (o2 : Int) (ht0 : tg σ a0 = (-16)) (hc1 : okR σ 100 o1) (hc2 : okR σ 100 o2) (Q : St → Prop) (h : wp_X19_init σ a0 o1 o2 Q) : MetT l yX19_init (ws_ yX19_init cX19_init 3 (none)) (zrm 3 0 0) (ZP X σ [jR X a0, jR X o1, jR X o2]) (ZQ X (qV (fun σ' => Ki a0 σ σ' ∧ tg σ' a0 = 16 ∧ Q σ')) (fun _ _ => False)) 0 0 (zA X) := by
  refine z_start (own := "CombTable$Both") (lv := [(0, jR X a0), (1, jR X o1), (2, jR X o2)]) (by decide) rfl (by simp [lv_args, jR_cat, jI_cat, jL_cat]) (by simp [lg_sl, jR_cat, jI_cat, jL_cat]) (fun p e s m below meth c ls K _ hnm hw hl => ?_)
  have hk : Ki a0 σ σ := ki_rf σ
  have hat : AtF σ a0 [] := fun _ h => absurd h List.not_mem_nil
  refine z_aload_n (pc := 0) K dX19_init_0 rfl (lv_at hl 0 rfl) ?_
  refine zc_v (pc := 1) (maxL := 1) K hw (met_X15_init_16 X l σ a0 ht0 _ h) (i_IN (n := 0) (As := []) K (hw.1.pos (by rw [ht0]; decide)).1 (by decide) rfl q1303 q1255 q1256 rfl rfl dX19_init_1) (locw K q1256 q115) ⟨by decide, by decide⟩ hl.1 dX19_init_1 (Nat.le_of_ble_eq_true rfl) ⟨Nat.le_refl _, Nat.le_refl _⟩ (fun σ4 _ _ hq3 hw5 => ?_)
  obtain ⟨hk6, hg7, h⟩ := hq3
  have h := h hk6 hg7
  have ha8 : AtF σ4 a0 [] := fun _ h => absurd h List.not_mem_nil
  have hk9 := ki_same hk hk6
  have hg10 : tg σ4 a0 = -16 := hg7
  have ho11 : o1 = -1 ∨ okR σ4 100 o1 := (((Or.inr hc1)).imp_right (fun q => ki_okR hk6 q (by decide) ht0 (by decide)))
  have ho12 : o2 = -1 ∨ okR σ4 100 o2 := (((Or.inr hc2)).imp_right (fun q => ki_okR hk6 q (by decide) ht0 (by decide)))
  refine z_aload_n (pc := 4) K dX19_init_4 rfl (lv_at hl 0 rfl) ?_
  refine z_aload_n (pc := 5) K dX19_init_5 rfl (lv_at hl 1 rfl) ?_
  refine z_putrF (pc := 6) (t := 16) 0 K hw5 (by decide) hg10 zq16 (by decide) kf_16_0 zt_16_0 q1304 (fun _ h => h) rfl hnm rfl dX19_init_6 (fun _ _ hw13 => ?_)
  obtain ⟨σ14, e15⟩ : ∃ z, z = st σ4 a0 0 0 o1 := ⟨_, rfl⟩
  have h := h σ14 e15
  have hw13 := wc_e e15 hw13
  have ha16 := at_st ha8 e15 (by decide)
  have hk17 := ki_same hk9 (ki_e e15)
  have hg18 : tg σ14 a0 = -16 := (tg_e e15 (by decide)).trans hg10
  have ho19 : o1 = -1 ∨ okR σ14 100 o1 := ((ho11).imp_right (fun q => (by rw [e15]; exact (off_okR (off_st _ _ _ _ _) (by decide)).mpr q)))
  have ho20 : o2 = -1 ∨ okR σ14 100 o2 := ((ho12).imp_right (fun q => (by rw [e15]; exact (off_okR (off_st _ _ _ _ _) (by decide)).mpr q)))
  refine z_aload_n (pc := 9) K dX19_init_9 rfl (lv_at hl 0 rfl) ?_
  refine z_aload_n (pc := 10) K dX19_init_10 rfl (lv_at hl 2 rfl) ?_
  refine z_putrF (pc := 11) (t := 16) 1 K hw13 (by decide) hg18 zq16 (by decide) kf_16_1 zt_16_1 q1305 (fun _ h => h) rfl hnm rfl dX19_init_11 (fun _ _ hw21 => ?_)
  obtain ⟨σ22, e23⟩ : ∃ z, z = st σ14 a0 1 0 o2 := ⟨_, rfl⟩
  have h := h σ22 e23
  have hw21 := wc_e e23 hw21
  have ha24 := at_st ha16 e23 (by decide)
  have hk25 := ki_same hk17 (ki_e e23)
  have hg26 : tg σ22 a0 = -16 := (tg_e e23 (by decide)).trans hg18
  have ho27 : o1 = -1 ∨ okR σ22 100 o1 := ((ho19).imp_right (fun q => (by rw [e23]; exact (off_okR (off_st _ _ _ _ _) (by decide)).mpr q)))
  have ho28 : o2 = -1 ∨ okR σ22 100 o2 := ((ho20).imp_right (fun q => (by rw [e23]; exact (off_okR (off_st _ _ _ _ _) (by decide)).mpr q)))
  obtain ⟨hs31, h⟩ := h
  have hs31 := seal_1 hg26 (t := 16) (by decide) ha24 (by decide) hs31
  obtain ⟨σ29, e30⟩ : ∃ z, z = sealz σ22 [a0] := ⟨_, rfl⟩
  have h := h σ29 e30
  have hw34 := wc_seal hw21 e30 hs31
  have hk32 := ki_seal hk25 e30 (fun x hx => Or.inl (List.mem_singleton.mp hx))
  have hg33 : tg σ29 a0 = 16 := tg_seal e30 hg26 List.mem_cons_self
  exact z_vret (pc := 14) K hw34 ⟨hk32, hg33, h⟩ dX19_init_14
def wp_X18_init (σ : St) (a0 : Int) (x1 : Int) (x2 : Int) (x3 : Int) (Q : St → Prop) : Prop :=
  wp_X15_init σ a0 (fun σ4 => Ki a0 σ σ4 → tg σ4 a0 = (-15) → ∀ σ12 : St, σ12 = st σ4 a0 0 0 x1 → ∀ σ18 : St, σ18 = st σ12 a0 1 0 x2 → ∀ σ24 : St, σ24 = st σ18 a0 2 0 x3 → RefOk (sealz σ24 [a0]) a0 15 ∧ ∀ σ29 : St, σ29 = sealz σ24 [a0] → Q σ29)
set_option maxHeartbeats 4000000 in
theorem met_X18_init (X : Cxt) (l : Launch) (σ : St) (a0 : Int) (x1 : Int) (x2 : Int) (x3 : Int) (ht0 : tg σ a0 = (-15)) (hx1 : rng x1) (hx2 : rng x2) (hx3 : rng x3) (Q : St → Prop) (h : wp_X18_init σ a0 x1 x2 x3 Q) : MetT l yX18_init (ws_ yX18_init cX18_init 4 (none)) (zrm 3 0 0) (ZP X σ [jR X a0, jI x1, jI x2, jI x3]) (ZQ X (qV (fun σ' => Ki a0 σ σ' ∧ tg σ' a0 = 15 ∧ Q σ')) (fun _ _ => False)) 0 0 (zA X) := by
  refine z_start (own := "CombTable$Counts") (lv := [(0, jR X a0), (1, jI x1), (2, jI x2), (3, jI x3)]) (by decide) rfl (by simp [lv_args, jR_cat, jI_cat, jL_cat]) (by simp [lg_sl, jR_cat, jI_cat, jL_cat]) (fun p e s m below meth c ls K _ hnm hw hl => ?_)
  have hk : Ki a0 σ σ := ki_rf σ
  have hat : AtF σ a0 [] := fun _ h => absurd h List.not_mem_nil
  refine z_aload_n (pc := 0) K dX18_init_0 rfl (lv_at hl 0 rfl) ?_
  refine zc_v (pc := 1) (maxL := 1) K hw (met_X15_init_15 X l σ a0 ht0 _ h) (i_IN (n := 0) (As := []) K (hw.1.pos (by rw [ht0]; decide)).1 (by decide) rfl q1286 q1255 q1256 rfl rfl dX18_init_1) (locw K q1256 q115) ⟨by decide, by decide⟩ hl.1 dX18_init_1 (Nat.le_of_ble_eq_true rfl) ⟨Nat.le_refl _, Nat.le_refl _⟩ (fun σ4 _ _ hq3 hw5 => ?_)
  obtain ⟨hk6, hg7, h⟩ := hq3
  have h := h hk6 hg7
  have ha8 : AtF σ4 a0 [] := fun _ h => absurd h List.not_mem_nil
  have hk9 := ki_same hk hk6
  have hg10 : tg σ4 a0 = -15 := hg7
  refine z_aload_n (pc := 4) K dX18_init_4 rfl (lv_at hl 0 rfl) ?_
  refine lv_iload_n (pc := 5) K.x K.b dX18_init_5 rfl (lv_at hl 1 rfl) ?_
  refine z_putiF (pc := 6) (t := 15) 0 K hw5 (obm (t := 15) hg10) zq15 (by decide) kf_15_0 zt_15_0 hx1 q1287 (fun _ h => h) rfl hnm rfl dX18_init_6 (fun _ _ hw11 => ?_)
  obtain ⟨σ12, e13⟩ : ∃ z, z = st σ4 a0 0 0 x1 := ⟨_, rfl⟩
  have h := h σ12 e13
  have hw11 := wc_e e13 hw11
  have ha14 := at_st ha8 e13 (by decide)
  have hk15 := ki_same hk9 (ki_e e13)
  have hg16 : tg σ12 a0 = -15 := (tg_e e13 (by decide)).trans hg10
  refine z_aload_n (pc := 9) K dX18_init_9 rfl (lv_at hl 0 rfl) ?_
  refine lv_iload_n (pc := 10) K.x K.b dX18_init_10 rfl (lv_at hl 2 rfl) ?_
  refine z_putiF (pc := 11) (t := 15) 1 K hw11 (obm (t := 15) hg16) zq15 (by decide) kf_15_1 zt_15_1 hx2 q1288 (fun _ h => h) rfl hnm rfl dX18_init_11 (fun _ _ hw17 => ?_)
  obtain ⟨σ18, e19⟩ : ∃ z, z = st σ12 a0 1 0 x2 := ⟨_, rfl⟩
  have h := h σ18 e19
  have hw17 := wc_e e19 hw17
  have ha20 := at_st ha14 e19 (by decide)
  have hk21 := ki_same hk15 (ki_e e19)
  have hg22 : tg σ18 a0 = -15 := (tg_e e19 (by decide)).trans hg16
  refine z_aload_n (pc := 14) K dX18_init_14 rfl (lv_at hl 0 rfl) ?_
  refine lv_iload_n (pc := 15) K.x K.b dX18_init_15 rfl (lv_at hl 3 rfl) ?_
  refine z_putiF (pc := 16) (t := 15) 2 K hw17 (obm (t := 15) hg22) zq15 (by decide) kf_15_2 zt_15_2 hx3 q1289 (fun _ h => h) rfl hnm rfl dX18_init_16 (fun _ _ hw23 => ?_)
  obtain ⟨σ24, e25⟩ : ∃ z, z = st σ18 a0 2 0 x3 := ⟨_, rfl⟩
  have h := h σ24 e25
  have hw23 := wc_e e25 hw23
  have ha26 := at_st ha20 e25 (by decide)
  have hk27 := ki_same hk21 (ki_e e25)
  have hg28 : tg σ24 a0 = -15 := (tg_e e25 (by decide)).trans hg22
  obtain ⟨hs31, h⟩ := h
  have hs31 := seal_1 hg28 (t := 15) (by decide) ha26 (by decide) hs31
  obtain ⟨σ29, e30⟩ : ∃ z, z = sealz σ24 [a0] := ⟨_, rfl⟩
  have h := h σ29 e30
  have hw34 := wc_seal hw23 e30 hs31
  have hk32 := ki_seal hk27 e30 (fun x hx => Or.inl (List.mem_singleton.mp hx))
  have hg33 : tg σ29 a0 = 15 := tg_seal e30 hg28 List.mem_cons_self
  exact z_vret (pc := 19) K hw34 ⟨hk32, hg33, h⟩ dX18_init_19
def wp_X17_init (σ : St) (a0 : Int) (x1 : Int) (x2 : Int) (Q : St → Prop) : Prop :=
  wp_X15_init σ a0 (fun σ4 => Ki a0 σ σ4 → tg σ4 a0 = (-14) → ∀ σ12 : St, σ12 = st σ4 a0 0 0 x1 → ∀ σ18 : St, σ18 = st σ12 a0 1 0 x2 → RefOk (sealz σ18 [a0]) a0 14 ∧ ∀ σ23 : St, σ23 = sealz σ18 [a0] → Q σ23)
set_option maxHeartbeats 4000000 in
theorem met_X17_init (X : Cxt) (l : Launch) (σ : St) (a0 : Int) (x1 : Int) (x2 : Int) (ht0 : tg σ a0 = (-14)) (hx1 : rng x1) (hx2 : rng x2) (Q : St → Prop) (h : wp_X17_init σ a0 x1 x2 Q) : MetT l yX17_init (ws_ yX17_init cX17_init 3 (none)) (zrm 3 0 0) (ZP X σ [jR X a0, jI x1, jI x2]) (ZQ X (qV (fun σ' => Ki a0 σ σ' ∧ tg σ' a0 = 14 ∧ Q σ')) (fun _ _ => False)) 0 0 (zA X) := by
  refine z_start (own := "CombTable$Has") (lv := [(0, jR X a0), (1, jI x1), (2, jI x2)]) (by decide) rfl (by simp [lv_args, jR_cat, jI_cat, jL_cat]) (by simp [lg_sl, jR_cat, jI_cat, jL_cat]) (fun p e s m below meth c ls K _ hnm hw hl => ?_)
  have hk : Ki a0 σ σ := ki_rf σ
  have hat : AtF σ a0 [] := fun _ h => absurd h List.not_mem_nil
  refine z_aload_n (pc := 0) K dX17_init_0 rfl (lv_at hl 0 rfl) ?_
  refine zc_v (pc := 1) (maxL := 1) K hw (met_X15_init_14 X l σ a0 ht0 _ h) (i_IN (n := 0) (As := []) K (hw.1.pos (by rw [ht0]; decide)).1 (by decide) rfl q1273 q1255 q1256 rfl rfl dX17_init_1) (locw K q1256 q115) ⟨by decide, by decide⟩ hl.1 dX17_init_1 (Nat.le_of_ble_eq_true rfl) ⟨Nat.le_refl _, Nat.le_refl _⟩ (fun σ4 _ _ hq3 hw5 => ?_)
  obtain ⟨hk6, hg7, h⟩ := hq3
  have h := h hk6 hg7
  have ha8 : AtF σ4 a0 [] := fun _ h => absurd h List.not_mem_nil
  have hk9 := ki_same hk hk6
  have hg10 : tg σ4 a0 = -14 := hg7
  refine z_aload_n (pc := 4) K dX17_init_4 rfl (lv_at hl 0 rfl) ?_
  refine lv_iload_n (pc := 5) K.x K.b dX17_init_5 rfl (lv_at hl 1 rfl) ?_
  refine z_putiF (pc := 6) (t := 14) 0 K hw5 (obm (t := 14) hg10) zq14 (by decide) kf_14_0 zt_14_0 hx1 q1274 (fun _ h => h) rfl hnm rfl dX17_init_6 (fun _ _ hw11 => ?_)
  obtain ⟨σ12, e13⟩ : ∃ z, z = st σ4 a0 0 0 x1 := ⟨_, rfl⟩
  have h := h σ12 e13
  have hw11 := wc_e e13 hw11
  have ha14 := at_st ha8 e13 (by decide)
  have hk15 := ki_same hk9 (ki_e e13)
  have hg16 : tg σ12 a0 = -14 := (tg_e e13 (by decide)).trans hg10
  refine z_aload_n (pc := 9) K dX17_init_9 rfl (lv_at hl 0 rfl) ?_
  refine lv_iload_n (pc := 10) K.x K.b dX17_init_10 rfl (lv_at hl 2 rfl) ?_
  refine z_putiF (pc := 11) (t := 14) 1 K hw11 (obm (t := 14) hg16) zq14 (by decide) kf_14_1 zt_14_1 hx2 q1275 (fun _ h => h) rfl hnm rfl dX17_init_11 (fun _ _ hw17 => ?_)
  obtain ⟨σ18, e19⟩ : ∃ z, z = st σ12 a0 1 0 x2 := ⟨_, rfl⟩
  have h := h σ18 e19
  have hw17 := wc_e e19 hw17
  have ha20 := at_st ha14 e19 (by decide)
  have hk21 := ki_same hk15 (ki_e e19)
  have hg22 : tg σ18 a0 = -14 := (tg_e e19 (by decide)).trans hg16
  obtain ⟨hs25, h⟩ := h
  have hs25 := seal_1 hg22 (t := 14) (by decide) ha20 (by decide) hs25
  obtain ⟨σ23, e24⟩ : ∃ z, z = sealz σ18 [a0] := ⟨_, rfl⟩
  have h := h σ23 e24
  have hw28 := wc_seal hw17 e24 hs25
  have hk26 := ki_seal hk21 e24 (fun x hx => Or.inl (List.mem_singleton.mp hx))
  have hg27 : tg σ23 a0 = 14 := tg_seal e24 hg22 List.mem_cons_self
  exact z_vret (pc := 14) K hw28 ⟨hk26, hg27, h⟩ dX17_init_14
def wp_X16_init (σ : St) (a0 : Int) (o1 : Int) (Q : St → Prop) : Prop :=
  wp_X15_init σ a0 (fun σ4 => Ki a0 σ σ4 → tg σ4 a0 = (-13) → ∀ σ13 : St, σ13 = st σ4 a0 0 0 o1 → RefOk (sealz σ13 [a0]) a0 13 ∧ ∀ σ19 : St, σ19 = sealz σ13 [a0] → Q σ19)
set_option maxHeartbeats 4000000 in
theorem met_X16_init (X : Cxt) (l : Launch) (σ : St) (a0 : Int) (o1 : Int) (ht0 : tg σ a0 = (-13)) (hc1 : okR σ 100 o1) (Q : St → Prop) (h : wp_X16_init σ a0 o1 Q) : MetT l yX16_init (ws_ yX16_init cX16_init 2 (none)) (zrm 3 0 0) (ZP X σ [jR X a0, jR X o1]) (ZQ X (qV (fun σ' => Ki a0 σ σ' ∧ tg σ' a0 = 13 ∧ Q σ')) (fun _ _ => False)) 0 0 (zA X) := by
  refine z_start (own := "CombTable$Not") (lv := [(0, jR X a0), (1, jR X o1)]) (by decide) rfl (by simp [lv_args, jR_cat, jI_cat, jL_cat]) (by simp [lg_sl, jR_cat, jI_cat, jL_cat]) (fun p e s m below meth c ls K _ hnm hw hl => ?_)
  have hk : Ki a0 σ σ := ki_rf σ
  have hat : AtF σ a0 [] := fun _ h => absurd h List.not_mem_nil
  refine z_aload_n (pc := 0) K dX16_init_0 rfl (lv_at hl 0 rfl) ?_
  refine zc_v (pc := 1) (maxL := 1) K hw (met_X15_init_13 X l σ a0 ht0 _ h) (i_IN (n := 0) (As := []) K (hw.1.pos (by rw [ht0]; decide)).1 (by decide) rfl q1254 q1255 q1256 rfl rfl dX16_init_1) (locw K q1256 q115) ⟨by decide, by decide⟩ hl.1 dX16_init_1 (Nat.le_of_ble_eq_true rfl) ⟨Nat.le_refl _, Nat.le_refl _⟩ (fun σ4 _ _ hq3 hw5 => ?_)
  obtain ⟨hk6, hg7, h⟩ := hq3
  have h := h hk6 hg7
  have ha8 : AtF σ4 a0 [] := fun _ h => absurd h List.not_mem_nil
  have hk9 := ki_same hk hk6
  have hg10 : tg σ4 a0 = -13 := hg7
  have ho11 : o1 = -1 ∨ okR σ4 100 o1 := (((Or.inr hc1)).imp_right (fun q => ki_okR hk6 q (by decide) ht0 (by decide)))
  refine z_aload_n (pc := 4) K dX16_init_4 rfl (lv_at hl 0 rfl) ?_
  refine z_aload_n (pc := 5) K dX16_init_5 rfl (lv_at hl 1 rfl) ?_
  refine z_putrF (pc := 6) (t := 13) 0 K hw5 (by decide) hg10 zq13 (by decide) kf_13_0 zt_13_0 q1258 (fun _ h => h) rfl hnm rfl dX16_init_6 (fun _ _ hw12 => ?_)
  obtain ⟨σ13, e14⟩ : ∃ z, z = st σ4 a0 0 0 o1 := ⟨_, rfl⟩
  have h := h σ13 e14
  have hw12 := wc_e e14 hw12
  have ha15 := at_st ha8 e14 (by decide)
  have hk16 := ki_same hk9 (ki_e e14)
  have hg17 : tg σ13 a0 = -13 := (tg_e e14 (by decide)).trans hg10
  have ho18 : o1 = -1 ∨ okR σ13 100 o1 := ((ho11).imp_right (fun q => (by rw [e14]; exact (off_okR (off_st _ _ _ _ _) (by decide)).mpr q)))
  obtain ⟨hs21, h⟩ := h
  have hs21 := seal_1 hg17 (t := 13) (by decide) ha15 (by decide) hs21
  obtain ⟨σ19, e20⟩ : ∃ z, z = sealz σ13 [a0] := ⟨_, rfl⟩
  have h := h σ19 e20
  have hw24 := wc_seal hw12 e20 hs21
  have hk22 := ki_seal hk16 e20 (fun x hx => Or.inl (List.mem_singleton.mp hx))
  have hg23 : tg σ19 a0 = 13 := tg_seal e20 hg17 List.mem_cons_self
  exact z_vret (pc := 9) K hw24 ⟨hk22, hg23, h⟩ dX16_init_9
def wp_X12_init (σ : St) (a0 : Int) (x1 : Int) (Q : St → Prop) : Prop :=
  ∀ σ2 : St, σ2 = st σ a0 0 0 x1 → Q σ2
set_option maxHeartbeats 4000000 in
theorem met_X12_init_11 (X : Cxt) (l : Launch) (σ : St) (a0 : Int) (x1 : Int) (ht0 : tg σ a0 = (-11)) (hx1 : rngL x1) (Q : St → Prop) (h : wp_X12_init σ a0 x1 Q) : MetT l yX12_init (ws_ yX12_init cX12_init 3 (none)) (zrm 2 0 0) (ZP X σ [jR X a0, jL x1]) (ZQ X (qV (fun σ' => Ki a0 σ σ' ∧ tg σ' a0 = (-11) ∧ Q σ')) (fun _ _ => False)) 0 0 (zA X) := by
  refine z_start (own := "CombTable$Named") (lv := [(0, jR X a0), (1, jL x1)]) (by decide) rfl (by simp [lv_args, jR_cat, jI_cat, jL_cat]) (by simp [lg_sl, jR_cat, jI_cat, jL_cat]) (fun p e s m below meth c ls K _ hnm hw hl => ?_)
  have hk : Ki a0 σ σ := ki_rf σ
  have hat : AtF σ a0 [] := fun _ h => absurd h List.not_mem_nil
  refine z_aload_n (pc := 0) K dX12_init_0 rfl (lv_at hl 0 rfl) ?_
  refine z_objI (pc := 1) K (hw.1.pos (by rw [ht0]; decide)).1 q808 q127 q128 hl.1 ⟨by decide, by decide⟩ (by decide) dX12_init_1 ?_
  refine z_aload_n (pc := 4) K dX12_init_4 rfl (lv_at hl 0 rfl) ?_
  refine lv_lload_n (pc := 5) K.x K.b dX12_init_5 rfl (lv_at hl 1 rfl) ?_
  refine z_putlF (pc := 6) (t := 11) 0 K hw (obm (t := 11) ht0) zq11 (by decide) kf_11_0 zt_11_0 hx1 q812 (fun _ h => h) rfl hnm rfl dX12_init_6 (fun _ _ hw1 => ?_)
  obtain ⟨σ2, e3⟩ : ∃ z, z = st σ a0 0 0 x1 := ⟨_, rfl⟩
  have h := h σ2 e3
  have hw1 := wc_e e3 hw1
  have ha4 := at_st hat e3 (by decide)
  have hk5 := ki_same hk (ki_e e3)
  have hg6 : tg σ2 a0 = -11 := (tg_e e3 (by decide)).trans ht0
  exact z_vret (pc := 9) K hw1 ⟨hk5, hg6, h⟩ dX12_init_9
set_option maxHeartbeats 4000000 in
theorem met_X12_init_12 (X : Cxt) (l : Launch) (σ : St) (a0 : Int) (x1 : Int) (ht0 : tg σ a0 = (-12)) (hx1 : rngL x1) (Q : St → Prop) (h : wp_X12_init σ a0 x1 Q) : MetT l yX12_init (ws_ yX12_init cX12_init 3 (none)) (zrm 2 0 0) (ZP X σ [jR X a0, jL x1]) (ZQ X (qV (fun σ' => Ki a0 σ σ' ∧ tg σ' a0 = (-12) ∧ Q σ')) (fun _ _ => False)) 0 0 (zA X) := by
  refine z_start (own := "CombTable$Named") (lv := [(0, jR X a0), (1, jL x1)]) (by decide) rfl (by simp [lv_args, jR_cat, jI_cat, jL_cat]) (by simp [lg_sl, jR_cat, jI_cat, jL_cat]) (fun p e s m below meth c ls K _ hnm hw hl => ?_)
  have hk : Ki a0 σ σ := ki_rf σ
  have hat : AtF σ a0 [] := fun _ h => absurd h List.not_mem_nil
  refine z_aload_n (pc := 0) K dX12_init_0 rfl (lv_at hl 0 rfl) ?_
  refine z_objI (pc := 1) K (hw.1.pos (by rw [ht0]; decide)).1 q808 q127 q128 hl.1 ⟨by decide, by decide⟩ (by decide) dX12_init_1 ?_
  refine z_aload_n (pc := 4) K dX12_init_4 rfl (lv_at hl 0 rfl) ?_
  refine lv_lload_n (pc := 5) K.x K.b dX12_init_5 rfl (lv_at hl 1 rfl) ?_
  refine z_putlF (pc := 6) (t := 12) 0 K hw (obm (t := 12) ht0) zq12 (by decide) kf_12_0 zt_12_0 hx1 q812 (fun _ h => h) rfl hnm rfl dX12_init_6 (fun _ _ hw1 => ?_)
  obtain ⟨σ2, e3⟩ : ∃ z, z = st σ a0 0 0 x1 := ⟨_, rfl⟩
  have h := h σ2 e3
  have hw1 := wc_e e3 hw1
  have ha4 := at_st hat e3 (by decide)
  have hk5 := ki_same hk (ki_e e3)
  have hg6 : tg σ2 a0 = -12 := (tg_e e3 (by decide)).trans ht0
  exact z_vret (pc := 9) K hw1 ⟨hk5, hg6, h⟩ dX12_init_9
def wp_X14_init (σ : St) (a0 : Int) (x1 : Int) (Q : St → Prop) : Prop :=
  wp_X12_init σ a0 x1 (fun σ4 => Ki a0 σ σ4 → tg σ4 a0 = (-12) → RefOk (sealz σ4 [a0]) a0 12 ∧ ∀ σ11 : St, σ11 = sealz σ4 [a0] → Q σ11)
set_option maxHeartbeats 4000000 in
theorem met_X14_init (X : Cxt) (l : Launch) (σ : St) (a0 : Int) (x1 : Int) (ht0 : tg σ a0 = (-12)) (hx1 : rngL x1) (Q : St → Prop) (h : wp_X14_init σ a0 x1 Q) : MetT l yX14_init (ws_ yX14_init cX14_init 3 (none)) (zrm 3 0 0) (ZP X σ [jR X a0, jL x1]) (ZQ X (qV (fun σ' => Ki a0 σ σ' ∧ tg σ' a0 = 12 ∧ Q σ')) (fun _ _ => False)) 0 0 (zA X) := by
  refine z_start (own := "CombTable$Kind") (lv := [(0, jR X a0), (1, jL x1)]) (by decide) rfl (by simp [lv_args, jR_cat, jI_cat, jL_cat]) (by simp [lg_sl, jR_cat, jI_cat, jL_cat]) (fun p e s m below meth c ls K _ hnm hw hl => ?_)
  have hk : Ki a0 σ σ := ki_rf σ
  have hat : AtF σ a0 [] := fun _ h => absurd h List.not_mem_nil
  refine z_aload_n (pc := 0) K dX14_init_0 rfl (lv_at hl 0 rfl) ?_
  refine lv_lload_n (pc := 1) K.x K.b dX14_init_1 rfl (lv_at hl 1 rfl) ?_
  refine zc_v (pc := 2) (maxL := 3) K hw (met_X12_init_12 X l σ a0 x1 ht0 hx1 _ h) (i_I (n := 1) (As := [jL x1]) K (hw.1.pos (by rw [ht0]; decide)).1 (by decide) rfl q828 q806 q807 rfl rfl dX14_init_2) (locw K q807 q107) ⟨by decide, by decide⟩ hl.1 dX14_init_2 (Nat.le_of_ble_eq_true rfl) ⟨Nat.le_refl _, Nat.le_refl _⟩ (fun σ4 _ _ hq3 hw5 => ?_)
  obtain ⟨hk6, hg7, h⟩ := hq3
  have h := h hk6 hg7
  have ha8 : AtF σ4 a0 [] := fun _ h => absurd h List.not_mem_nil
  have hk9 := ki_same hk hk6
  have hg10 : tg σ4 a0 = -12 := hg7
  obtain ⟨hs13, h⟩ := h
  have hs13 := seal_1 hg10 (t := 12) (by decide) ha8 (by decide) hs13
  obtain ⟨σ11, e12⟩ : ∃ z, z = sealz σ4 [a0] := ⟨_, rfl⟩
  have h := h σ11 e12
  have hw16 := wc_seal hw5 e12 hs13
  have hk14 := ki_seal hk9 e12 (fun x hx => Or.inl (List.mem_singleton.mp hx))
  have hg15 : tg σ11 a0 = 12 := tg_seal e12 hg10 List.mem_cons_self
  exact z_vret (pc := 5) K hw16 ⟨hk14, hg15, h⟩ dX14_init_5
def wp_X13_init (σ : St) (a0 : Int) (x1 : Int) (x3 : Int) (Q : St → Prop) : Prop :=
  wp_X12_init σ a0 x1 (fun σ4 => Ki a0 σ σ4 → tg σ4 a0 = (-11) → ∀ σ12 : St, σ12 = st σ4 a0 1 0 x3 → RefOk (sealz σ12 [a0]) a0 11 ∧ ∀ σ17 : St, σ17 = sealz σ12 [a0] → Q σ17)
set_option maxHeartbeats 4000000 in
theorem met_X13_init (X : Cxt) (l : Launch) (σ : St) (a0 : Int) (x1 : Int) (x3 : Int) (ht0 : tg σ a0 = (-11)) (hx1 : rngL x1) (hx3 : rng x3) (Q : St → Prop) (h : wp_X13_init σ a0 x1 x3 Q) : MetT l yX13_init (ws_ yX13_init cX13_init 4 (none)) (zrm 3 0 0) (ZP X σ [jR X a0, jL x1, jI x3]) (ZQ X (qV (fun σ' => Ki a0 σ σ' ∧ tg σ' a0 = 11 ∧ Q σ')) (fun _ _ => False)) 0 0 (zA X) := by
  refine z_start (own := "CombTable$Who") (lv := [(0, jR X a0), (1, jL x1), (3, jI x3)]) (by decide) rfl (by simp [lv_args, jR_cat, jI_cat, jL_cat]) (by simp [lg_sl, jR_cat, jI_cat, jL_cat]) (fun p e s m below meth c ls K _ hnm hw hl => ?_)
  have hk : Ki a0 σ σ := ki_rf σ
  have hat : AtF σ a0 [] := fun _ h => absurd h List.not_mem_nil
  refine z_aload_n (pc := 0) K dX13_init_0 rfl (lv_at hl 0 rfl) ?_
  refine lv_lload_n (pc := 1) K.x K.b dX13_init_1 rfl (lv_at hl 1 rfl) ?_
  refine zc_v (pc := 2) (maxL := 3) K hw (met_X12_init_11 X l σ a0 x1 ht0 hx1 _ h) (i_I (n := 1) (As := [jL x1]) K (hw.1.pos (by rw [ht0]; decide)).1 (by decide) rfl q805 q806 q807 rfl rfl dX13_init_2) (locw K q807 q107) ⟨by decide, by decide⟩ hl.1 dX13_init_2 (Nat.le_of_ble_eq_true rfl) ⟨Nat.le_refl _, Nat.le_refl _⟩ (fun σ4 _ _ hq3 hw5 => ?_)
  obtain ⟨hk6, hg7, h⟩ := hq3
  have h := h hk6 hg7
  have ha8 : AtF σ4 a0 [] := fun _ h => absurd h List.not_mem_nil
  have hk9 := ki_same hk hk6
  have hg10 : tg σ4 a0 = -11 := hg7
  refine z_aload_n (pc := 5) K dX13_init_5 rfl (lv_at hl 0 rfl) ?_
  refine lv_iload_n (pc := 6) K.x K.b dX13_init_6 rfl (lv_at hl 2 rfl) ?_
  refine z_putiF (pc := 7) (t := 11) 1 K hw5 (obm (t := 11) hg10) zq11 (by decide) kf_11_1 zt_11_1 hx3 q809 (fun _ h => h) rfl hnm rfl dX13_init_7 (fun _ _ hw11 => ?_)
  obtain ⟨σ12, e13⟩ : ∃ z, z = st σ4 a0 1 0 x3 := ⟨_, rfl⟩
  have h := h σ12 e13
  have hw11 := wc_e e13 hw11
  have ha14 := at_st ha8 e13 (by decide)
  have hk15 := ki_same hk9 (ki_e e13)
  have hg16 : tg σ12 a0 = -11 := (tg_e e13 (by decide)).trans hg10
  obtain ⟨hs19, h⟩ := h
  have hs19 := seal_1 hg16 (t := 11) (by decide) ha14 (by decide) hs19
  obtain ⟨σ17, e18⟩ : ∃ z, z = sealz σ12 [a0] := ⟨_, rfl⟩
  have h := h σ17 e18
  have hw22 := wc_seal hw11 e18 hs19
  have hk20 := ki_seal hk15 e18 (fun x hx => Or.inl (List.mem_singleton.mp hx))
  have hg21 : tg σ17 a0 = 11 := tg_seal e18 hg16 List.mem_cons_self
  exact z_vret (pc := 10) K hw22 ⟨hk20, hg21, h⟩ dX13_init_10
