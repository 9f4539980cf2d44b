/-! printed by gen/walk2.py -/
set_option maxRecDepth 100000
def wp_X1_init (σ : St) (a0 : Int) (cr : Int) (Q : St → Int → Prop) : Prop :=
  940 ≤ cr ∧ ∀ σ4 : St, σ4 = na σ 0 940 → ∀ σ14 : St, σ14 = att σ4 a0 0 (nx σ) → 8 ≤ (cr - 940) ∧ ∀ σ22 : St, σ22 = nw σ14 2 → wp_X2_init σ22 (nx σ14) (fun σ33 => Ki (nx σ14) σ22 σ33 → tg σ33 (nx σ14) = 2 → ∀ σ42 : St, σ42 = st σ33 a0 4 0 (nx σ14) → 6 ≤ ((cr - 940) - 8) ∧ ∀ σ50 : St, σ50 = na σ42 4 6 → ∀ σ60 : St, σ60 = st σ50 (nx σ42) 0 0 (-2) → ∀ σ68 : St, σ68 = st σ60 (nx σ42) 0 1 (-3) → ∀ σ76 : St, σ76 = st σ68 (nx σ42) 0 2 (-4) → ∀ σ84 : St, σ84 = st σ76 (nx σ42) 0 3 (-5) → ∀ σ92 : St, σ92 = st σ84 (nx σ42) 0 4 (-6) → ∀ σ100 : St, σ100 = st σ92 (nx σ42) 0 5 (-7) → ∀ σ108 : St, σ108 = att σ100 a0 5 (nx σ42) → 13 ≤ (((cr - 940) - 8) - 6) ∧ ∀ σ116 : St, σ116 = na σ108 4 13 → ∀ σ126 : St, σ126 = st σ116 (nx σ108) 0 0 (-8) → ∀ σ134 : St, σ134 = st σ126 (nx σ108) 0 1 (-9) → ∀ σ142 : St, σ142 = st σ134 (nx σ108) 0 2 (-10) → ∀ σ150 : St, σ150 = st σ142 (nx σ108) 0 3 (-11) → ∀ σ158 : St, σ158 = st σ150 (nx σ108) 0 4 (-12) → ∀ σ166 : St, σ166 = st σ158 (nx σ108) 0 5 (-13) → ∀ σ174 : St, σ174 = st σ166 (nx σ108) 0 6 (-14) → ∀ σ182 : St, σ182 = st σ174 (nx σ108) 0 7 (-15) → ∀ σ190 : St, σ190 = st σ182 (nx σ108) 0 8 (-16) → ∀ σ198 : St, σ198 = st σ190 (nx σ108) 0 9 (-17) → ∀ σ206 : St, σ206 = st σ198 (nx σ108) 0 10 (-18) → ∀ σ214 : St, σ214 = st σ206 (nx σ108) 0 11 (-19) → ∀ σ222 : St, σ222 = st σ214 (nx σ108) 0 12 (-20) → ∀ σ230 : St, σ230 = att σ222 a0 6 (nx σ108) → 6 ≤ ((((cr - 940) - 8) - 6) - 13) ∧ ∀ σ238 : St, σ238 = na σ230 4 6 → ∀ σ248 : St, σ248 = st σ238 (nx σ230) 0 0 (-21) → ∀ σ256 : St, σ256 = st σ248 (nx σ230) 0 1 (-22) → ∀ σ264 : St, σ264 = st σ256 (nx σ230) 0 2 (-23) → ∀ σ272 : St, σ272 = st σ264 (nx σ230) 0 3 (-24) → ∀ σ280 : St, σ280 = st σ272 (nx σ230) 0 4 (-25) → ∀ σ288 : St, σ288 = st σ280 (nx σ230) 0 5 (-26) → ∀ σ296 : St, σ296 = att σ288 a0 7 (nx σ230) → 10 ≤ (((((cr - 940) - 8) - 6) - 13) - 6) ∧ ∀ σ304 : St, σ304 = nw σ296 3 → wp_X3_init σ304 (nx σ296) ((((((cr - 940) - 8) - 6) - 13) - 6) - 10) (fun σ315 cr317 => Ki (nx σ296) σ304 σ315 → tg σ315 (nx σ296) = 3 → ∀ σ326 : St, σ326 = st σ315 a0 8 0 (nx σ296) → 10 ≤ cr317 ∧ ∀ σ334 : St, σ334 = nw σ326 3 → wp_X3_init σ334 (nx σ326) (cr317 - 10) (fun σ345 cr347 => Ki (nx σ326) σ334 σ345 → tg σ345 (nx σ326) = 3 → ∀ σ356 : St, σ356 = st σ345 a0 9 0 (nx σ326) → 10 ≤ cr347 ∧ ∀ σ364 : St, σ364 = nw σ356 3 → wp_X3_init σ364 (nx σ356) (cr347 - 10) (fun σ375 cr377 => Ki (nx σ356) σ364 σ375 → tg σ375 (nx σ356) = 3 → ∀ σ386 : St, σ386 = st σ375 a0 10 0 (nx σ356) → 3 ≤ cr377 ∧ ∀ σ394 : St, σ394 = nw σ386 5 → wp_X5_init σ394 (nx σ386) (cr377 - 3) (fun σ405 cr407 => Ki (nx σ386) σ394 σ405 → tg σ405 (nx σ386) = 5 → ∀ σ416 : St, σ416 = st σ405 a0 11 0 (nx σ386) → 3 ≤ cr407 ∧ ∀ σ424 : St, σ424 = nw σ416 5 → wp_X5_init σ424 (nx σ416) (cr407 - 3) (fun σ435 cr437 => Ki (nx σ416) σ424 σ435 → tg σ435 (nx σ416) = 5 → ∀ σ446 : St, σ446 = st σ435 a0 12 0 (nx σ416) → 3 ≤ cr437 ∧ ∀ σ454 : St, σ454 = nw σ446 5 → wp_X5_init σ454 (nx σ446) (cr437 - 3) (fun σ465 cr467 => Ki (nx σ446) σ454 σ465 → tg σ465 (nx σ446) = 5 → ∀ σ476 : St, σ476 = st σ465 a0 13 0 (nx σ446) → 11 ≤ cr467 ∧ ∀ σ484 : St, σ484 = nw σ476 6 → wp_X7_init σ484 (nx σ476) a0 (fun σ495 => Ki (nx σ476) σ484 σ495 → tg σ495 (nx σ476) = (-6) → ∀ σ504 : St, σ504 = st σ495 a0 14 0 (nx σ476) → 10 ≤ (cr467 - 11) ∧ ∀ σ512 : St, σ512 = nw σ504 7 → wp_X8_init σ512 (nx σ504) a0 (fun σ523 => Ki (nx σ504) σ512 σ523 → tg σ523 (nx σ504) = (-7) → ∀ σ532 : St, σ532 = st σ523 a0 15 0 (nx σ504) → 10 ≤ ((cr467 - 11) - 10) ∧ ∀ σ540 : St, σ540 = nw σ532 8 → wp_X9_init σ540 (nx σ532) a0 (fun σ551 => Ki (nx σ532) σ540 σ551 → tg σ551 (nx σ532) = (-8) → ∀ σ560 : St, σ560 = st σ551 a0 16 0 (nx σ532) → 24 ≤ (((cr467 - 11) - 10) - 10) ∧ ∀ σ568 : St, σ568 = na σ560 1 24 → ∀ σ578 : St, σ578 = att σ568 a0 19 (nx σ560) → 24 ≤ ((((cr467 - 11) - 10) - 10) - 24) ∧ ∀ σ586 : St, σ586 = na σ578 1 24 → ∀ σ596 : St, σ596 = att σ586 a0 20 (nx σ578) → 24 ≤ (((((cr467 - 11) - 10) - 10) - 24) - 24) ∧ ∀ σ604 : St, σ604 = na σ596 1 24 → ∀ σ614 : St, σ614 = att σ604 a0 21 (nx σ596) → ∀ σ620 : St, σ620 = st σ614 a0 25 0 (-1) → 7 ≤ ((((((cr467 - 11) - 10) - 10) - 24) - 24) - 24) ∧ ∀ σ628 : St, σ628 = na σ620 1 7 → ∀ σ638 : St, σ638 = att σ628 a0 26 (nx σ620) → 7 ≤ (((((((cr467 - 11) - 10) - 10) - 24) - 24) - 24) - 7) ∧ ∀ σ646 : St, σ646 = na σ638 1 7 → ∀ σ656 : St, σ656 = att σ646 a0 27 (nx σ638) → 8 ≤ ((((((((cr467 - 11) - 10) - 10) - 24) - 24) - 24) - 7) - 7) ∧ ∀ σ664 : St, σ664 = na σ656 1 8 → ∀ σ674 : St, σ674 = att σ664 a0 30 (nx σ656) → 12 ≤ (((((((((cr467 - 11) - 10) - 10) - 24) - 24) - 24) - 7) - 7) - 8) ∧ ∀ σ682 : St, σ682 = nw σ674 9 → wp_X10_init σ682 (nx σ674) a0 ((((((((((cr467 - 11) - 10) - 10) - 24) - 24) - 24) - 7) - 7) - 8) - 12) (fun σ693 cr695 => Ki (nx σ674) σ682 σ693 → tg σ693 (nx σ674) = (-9) → ∀ σ704 : St, σ704 = st σ693 a0 33 0 (nx σ674) → 2 ≤ cr695 ∧ ∀ σ712 : St, σ712 = na σ704 7 2 → ∀ σ722 : St, σ722 = att σ712 a0 35 (nx σ704) → 2 ≤ (cr695 - 2) ∧ ∀ σ730 : St, σ730 = na σ722 8 2 → ∀ σ740 : St, σ740 = att σ730 a0 36 (nx σ722) → 2 ≤ ((cr695 - 2) - 2) ∧ ∀ σ748 : St, σ748 = na σ740 9 2 → ∀ σ758 : St, σ758 = att σ748 a0 37 (nx σ740) → SealL σ758 [a0, σ758 a0 14 0, σ758 a0 15 0, σ758 a0 16 0, σ758 a0 33 0] ∧ (∀ x ∈ [a0, σ758 a0 14 0, σ758 a0 15 0, σ758 a0 16 0, σ758 a0 33 0], x = a0 ∨ tg σ x = 0) ∧ ∀ σ763 : St, σ763 = sealz σ758 [a0, σ758 a0 14 0, σ758 a0 15 0, σ758 a0 16 0, σ758 a0 33 0] → Q σ763 (((cr695 - 2) - 2) - 2))))))))))))
set_option maxHeartbeats 4000000 in
theorem met_X1_init (X : Cxt) (l : Launch) (σ : St) (a0 : Int) (ht0 : tg σ a0 = (-1)) (cr : Int) (hcr0 : 0 ≤ cr) (Q : St → Int → Prop) (h : wp_X1_init σ a0 cr Q) : MetA X l yX1_init (ws_ yX1_init cX1_init 1 (none)) 4 cr.toNat (ZP X σ [jR X a0]) (qVA (fun σ' cr => Ki a0 σ σ' ∧ tg σ' a0 = 1 ∧ Q σ' cr)) (fun _ _ _ => False) := by
  have hcr : Cr cr.toNat 0 0 cr := by unfold Cr; omega
  refine z_startA (own := "CombTable") (lv := [(0, jR X a0)]) (by decide) rfl (by simp [lv_args, jR_cat, jI_cat, jL_cat]) (by simp [lg_sl, jR_cat, jI_cat, jL_cat]) (fun p e s m below meth c ls _ K _ hnm hw hl => ?_)
  have hk : Ki a0 σ σ := ki_rf σ
  have hat : AtF σ a0 [] := fun _ h => absurd h List.not_mem_nil
  refine z_aload_n (pc := 0) K dX1_init_0 rfl (lv_at hl 0 rfl) ?_
  refine z_objI (pc := 1) K (hw.1.pos (by rw [ht0]; decide)).1 q126 q127 q128 hl.1 (zr_ok3A (by decide) (by decide)) (by decide) dX1_init_1 ?_
  refine z_aload_n (pc := 4) K dX1_init_4 rfl (lv_at hl 0 rfl) ?_
  refine z_sipush (pc := 5) K dX1_init_5 (by decide) ?_
  obtain ⟨hle1, h⟩ := h
  refine z_newa (pc := 8) (atype := .byte) (κ := 0) (N' := 940) K hw (by decide) rfl (fun _ => rfl) q197 ⟨by decide, by decide⟩ rfl (by decide) (cr_fit hcr (u := 940) ⟨by decide, by decide⟩ hle1) dX1_init_8 (fun _ hw2 => ?_)
  have hcr3 := cr_new hcr (n := 940) (u := 940) ⟨by decide, by decide⟩ hle1
  obtain ⟨σ4, e5⟩ : ∃ z, z = na σ 0 940 := ⟨_, rfl⟩
  have h := h σ4 e5
  have hke6 : Ke σ σ4 := ke_na hw e5
  have hz7 : tg σ (nx σ) = 0 := z0_ki hk (by rw [ht0]; decide) hw.1.fresh
  have hw2 := wc_e e5 hw2
  have ha8 := at_ke hat hke6 ht0 (by decide)
  have hk9 := ki_ke hk hke6
  have hg10 : tg σ4 a0 = -1 := ke_tg hke6 ht0 (by decide)
  have hg11 : tg σ4 (nx σ) = 60 := tg_na e5
  have hln12 : σ4 (nx σ) 1 0 = 940 := len_na e5
  refine z_putA (pc := 10) (t := 1) (k := 0) (κ := 0) K hw2 (by decide) hg10 zq1 (by decide) (by decide) kf_1_0 hg11 (hln12.trans kl_1_0.symm) q509 (fun _ h => h) rfl hnm rfl dX1_init_10 (fun _ _ hw13 => ?_)
  obtain ⟨σ14, e15⟩ : ∃ z, z = att σ4 a0 0 (nx σ) := ⟨_, rfl⟩
  have h := h σ14 e15
  have ha16 := at_att ha8 e15 (hw2.1.pos (by rw [hg11]; decide)).1 hg10 hg11 (by decide)
  have hw13 := wc_e e15 hw13
  have hk17 := ki_att2 hk9 hz7 e15
  have hg18 : tg σ14 a0 = -1 := tg_att e15 (by decide) hg10 hg11 (by decide)
  refine z_aload_n (pc := 13) K dX1_init_13 rfl (lv_at hl 0 rfl) ?_
  obtain ⟨hle19, h⟩ := h
  refine z_new (pc := 14) (t := 2) K hw13 (by decide) zq2 q129 q130 q93 (cr_fit hcr3 (u := 8) ⟨by decide, by decide⟩ hle19) dX1_init_14 (fun _ hw20 => ?_)
  have hcr21 := cr_new hcr3 (n := 8) (u := 8) ⟨by decide, by decide⟩ hle19
  obtain ⟨σ22, e23⟩ : ∃ z, z = nw σ14 2 := ⟨_, rfl⟩
  have h := h σ22 e23
  have hke24 : Ke σ14 σ22 := ke_nw hw13 e23
  have hz25 : tg σ (nx σ14) = 0 := z0_ki hk17 (by rw [hg18]; decide) hw13.1.fresh
  have hw20 := wc_e e23 hw20
  have ha26 := at_ke ha16 hke24 hg18 (by decide)
  have hk27 := ki_ke hk17 hke24
  have hg28 : tg σ22 a0 = -1 := ke_tg hke24 hg18 (by decide)
  have hg29 : tg σ22 (nx σ14) = (-2) := tg_nw e23
  refine lv_dup (pc := 17) K.x K.b dX1_init_17 (jR_cat _ _) ?_
  refine zc_v (pc := 18) (maxL := 1) K hw20 (met_X2_init X l σ22 (nx σ14) hg29 _ h) (i_I (n := 0) (As := []) K (hw20.1.pos (by rw [hg29]; decide)).1 (by decide) rfl q167 q168 q169 rfl rfl dX1_init_18) (locw K q169 q93) (zr_ok2A (by decide) (by decide)) hl.1 dX1_init_18 (Nat.le_of_ble_eq_true rfl) (cr_le hcr21) (fun σ33 _ _ hq32 hw34 => ?_)
  obtain ⟨hk35, hg36, h⟩ := hq32
  have h := h hk35 hg36
  have ha37 := at_ki ha26 hk35 hg28 (by decide) hg29 (by decide)
  have hk38 := ki_ki hk27 hk35 hz25
  have hg39 : tg σ33 a0 = -1 := ki_tg hk35 hg28 (by decide) hg29 (by decide)
  have hg40 : tg σ33 (nx σ14) = 2 := hg36
  refine z_putrF (pc := 21) (t := 1) 4 K hw34 (by decide) hg39 zq1 (by decide) kf_1_4 zt_1_4 q514 (fun _ h => h) rfl hnm rfl dX1_init_21 (fun _ _ hw41 => ?_)
  obtain ⟨σ42, e43⟩ : ∃ z, z = st σ33 a0 4 0 (nx σ14) := ⟨_, rfl⟩
  have h := h σ42 e43
  have hw41 := wc_e e43 hw41
  have ha44 := at_st ha37 e43 (by decide)
  have hk45 := ki_same hk38 (ki_e e43)
  have hg46 : tg σ42 a0 = -1 := (tg_e e43 (by decide)).trans hg39
  refine z_aload_n (pc := 24) K dX1_init_24 rfl (lv_at hl 0 rfl) ?_
  refine z_bipush (pc := 25) K dX1_init_25 (by decide) ?_
  obtain ⟨hle47, h⟩ := h
  refine z_anew (pc := 27) (κ := 4) (N' := 6) K hw41 ⟨by decide, by decide⟩ rfl q198 q199 ⟨by decide, by decide⟩ rfl (cr_fit hcr21 (u := 6) ⟨by decide, by decide⟩ hle47) dX1_init_27 (fun _ hw48 => ?_)
  have hcr49 := cr_new hcr21 (n := 6) (u := 6) ⟨by decide, by decide⟩ hle47
  obtain ⟨σ50, e51⟩ : ∃ z, z = na σ42 4 6 := ⟨_, rfl⟩
  have h := h σ50 e51
  have hke52 : Ke σ42 σ50 := ke_na hw41 e51
  have hz53 : tg σ (nx σ42) = 0 := z0_ki hk45 (by rw [hg46]; decide) hw41.1.fresh
  have hw48 := wc_e e51 hw48
  have ha54 := at_ke ha44 hke52 hg46 (by decide)
  have hk55 := ki_ke hk45 hke52
  have hg56 : tg σ50 a0 = -1 := ke_tg hke52 hg46 (by decide)
  have hg57 : tg σ50 (nx σ42) = 64 := tg_na e51
  have hln58 : σ50 (nx σ42) 1 0 = 6 := len_na e51
  refine lv_dup (pc := 30) K.x K.b dX1_init_30 (jR_cat _ _) ?_
  refine z_iconst (pc := 31) K dX1_init_31 ?_
  refine z_ldcS (pc := 32) (i := 0) K (-2) (by decide) (tx := "who") rfl dX1_init_32 ?_
  refine z_aastS (pc := 34) K hw48 hg57 hln58 ⟨by decide, by decide⟩ (by decide) ⟨by decide, by decide⟩ dX1_init_34 (fun _ _ hw59 => ?_)
  obtain ⟨σ60, e61⟩ : ∃ z, z = st σ50 (nx σ42) 0 0 (-2) := ⟨_, rfl⟩
  have h := h σ60 e61
  have hw59 := wc_e e61 hw59
  have ha62 := at_st ha54 e61 (by decide)
  have hk63 := ki_ki hk55 (ki_e e61) hz53
  have hg64 : tg σ60 a0 = -1 := (tg_e e61 (by decide)).trans hg56
  have hg65 : tg σ60 (nx σ42) = 64 := (tg_e e61 (by decide)).trans hg57
  have hln66 : σ60 (nx σ42) 1 0 = 6 := len_e e61 (by decide) hln58
  refine lv_dup (pc := 35) K.x K.b dX1_init_35 (jR_cat _ _) ?_
  refine z_iconst (pc := 36) K dX1_init_36 ?_
  refine z_ldcS (pc := 37) (i := 1) K (-3) (by decide) (tx := "kind") rfl dX1_init_37 ?_
  refine z_aastS (pc := 39) K hw59 hg65 hln66 ⟨by decide, by decide⟩ (by decide) ⟨by decide, by decide⟩ dX1_init_39 (fun _ _ hw67 => ?_)
  obtain ⟨σ68, e69⟩ : ∃ z, z = st σ60 (nx σ42) 0 1 (-3) := ⟨_, rfl⟩
  have h := h σ68 e69
  have hw67 := wc_e e69 hw67
  have ha70 := at_st ha62 e69 (by decide)
  have hk71 := ki_ki hk63 (ki_e e69) hz53
  have hg72 : tg σ68 a0 = -1 := (tg_e e69 (by decide)).trans hg64
  have hg73 : tg σ68 (nx σ42) = 64 := (tg_e e69 (by decide)).trans hg65
  have hln74 : σ68 (nx σ42) 1 0 = 6 := len_e e69 (by decide) hln66
  refine lv_dup (pc := 40) K.x K.b dX1_init_40 (jR_cat _ _) ?_
  refine z_iconst (pc := 41) K dX1_init_41 ?_
  refine z_ldcS (pc := 42) (i := 2) K (-4) (by decide) (tx := "may") rfl dX1_init_42 ?_
  refine z_aastS (pc := 44) K hw67 hg73 hln74 ⟨by decide, by decide⟩ (by decide) ⟨by decide, by decide⟩ dX1_init_44 (fun _ _ hw75 => ?_)
  obtain ⟨σ76, e77⟩ : ∃ z, z = st σ68 (nx σ42) 0 2 (-4) := ⟨_, rfl⟩
  have h := h σ76 e77
  have hw75 := wc_e e77 hw75
  have ha78 := at_st ha70 e77 (by decide)
  have hk79 := ki_ki hk71 (ki_e e77) hz53
  have hg80 : tg σ76 a0 = -1 := (tg_e e77 (by decide)).trans hg72
  have hg81 : tg σ76 (nx σ42) = 64 := (tg_e e77 (by decide)).trans hg73
  have hln82 : σ76 (nx σ42) 1 0 = 6 := len_e e77 (by decide) hln74
  refine lv_dup (pc := 45) K.x K.b dX1_init_45 (jR_cat _ _) ?_
  refine z_iconst (pc := 46) K dX1_init_46 ?_
  refine z_ldcS (pc := 47) (i := 3) K (-5) (by decide) (tx := "comb") rfl dX1_init_47 ?_
  refine z_aastS (pc := 49) K hw75 hg81 hln82 ⟨by decide, by decide⟩ (by decide) ⟨by decide, by decide⟩ dX1_init_49 (fun _ _ hw83 => ?_)
  obtain ⟨σ84, e85⟩ : ∃ z, z = st σ76 (nx σ42) 0 3 (-5) := ⟨_, rfl⟩
  have h := h σ84 e85
  have hw83 := wc_e e85 hw83
  have ha86 := at_st ha78 e85 (by decide)
  have hk87 := ki_ki hk79 (ki_e e85) hz53
  have hg88 : tg σ84 a0 = -1 := (tg_e e85 (by decide)).trans hg80
  have hg89 : tg σ84 (nx σ42) = 64 := (tg_e e85 (by decide)).trans hg81
  have hln90 : σ84 (nx σ42) 1 0 = 6 := len_e e85 (by decide) hln82
  refine lv_dup (pc := 50) K.x K.b dX1_init_50 (jR_cat _ _) ?_
  refine z_iconst (pc := 51) K dX1_init_51 ?_
  refine z_ldcS (pc := 52) (i := 4) K (-6) (by decide) (tx := "ranks") rfl dX1_init_52 ?_
  refine z_aastS (pc := 54) K hw83 hg89 hln90 ⟨by decide, by decide⟩ (by decide) ⟨by decide, by decide⟩ dX1_init_54 (fun _ _ hw91 => ?_)
  obtain ⟨σ92, e93⟩ : ∃ z, z = st σ84 (nx σ42) 0 4 (-6) := ⟨_, rfl⟩
  have h := h σ92 e93
  have hw91 := wc_e e93 hw91
  have ha94 := at_st ha86 e93 (by decide)
  have hk95 := ki_ki hk87 (ki_e e93) hz53
  have hg96 : tg σ92 a0 = -1 := (tg_e e93 (by decide)).trans hg88
  have hg97 : tg σ92 (nx σ42) = 64 := (tg_e e93 (by decide)).trans hg89
  have hln98 : σ92 (nx σ42) 1 0 = 6 := len_e e93 (by decide) hln90
  refine lv_dup (pc := 55) K.x K.b dX1_init_55 (jR_cat _ _) ?_
  refine z_iconst (pc := 56) K dX1_init_56 ?_
  refine z_ldcS (pc := 57) (i := 5) K (-7) (by decide) (tx := "twice") rfl dX1_init_57 ?_
  refine z_aastS (pc := 59) K hw91 hg97 hln98 ⟨by decide, by decide⟩ (by decide) ⟨by decide, by decide⟩ dX1_init_59 (fun _ _ hw99 => ?_)
  obtain ⟨σ100, e101⟩ : ∃ z, z = st σ92 (nx σ42) 0 5 (-7) := ⟨_, rfl⟩
  have h := h σ100 e101
  have hw99 := wc_e e101 hw99
  have ha102 := at_st ha94 e101 (by decide)
  have hk103 := ki_ki hk95 (ki_e e101) hz53
  have hg104 : tg σ100 a0 = -1 := (tg_e e101 (by decide)).trans hg96
  have hg105 : tg σ100 (nx σ42) = 64 := (tg_e e101 (by decide)).trans hg97
  have hln106 : σ100 (nx σ42) 1 0 = 6 := len_e e101 (by decide) hln98
  refine z_putA (pc := 60) (t := 1) (k := 5) (κ := 4) K hw99 (by decide) hg104 zq1 (by decide) (by decide) kf_1_5 hg105 (hln106.trans kl_1_5.symm) q516 (fun _ h => h) rfl hnm rfl dX1_init_60 (fun _ _ hw107 => ?_)
  obtain ⟨σ108, e109⟩ : ∃ z, z = att σ100 a0 5 (nx σ42) := ⟨_, rfl⟩
  have h := h σ108 e109
  have ha110 := at_att ha102 e109 (hw99.1.pos (by rw [hg105]; decide)).1 hg104 hg105 (by decide)
  have hw107 := wc_e e109 hw107
  have hk111 := ki_att2 hk103 hz53 e109
  have hg112 : tg σ108 a0 = -1 := tg_att e109 (by decide) hg104 hg105 (by decide)
  refine z_aload_n (pc := 63) K dX1_init_63 rfl (lv_at hl 0 rfl) ?_
  refine z_bipush (pc := 64) K dX1_init_64 (by decide) ?_
  obtain ⟨hle113, h⟩ := h
  refine z_anew (pc := 66) (κ := 4) (N' := 13) K hw107 ⟨by decide, by decide⟩ rfl q198 q199 ⟨by decide, by decide⟩ rfl (cr_fit hcr49 (u := 13) ⟨by decide, by decide⟩ hle113) dX1_init_66 (fun _ hw114 => ?_)
  have hcr115 := cr_new hcr49 (n := 13) (u := 13) ⟨by decide, by decide⟩ hle113
  obtain ⟨σ116, e117⟩ : ∃ z, z = na σ108 4 13 := ⟨_, rfl⟩
  have h := h σ116 e117
  have hke118 : Ke σ108 σ116 := ke_na hw107 e117
  have hz119 : tg σ (nx σ108) = 0 := z0_ki hk111 (by rw [hg112]; decide) hw107.1.fresh
  have hw114 := wc_e e117 hw114
  have ha120 := at_ke ha110 hke118 hg112 (by decide)
  have hk121 := ki_ke hk111 hke118
  have hg122 : tg σ116 a0 = -1 := ke_tg hke118 hg112 (by decide)
  have hg123 : tg σ116 (nx σ108) = 64 := tg_na e117
  have hln124 : σ116 (nx σ108) 1 0 = 13 := len_na e117
  refine lv_dup (pc := 69) K.x K.b dX1_init_69 (jR_cat _ _) ?_
  refine z_iconst (pc := 70) K dX1_init_70 ?_
  refine z_ldcS (pc := 71) (i := 6) K (-8) (by decide) (tx := "opens") rfl dX1_init_71 ?_
  refine z_aastS (pc := 73) K hw114 hg123 hln124 ⟨by decide, by decide⟩ (by decide) ⟨by decide, by decide⟩ dX1_init_73 (fun _ _ hw125 => ?_)
  obtain ⟨σ126, e127⟩ : ∃ z, z = st σ116 (nx σ108) 0 0 (-8) := ⟨_, rfl⟩
  have h := h σ126 e127
  have hw125 := wc_e e127 hw125
  have ha128 := at_st ha120 e127 (by decide)
  have hk129 := ki_ki hk121 (ki_e e127) hz119
  have hg130 : tg σ126 a0 = -1 := (tg_e e127 (by decide)).trans hg122
  have hg131 : tg σ126 (nx σ108) = 64 := (tg_e e127 (by decide)).trans hg123
  have hln132 : σ126 (nx σ108) 1 0 = 13 := len_e e127 (by decide) hln124
  refine lv_dup (pc := 74) K.x K.b dX1_init_74 (jR_cat _ _) ?_
  refine z_iconst (pc := 75) K dX1_init_75 ?_
  refine z_ldcS (pc := 76) (i := 7) K (-9) (by decide) (tx := "begins") rfl dX1_init_76 ?_
  refine z_aastS (pc := 78) K hw125 hg131 hln132 ⟨by decide, by decide⟩ (by decide) ⟨by decide, by decide⟩ dX1_init_78 (fun _ _ hw133 => ?_)
  obtain ⟨σ134, e135⟩ : ∃ z, z = st σ126 (nx σ108) 0 1 (-9) := ⟨_, rfl⟩
  have h := h σ134 e135
  have hw133 := wc_e e135 hw133
  have ha136 := at_st ha128 e135 (by decide)
  have hk137 := ki_ki hk129 (ki_e e135) hz119
  have hg138 : tg σ134 a0 = -1 := (tg_e e135 (by decide)).trans hg130
  have hg139 : tg σ134 (nx σ108) = 64 := (tg_e e135 (by decide)).trans hg131
  have hln140 : σ134 (nx σ108) 1 0 = 13 := len_e e135 (by decide) hln132
  refine lv_dup (pc := 79) K.x K.b dX1_init_79 (jR_cat _ _) ?_
  refine z_iconst (pc := 80) K dX1_init_80 ?_
  refine z_ldcS (pc := 81) (i := 8) K (-10) (by decide) (tx := "any") rfl dX1_init_81 ?_
  refine z_aastS (pc := 83) K hw133 hg139 hln140 ⟨by decide, by decide⟩ (by decide) ⟨by decide, by decide⟩ dX1_init_83 (fun _ _ hw141 => ?_)
  obtain ⟨σ142, e143⟩ : ∃ z, z = st σ134 (nx σ108) 0 2 (-10) := ⟨_, rfl⟩
  have h := h σ142 e143
  have hw141 := wc_e e143 hw141
  have ha144 := at_st ha136 e143 (by decide)
  have hk145 := ki_ki hk137 (ki_e e143) hz119
  have hg146 : tg σ142 a0 = -1 := (tg_e e143 (by decide)).trans hg138
  have hg147 : tg σ142 (nx σ108) = 64 := (tg_e e143 (by decide)).trans hg139
  have hln148 : σ142 (nx σ108) 1 0 = 13 := len_e e143 (by decide) hln140
  refine lv_dup (pc := 84) K.x K.b dX1_init_84 (jR_cat _ _) ?_
  refine z_iconst (pc := 85) K dX1_init_85 ?_
  refine z_ldcS (pc := 86) (i := 9) K (-11) (by decide) (tx := "or") rfl dX1_init_86 ?_
  refine z_aastS (pc := 88) K hw141 hg147 hln148 ⟨by decide, by decide⟩ (by decide) ⟨by decide, by decide⟩ dX1_init_88 (fun _ _ hw149 => ?_)
  obtain ⟨σ150, e151⟩ : ∃ z, z = st σ142 (nx σ108) 0 3 (-11) := ⟨_, rfl⟩
  have h := h σ150 e151
  have hw149 := wc_e e151 hw149
  have ha152 := at_st ha144 e151 (by decide)
  have hk153 := ki_ki hk145 (ki_e e151) hz119
  have hg154 : tg σ150 a0 = -1 := (tg_e e151 (by decide)).trans hg146
  have hg155 : tg σ150 (nx σ108) = 64 := (tg_e e151 (by decide)).trans hg147
  have hln156 : σ150 (nx σ108) 1 0 = 13 := len_e e151 (by decide) hln148
  refine lv_dup (pc := 89) K.x K.b dX1_init_89 (jR_cat _ _) ?_
  refine z_iconst (pc := 90) K dX1_init_90 ?_
  refine z_ldcS (pc := 91) (i := 10) K (-12) (by decide) (tx := "and") rfl dX1_init_91 ?_
  refine z_aastS (pc := 93) K hw149 hg155 hln156 ⟨by decide, by decide⟩ (by decide) ⟨by decide, by decide⟩ dX1_init_93 (fun _ _ hw157 => ?_)
  obtain ⟨σ158, e159⟩ : ∃ z, z = st σ150 (nx σ108) 0 4 (-12) := ⟨_, rfl⟩
  have h := h σ158 e159
  have hw157 := wc_e e159 hw157
  have ha160 := at_st ha152 e159 (by decide)
  have hk161 := ki_ki hk153 (ki_e e159) hz119
  have hg162 : tg σ158 a0 = -1 := (tg_e e159 (by decide)).trans hg154
  have hg163 : tg σ158 (nx σ108) = 64 := (tg_e e159 (by decide)).trans hg155
  have hln164 : σ158 (nx σ108) 1 0 = 13 := len_e e159 (by decide) hln156
  refine lv_dup (pc := 94) K.x K.b dX1_init_94 (jR_cat _ _) ?_
  refine z_iconst (pc := 95) K dX1_init_95 ?_
  refine z_ldcS (pc := 96) (i := 11) K (-13) (by decide) (tx := "not") rfl dX1_init_96 ?_
  refine z_aastS (pc := 98) K hw157 hg163 hln164 ⟨by decide, by decide⟩ (by decide) ⟨by decide, by decide⟩ dX1_init_98 (fun _ _ hw165 => ?_)
  obtain ⟨σ166, e167⟩ : ∃ z, z = st σ158 (nx σ108) 0 5 (-13) := ⟨_, rfl⟩
  have h := h σ166 e167
  have hw165 := wc_e e167 hw165
  have ha168 := at_st ha160 e167 (by decide)
  have hk169 := ki_ki hk161 (ki_e e167) hz119
  have hg170 : tg σ166 a0 = -1 := (tg_e e167 (by decide)).trans hg162
  have hg171 : tg σ166 (nx σ108) = 64 := (tg_e e167 (by decide)).trans hg163
  have hln172 : σ166 (nx σ108) 1 0 = 13 := len_e e167 (by decide) hln164
  refine lv_dup (pc := 99) K.x K.b dX1_init_99 (jR_cat _ _) ?_
  refine z_bipush (pc := 100) K dX1_init_100 (by decide) ?_
  refine z_ldcS (pc := 102) (i := 12) K (-14) (by decide) (tx := "by") rfl dX1_init_102 ?_
  refine z_aastS (pc := 104) K hw165 hg171 hln172 ⟨by decide, by decide⟩ (by decide) ⟨by decide, by decide⟩ dX1_init_104 (fun _ _ hw173 => ?_)
  obtain ⟨σ174, e175⟩ : ∃ z, z = st σ166 (nx σ108) 0 6 (-14) := ⟨_, rfl⟩
  have h := h σ174 e175
  have hw173 := wc_e e175 hw173
  have ha176 := at_st ha168 e175 (by decide)
  have hk177 := ki_ki hk169 (ki_e e175) hz119
  have hg178 : tg σ174 a0 = -1 := (tg_e e175 (by decide)).trans hg170
  have hg179 : tg σ174 (nx σ108) = 64 := (tg_e e175 (by decide)).trans hg171
  have hln180 : σ174 (nx σ108) 1 0 = 13 := len_e e175 (by decide) hln172
  refine lv_dup (pc := 105) K.x K.b dX1_init_105 (jR_cat _ _) ?_
  refine z_bipush (pc := 106) K dX1_init_106 (by decide) ?_
  refine z_ldcS (pc := 108) (i := 13) K (-15) (by decide) (tx := "to") rfl dX1_init_108 ?_
  refine z_aastS (pc := 110) K hw173 hg179 hln180 ⟨by decide, by decide⟩ (by decide) ⟨by decide, by decide⟩ dX1_init_110 (fun _ _ hw181 => ?_)
  obtain ⟨σ182, e183⟩ : ∃ z, z = st σ174 (nx σ108) 0 7 (-15) := ⟨_, rfl⟩
  have h := h σ182 e183
  have hw181 := wc_e e183 hw181
  have ha184 := at_st ha176 e183 (by decide)
  have hk185 := ki_ki hk177 (ki_e e183) hz119
  have hg186 : tg σ182 a0 = -1 := (tg_e e183 (by decide)).trans hg178
  have hg187 : tg σ182 (nx σ108) = 64 := (tg_e e183 (by decide)).trans hg179
  have hln188 : σ182 (nx σ108) 1 0 = 13 := len_e e183 (by decide) hln180
  refine lv_dup (pc := 111) K.x K.b dX1_init_111 (jR_cat _ _) ?_
  refine z_bipush (pc := 112) K dX1_init_112 (by decide) ?_
  refine z_ldcS (pc := 114) (i := 14) K (-16) (by decide) (tx := "is") rfl dX1_init_114 ?_
  refine z_aastS (pc := 116) K hw181 hg187 hln188 ⟨by decide, by decide⟩ (by decide) ⟨by decide, by decide⟩ dX1_init_116 (fun _ _ hw189 => ?_)
  obtain ⟨σ190, e191⟩ : ∃ z, z = st σ182 (nx σ108) 0 8 (-16) := ⟨_, rfl⟩
  have h := h σ190 e191
  have hw189 := wc_e e191 hw189
  have ha192 := at_st ha184 e191 (by decide)
  have hk193 := ki_ki hk185 (ki_e e191) hz119
  have hg194 : tg σ190 a0 = -1 := (tg_e e191 (by decide)).trans hg186
  have hg195 : tg σ190 (nx σ108) = 64 := (tg_e e191 (by decide)).trans hg187
  have hln196 : σ190 (nx σ108) 1 0 = 13 := len_e e191 (by decide) hln188
  refine lv_dup (pc := 117) K.x K.b dX1_init_117 (jR_cat _ _) ?_
  refine z_bipush (pc := 118) K dX1_init_118 (by decide) ?_
  refine z_ldcS (pc := 120) (i := 15) K (-17) (by decide) (tx := "place") rfl dX1_init_120 ?_
  refine z_aastS (pc := 122) K hw189 hg195 hln196 ⟨by decide, by decide⟩ (by decide) ⟨by decide, by decide⟩ dX1_init_122 (fun _ _ hw197 => ?_)
  obtain ⟨σ198, e199⟩ : ∃ z, z = st σ190 (nx σ108) 0 9 (-17) := ⟨_, rfl⟩
  have h := h σ198 e199
  have hw197 := wc_e e199 hw197
  have ha200 := at_st ha192 e199 (by decide)
  have hk201 := ki_ki hk193 (ki_e e199) hz119
  have hg202 : tg σ198 a0 = -1 := (tg_e e199 (by decide)).trans hg194
  have hg203 : tg σ198 (nx σ108) = 64 := (tg_e e199 (by decide)).trans hg195
  have hln204 : σ198 (nx σ108) 1 0 = 13 := len_e e199 (by decide) hln196
  refine lv_dup (pc := 123) K.x K.b dX1_init_123 (jR_cat _ _) ?_
  refine z_bipush (pc := 124) K dX1_init_124 (by decide) ?_
  refine z_ldcS (pc := 126) (i := 16) K (-18) (by decide) (tx := "thread") rfl dX1_init_126 ?_
  refine z_aastS (pc := 128) K hw197 hg203 hln204 ⟨by decide, by decide⟩ (by decide) ⟨by decide, by decide⟩ dX1_init_128 (fun _ _ hw205 => ?_)
  obtain ⟨σ206, e207⟩ : ∃ z, z = st σ198 (nx σ108) 0 10 (-18) := ⟨_, rfl⟩
  have h := h σ206 e207
  have hw205 := wc_e e207 hw205
  have ha208 := at_st ha200 e207 (by decide)
  have hk209 := ki_ki hk201 (ki_e e207) hz119
  have hg210 : tg σ206 a0 = -1 := (tg_e e207 (by decide)).trans hg202
  have hg211 : tg σ206 (nx σ108) = 64 := (tg_e e207 (by decide)).trans hg203
  have hln212 : σ206 (nx σ108) 1 0 = 13 := len_e e207 (by decide) hln204
  refine lv_dup (pc := 129) K.x K.b dX1_init_129 (jR_cat _ _) ?_
  refine z_bipush (pc := 130) K dX1_init_130 (by decide) ?_
  refine z_ldcS (pc := 132) (i := 17) K (-19) (by decide) (tx := "depth") rfl dX1_init_132 ?_
  refine z_aastS (pc := 134) K hw205 hg211 hln212 ⟨by decide, by decide⟩ (by decide) ⟨by decide, by decide⟩ dX1_init_134 (fun _ _ hw213 => ?_)
  obtain ⟨σ214, e215⟩ : ∃ z, z = st σ206 (nx σ108) 0 11 (-19) := ⟨_, rfl⟩
  have h := h σ214 e215
  have hw213 := wc_e e215 hw213
  have ha216 := at_st ha208 e215 (by decide)
  have hk217 := ki_ki hk209 (ki_e e215) hz119
  have hg218 : tg σ214 a0 = -1 := (tg_e e215 (by decide)).trans hg210
  have hg219 : tg σ214 (nx σ108) = 64 := (tg_e e215 (by decide)).trans hg211
  have hln220 : σ214 (nx σ108) 1 0 = 13 := len_e e215 (by decide) hln212
  refine lv_dup (pc := 135) K.x K.b dX1_init_135 (jR_cat _ _) ?_
  refine z_bipush (pc := 136) K dX1_init_136 (by decide) ?_
  refine z_ldcS (pc := 138) (i := 18) K (-20) (by decide) (tx := "state") rfl dX1_init_138 ?_
  refine z_aastS (pc := 140) K hw213 hg219 hln220 ⟨by decide, by decide⟩ (by decide) ⟨by decide, by decide⟩ dX1_init_140 (fun _ _ hw221 => ?_)
  obtain ⟨σ222, e223⟩ : ∃ z, z = st σ214 (nx σ108) 0 12 (-20) := ⟨_, rfl⟩
  have h := h σ222 e223
  have hw221 := wc_e e223 hw221
  have ha224 := at_st ha216 e223 (by decide)
  have hk225 := ki_ki hk217 (ki_e e223) hz119
  have hg226 : tg σ222 a0 = -1 := (tg_e e223 (by decide)).trans hg218
  have hg227 : tg σ222 (nx σ108) = 64 := (tg_e e223 (by decide)).trans hg219
  have hln228 : σ222 (nx σ108) 1 0 = 13 := len_e e223 (by decide) hln220
  refine z_putA (pc := 141) (t := 1) (k := 6) (κ := 4) K hw221 (by decide) hg226 zq1 (by decide) (by decide) kf_1_6 hg227 (hln228.trans kl_1_6.symm) q519 (fun _ h => h) rfl hnm rfl dX1_init_141 (fun _ _ hw229 => ?_)
  obtain ⟨σ230, e231⟩ : ∃ z, z = att σ222 a0 6 (nx σ108) := ⟨_, rfl⟩
  have h := h σ230 e231
  have ha232 := at_att ha224 e231 (hw221.1.pos (by rw [hg227]; decide)).1 hg226 hg227 (by decide)
  have hw229 := wc_e e231 hw229
  have hk233 := ki_att2 hk225 hz119 e231
  have hg234 : tg σ230 a0 = -1 := tg_att e231 (by decide) hg226 hg227 (by decide)
  refine z_aload_n (pc := 144) K dX1_init_144 rfl (lv_at hl 0 rfl) ?_
  refine z_bipush (pc := 145) K dX1_init_145 (by decide) ?_
  obtain ⟨hle235, h⟩ := h
  refine z_anew (pc := 147) (κ := 4) (N' := 6) K hw229 ⟨by decide, by decide⟩ rfl q198 q199 ⟨by decide, by decide⟩ rfl (cr_fit hcr115 (u := 6) ⟨by decide, by decide⟩ hle235) dX1_init_147 (fun _ hw236 => ?_)
  have hcr237 := cr_new hcr115 (n := 6) (u := 6) ⟨by decide, by decide⟩ hle235
  obtain ⟨σ238, e239⟩ : ∃ z, z = na σ230 4 6 := ⟨_, rfl⟩
  have h := h σ238 e239
  have hke240 : Ke σ230 σ238 := ke_na hw229 e239
  have hz241 : tg σ (nx σ230) = 0 := z0_ki hk233 (by rw [hg234]; decide) hw229.1.fresh
  have hw236 := wc_e e239 hw236
  have ha242 := at_ke ha232 hke240 hg234 (by decide)
  have hk243 := ki_ke hk233 hke240
  have hg244 : tg σ238 a0 = -1 := ke_tg hke240 hg234 (by decide)
  have hg245 : tg σ238 (nx σ230) = 64 := tg_na e239
  have hln246 : σ238 (nx σ230) 1 0 = 6 := len_na e239
  refine lv_dup (pc := 150) K.x K.b dX1_init_150 (jR_cat _ _) ?_
  refine z_iconst (pc := 151) K dX1_init_151 ?_
  refine z_ldcS (pc := 152) (i := 19) K (-21) (by decide) (tx := "asks") rfl dX1_init_152 ?_
  refine z_aastS (pc := 154) K hw236 hg245 hln246 ⟨by decide, by decide⟩ (by decide) ⟨by decide, by decide⟩ dX1_init_154 (fun _ _ hw247 => ?_)
  obtain ⟨σ248, e249⟩ : ∃ z, z = st σ238 (nx σ230) 0 0 (-21) := ⟨_, rfl⟩
  have h := h σ248 e249
  have hw247 := wc_e e249 hw247
  have ha250 := at_st ha242 e249 (by decide)
  have hk251 := ki_ki hk243 (ki_e e249) hz241
  have hg252 : tg σ248 a0 = -1 := (tg_e e249 (by decide)).trans hg244
  have hg253 : tg σ248 (nx σ230) = 64 := (tg_e e249 (by decide)).trans hg245
  have hln254 : σ248 (nx σ230) 1 0 = 6 := len_e e249 (by decide) hln246
  refine lv_dup (pc := 155) K.x K.b dX1_init_155 (jR_cat _ _) ?_
  refine z_iconst (pc := 156) K dX1_init_156 ?_
  refine z_ldcS (pc := 157) (i := 20) K (-22) (by decide) (tx := "grants") rfl dX1_init_157 ?_
  refine z_aastS (pc := 159) K hw247 hg253 hln254 ⟨by decide, by decide⟩ (by decide) ⟨by decide, by decide⟩ dX1_init_159 (fun _ _ hw255 => ?_)
  obtain ⟨σ256, e257⟩ : ∃ z, z = st σ248 (nx σ230) 0 1 (-22) := ⟨_, rfl⟩
  have h := h σ256 e257
  have hw255 := wc_e e257 hw255
  have ha258 := at_st ha250 e257 (by decide)
  have hk259 := ki_ki hk251 (ki_e e257) hz241
  have hg260 : tg σ256 a0 = -1 := (tg_e e257 (by decide)).trans hg252
  have hg261 : tg σ256 (nx σ230) = 64 := (tg_e e257 (by decide)).trans hg253
  have hln262 : σ256 (nx σ230) 1 0 = 6 := len_e e257 (by decide) hln254
  refine lv_dup (pc := 160) K.x K.b dX1_init_160 (jR_cat _ _) ?_
  refine z_iconst (pc := 161) K dX1_init_161 ?_
  refine z_ldcS (pc := 162) (i := 21) K (-23) (by decide) (tx := "refuses") rfl dX1_init_162 ?_
  refine z_aastS (pc := 164) K hw255 hg261 hln262 ⟨by decide, by decide⟩ (by decide) ⟨by decide, by decide⟩ dX1_init_164 (fun _ _ hw263 => ?_)
  obtain ⟨σ264, e265⟩ : ∃ z, z = st σ256 (nx σ230) 0 2 (-23) := ⟨_, rfl⟩
  have h := h σ264 e265
  have hw263 := wc_e e265 hw263
  have ha266 := at_st ha258 e265 (by decide)
  have hk267 := ki_ki hk259 (ki_e e265) hz241
  have hg268 : tg σ264 a0 = -1 := (tg_e e265 (by decide)).trans hg260
  have hg269 : tg σ264 (nx σ230) = 64 := (tg_e e265 (by decide)).trans hg261
  have hln270 : σ264 (nx σ230) 1 0 = 6 := len_e e265 (by decide) hln262
  refine lv_dup (pc := 165) K.x K.b dX1_init_165 (jR_cat _ _) ?_
  refine z_iconst (pc := 166) K dX1_init_166 ?_
  refine z_ldcS (pc := 167) (i := 22) K (-24) (by decide) (tx := "keeps") rfl dX1_init_167 ?_
  refine z_aastS (pc := 169) K hw263 hg269 hln270 ⟨by decide, by decide⟩ (by decide) ⟨by decide, by decide⟩ dX1_init_169 (fun _ _ hw271 => ?_)
  obtain ⟨σ272, e273⟩ : ∃ z, z = st σ264 (nx σ230) 0 3 (-24) := ⟨_, rfl⟩
  have h := h σ272 e273
  have hw271 := wc_e e273 hw271
  have ha274 := at_st ha266 e273 (by decide)
  have hk275 := ki_ki hk267 (ki_e e273) hz241
  have hg276 : tg σ272 a0 = -1 := (tg_e e273 (by decide)).trans hg268
  have hg277 : tg σ272 (nx σ230) = 64 := (tg_e e273 (by decide)).trans hg269
  have hln278 : σ272 (nx σ230) 1 0 = 6 := len_e e273 (by decide) hln270
  refine lv_dup (pc := 170) K.x K.b dX1_init_170 (jR_cat _ _) ?_
  refine z_iconst (pc := 171) K dX1_init_171 ?_
  refine z_ldcS (pc := 172) (i := 23) K (-25) (by decide) (tx := "breaks") rfl dX1_init_172 ?_
  refine z_aastS (pc := 174) K hw271 hg277 hln278 ⟨by decide, by decide⟩ (by decide) ⟨by decide, by decide⟩ dX1_init_174 (fun _ _ hw279 => ?_)
  obtain ⟨σ280, e281⟩ : ∃ z, z = st σ272 (nx σ230) 0 4 (-25) := ⟨_, rfl⟩
  have h := h σ280 e281
  have hw279 := wc_e e281 hw279
  have ha282 := at_st ha274 e281 (by decide)
  have hk283 := ki_ki hk275 (ki_e e281) hz241
  have hg284 : tg σ280 a0 = -1 := (tg_e e281 (by decide)).trans hg276
  have hg285 : tg σ280 (nx σ230) = 64 := (tg_e e281 (by decide)).trans hg277
  have hln286 : σ280 (nx σ230) 1 0 = 6 := len_e e281 (by decide) hln278
  refine lv_dup (pc := 175) K.x K.b dX1_init_175 (jR_cat _ _) ?_
  refine z_iconst (pc := 176) K dX1_init_176 ?_
  refine z_ldcS (pc := 177) (i := 24) K (-26) (by decide) (tx := "frees") rfl dX1_init_177 ?_
  refine z_aastS (pc := 179) K hw279 hg285 hln286 ⟨by decide, by decide⟩ (by decide) ⟨by decide, by decide⟩ dX1_init_179 (fun _ _ hw287 => ?_)
  obtain ⟨σ288, e289⟩ : ∃ z, z = st σ280 (nx σ230) 0 5 (-26) := ⟨_, rfl⟩
  have h := h σ288 e289
  have hw287 := wc_e e289 hw287
  have ha290 := at_st ha282 e289 (by decide)
  have hk291 := ki_ki hk283 (ki_e e289) hz241
  have hg292 : tg σ288 a0 = -1 := (tg_e e289 (by decide)).trans hg284
  have hg293 : tg σ288 (nx σ230) = 64 := (tg_e e289 (by decide)).trans hg285
  have hln294 : σ288 (nx σ230) 1 0 = 6 := len_e e289 (by decide) hln286
  refine z_putA (pc := 180) (t := 1) (k := 7) (κ := 4) K hw287 (by decide) hg292 zq1 (by decide) (by decide) kf_1_7 hg293 (hln294.trans kl_1_7.symm) q521 (fun _ h => h) rfl hnm rfl dX1_init_180 (fun _ _ hw295 => ?_)
  obtain ⟨σ296, e297⟩ : ∃ z, z = att σ288 a0 7 (nx σ230) := ⟨_, rfl⟩
  have h := h σ296 e297
  have ha298 := at_att ha290 e297 (hw287.1.pos (by rw [hg293]; decide)).1 hg292 hg293 (by decide)
  have hw295 := wc_e e297 hw295
  have hk299 := ki_att2 hk291 hz241 e297
  have hg300 : tg σ296 a0 = -1 := tg_att e297 (by decide) hg292 hg293 (by decide)
  refine z_aload_n (pc := 183) K dX1_init_183 rfl (lv_at hl 0 rfl) ?_
  obtain ⟨hle301, h⟩ := h
  refine z_new (pc := 184) (t := 3) K hw295 (by decide) zq3 q225 q226 q94 (cr_fit hcr237 (u := 10) ⟨by decide, by decide⟩ hle301) dX1_init_184 (fun _ hw302 => ?_)
  have hcr303 := cr_new hcr237 (n := 10) (u := 10) ⟨by decide, by decide⟩ hle301
  obtain ⟨σ304, e305⟩ : ∃ z, z = nw σ296 3 := ⟨_, rfl⟩
  have h := h σ304 e305
  have hke306 : Ke σ296 σ304 := ke_nw hw295 e305
  have hz307 : tg σ (nx σ296) = 0 := z0_ki hk299 (by rw [hg300]; decide) hw295.1.fresh
  have hw302 := wc_e e305 hw302
  have ha308 := at_ke ha298 hke306 hg300 (by decide)
  have hk309 := ki_ke hk299 hke306
  have hg310 : tg σ304 a0 = -1 := ke_tg hke306 hg300 (by decide)
  have hg311 : tg σ304 (nx σ296) = (-3) := tg_nw e305
  refine lv_dup (pc := 187) K.x K.b dX1_init_187 (jR_cat _ _) ?_
  refine zac_v (pc := 188) (maxL := 1) K hw302 (met_X3_init X l σ304 (nx σ296) hg311 ((((((cr - 940) - 8) - 6) - 13) - 6) - 10) hcr303.2.2 _ h) (i_IN (n := 0) (As := []) K (hw302.1.pos (by rw [hg311]; decide)).1 (by decide) rfl q227 q228 q229 rfl rfl dX1_init_188) (locw K q229 q94) (zr_ok2A (by decide) (by decide)) hl.1 dX1_init_188 (by simp [jR_cat, jI_cat, jL_cat]) hcr303 (Int.toNat_of_nonneg hcr303.2.2) ⟨Nat.le_refl _, Nat.le_refl _⟩ (fun σ315 _ _ _ _ cr317 hq314 hw316 hcr318 => ?_)
  obtain ⟨hk319, hg320, h⟩ := hq314
  have h := h hk319 hg320
  have ha321 := at_ki ha308 hk319 hg310 (by decide) hg311 (by decide)
  have hk322 := ki_ki hk309 hk319 hz307
  have hg323 : tg σ315 a0 = -1 := ki_tg hk319 hg310 (by decide) hg311 (by decide)
  have hg324 : tg σ315 (nx σ296) = 3 := hg320
  refine z_putrF (pc := 191) (t := 1) 8 K hw316 (by decide) hg323 zq1 (by decide) kf_1_8 zt_1_8 q524 (fun _ h => h) rfl hnm rfl dX1_init_191 (fun _ _ hw325 => ?_)
  obtain ⟨σ326, e327⟩ : ∃ z, z = st σ315 a0 8 0 (nx σ296) := ⟨_, rfl⟩
  have h := h σ326 e327
  have hw325 := wc_e e327 hw325
  have ha328 := at_st ha321 e327 (by decide)
  have hk329 := ki_same hk322 (ki_e e327)
  have hg330 : tg σ326 a0 = -1 := (tg_e e327 (by decide)).trans hg323
  refine z_aload_n (pc := 194) K dX1_init_194 rfl (lv_at hl 0 rfl) ?_
  obtain ⟨hle331, h⟩ := h
  refine z_new (pc := 195) (t := 3) K hw325 (by decide) zq3 q225 q226 q94 (cr_fit hcr318 (u := 10) ⟨by decide, by decide⟩ hle331) dX1_init_195 (fun _ hw332 => ?_)
  have hcr333 := cr_new hcr318 (n := 10) (u := 10) ⟨by decide, by decide⟩ hle331
  obtain ⟨σ334, e335⟩ : ∃ z, z = nw σ326 3 := ⟨_, rfl⟩
  have h := h σ334 e335
  have hke336 : Ke σ326 σ334 := ke_nw hw325 e335
  have hz337 : tg σ (nx σ326) = 0 := z0_ki hk329 (by rw [hg330]; decide) hw325.1.fresh
  have hw332 := wc_e e335 hw332
  have ha338 := at_ke ha328 hke336 hg330 (by decide)
  have hk339 := ki_ke hk329 hke336
  have hg340 : tg σ334 a0 = -1 := ke_tg hke336 hg330 (by decide)
  have hg341 : tg σ334 (nx σ326) = (-3) := tg_nw e335
  refine lv_dup (pc := 198) K.x K.b dX1_init_198 (jR_cat _ _) ?_
  refine zac_v (pc := 199) (maxL := 1) K hw332 (met_X3_init X l σ334 (nx σ326) hg341 (cr317 - 10) hcr333.2.2 _ h) (i_IN (n := 0) (As := []) K (hw332.1.pos (by rw [hg341]; decide)).1 (by decide) rfl q227 q228 q229 rfl rfl dX1_init_199) (locw K q229 q94) (zr_ok2A (by decide) (by decide)) hl.1 dX1_init_199 (by simp [jR_cat, jI_cat, jL_cat]) hcr333 (Int.toNat_of_nonneg hcr333.2.2) ⟨Nat.le_refl _, Nat.le_refl _⟩ (fun σ345 _ _ _ _ cr347 hq344 hw346 hcr348 => ?_)
  obtain ⟨hk349, hg350, h⟩ := hq344
  have h := h hk349 hg350
  have ha351 := at_ki ha338 hk349 hg340 (by decide) hg341 (by decide)
  have hk352 := ki_ki hk339 hk349 hz337
  have hg353 : tg σ345 a0 = -1 := ki_tg hk349 hg340 (by decide) hg341 (by decide)
  have hg354 : tg σ345 (nx σ326) = 3 := hg350
  refine z_putrF (pc := 202) (t := 1) 9 K hw346 (by decide) hg353 zq1 (by decide) kf_1_9 zt_1_9 q527 (fun _ h => h) rfl hnm rfl dX1_init_202 (fun _ _ hw355 => ?_)
  obtain ⟨σ356, e357⟩ : ∃ z, z = st σ345 a0 9 0 (nx σ326) := ⟨_, rfl⟩
  have h := h σ356 e357
  have hw355 := wc_e e357 hw355
  have ha358 := at_st ha351 e357 (by decide)
  have hk359 := ki_same hk352 (ki_e e357)
  have hg360 : tg σ356 a0 = -1 := (tg_e e357 (by decide)).trans hg353
  refine z_aload_n (pc := 205) K dX1_init_205 rfl (lv_at hl 0 rfl) ?_
  obtain ⟨hle361, h⟩ := h
  refine z_new (pc := 206) (t := 3) K hw355 (by decide) zq3 q225 q226 q94 (cr_fit hcr348 (u := 10) ⟨by decide, by decide⟩ hle361) dX1_init_206 (fun _ hw362 => ?_)
  have hcr363 := cr_new hcr348 (n := 10) (u := 10) ⟨by decide, by decide⟩ hle361
  obtain ⟨σ364, e365⟩ : ∃ z, z = nw σ356 3 := ⟨_, rfl⟩
  have h := h σ364 e365
  have hke366 : Ke σ356 σ364 := ke_nw hw355 e365
  have hz367 : tg σ (nx σ356) = 0 := z0_ki hk359 (by rw [hg360]; decide) hw355.1.fresh
  have hw362 := wc_e e365 hw362
  have ha368 := at_ke ha358 hke366 hg360 (by decide)
  have hk369 := ki_ke hk359 hke366
  have hg370 : tg σ364 a0 = -1 := ke_tg hke366 hg360 (by decide)
  have hg371 : tg σ364 (nx σ356) = (-3) := tg_nw e365
  refine lv_dup (pc := 209) K.x K.b dX1_init_209 (jR_cat _ _) ?_
  refine zac_v (pc := 210) (maxL := 1) K hw362 (met_X3_init X l σ364 (nx σ356) hg371 (cr347 - 10) hcr363.2.2 _ h) (i_IN (n := 0) (As := []) K (hw362.1.pos (by rw [hg371]; decide)).1 (by decide) rfl q227 q228 q229 rfl rfl dX1_init_210) (locw K q229 q94) (zr_ok2A (by decide) (by decide)) hl.1 dX1_init_210 (by simp [jR_cat, jI_cat, jL_cat]) hcr363 (Int.toNat_of_nonneg hcr363.2.2) ⟨Nat.le_refl _, Nat.le_refl _⟩ (fun σ375 _ _ _ _ cr377 hq374 hw376 hcr378 => ?_)
  obtain ⟨hk379, hg380, h⟩ := hq374
  have h := h hk379 hg380
  have ha381 := at_ki ha368 hk379 hg370 (by decide) hg371 (by decide)
  have hk382 := ki_ki hk369 hk379 hz367
  have hg383 : tg σ375 a0 = -1 := ki_tg hk379 hg370 (by decide) hg371 (by decide)
  have hg384 : tg σ375 (nx σ356) = 3 := hg380
  refine z_putrF (pc := 213) (t := 1) 10 K hw376 (by decide) hg383 zq1 (by decide) kf_1_10 zt_1_10 q528 (fun _ h => h) rfl hnm rfl dX1_init_213 (fun _ _ hw385 => ?_)
  obtain ⟨σ386, e387⟩ : ∃ z, z = st σ375 a0 10 0 (nx σ356) := ⟨_, rfl⟩
  have h := h σ386 e387
  have hw385 := wc_e e387 hw385
  have ha388 := at_st ha381 e387 (by decide)
  have hk389 := ki_same hk382 (ki_e e387)
  have hg390 : tg σ386 a0 = -1 := (tg_e e387 (by decide)).trans hg383
  refine z_aload_n (pc := 216) K dX1_init_216 rfl (lv_at hl 0 rfl) ?_
  obtain ⟨hle391, h⟩ := h
  refine z_new (pc := 217) (t := 5) K hw385 (by decide) zq5 q347 q348 q96 (cr_fit hcr378 (u := 3) ⟨by decide, by decide⟩ hle391) dX1_init_217 (fun _ hw392 => ?_)
  have hcr393 := cr_new hcr378 (n := 3) (u := 3) ⟨by decide, by decide⟩ hle391
  obtain ⟨σ394, e395⟩ : ∃ z, z = nw σ386 5 := ⟨_, rfl⟩
  have h := h σ394 e395
  have hke396 : Ke σ386 σ394 := ke_nw hw385 e395
  have hz397 : tg σ (nx σ386) = 0 := z0_ki hk389 (by rw [hg390]; decide) hw385.1.fresh
  have hw392 := wc_e e395 hw392
  have ha398 := at_ke ha388 hke396 hg390 (by decide)
  have hk399 := ki_ke hk389 hke396
  have hg400 : tg σ394 a0 = -1 := ke_tg hke396 hg390 (by decide)
  have hg401 : tg σ394 (nx σ386) = (-5) := tg_nw e395
  refine lv_dup (pc := 220) K.x K.b dX1_init_220 (jR_cat _ _) ?_
  refine zac_v (pc := 221) (maxL := 1) K hw392 (met_X5_init X l σ394 (nx σ386) hg401 (cr377 - 3) hcr393.2.2 _ h) (i_IN (n := 0) (As := []) K (hw392.1.pos (by rw [hg401]; decide)).1 (by decide) rfl q349 q350 q351 rfl rfl dX1_init_221) (locw K q351 q96) (zr_ok2A (by decide) (by decide)) hl.1 dX1_init_221 (by simp [jR_cat, jI_cat, jL_cat]) hcr393 (Int.toNat_of_nonneg hcr393.2.2) ⟨Nat.le_refl _, Nat.le_refl _⟩ (fun σ405 _ _ _ _ cr407 hq404 hw406 hcr408 => ?_)
  obtain ⟨hk409, hg410, h⟩ := hq404
  have h := h hk409 hg410
  have ha411 := at_ki ha398 hk409 hg400 (by decide) hg401 (by decide)
  have hk412 := ki_ki hk399 hk409 hz397
  have hg413 : tg σ405 a0 = -1 := ki_tg hk409 hg400 (by decide) hg401 (by decide)
  have hg414 : tg σ405 (nx σ386) = 5 := hg410
  refine z_putrF (pc := 224) (t := 1) 11 K hw406 (by decide) hg413 zq1 (by decide) kf_1_11 zt_1_11 q529 (fun _ h => h) rfl hnm rfl dX1_init_224 (fun _ _ hw415 => ?_)
  obtain ⟨σ416, e417⟩ : ∃ z, z = st σ405 a0 11 0 (nx σ386) := ⟨_, rfl⟩
  have h := h σ416 e417
  have hw415 := wc_e e417 hw415
  have ha418 := at_st ha411 e417 (by decide)
  have hk419 := ki_same hk412 (ki_e e417)
  have hg420 : tg σ416 a0 = -1 := (tg_e e417 (by decide)).trans hg413
  refine z_aload_n (pc := 227) K dX1_init_227 rfl (lv_at hl 0 rfl) ?_
  obtain ⟨hle421, h⟩ := h
  refine z_new (pc := 228) (t := 5) K hw415 (by decide) zq5 q347 q348 q96 (cr_fit hcr408 (u := 3) ⟨by decide, by decide⟩ hle421) dX1_init_228 (fun _ hw422 => ?_)
  have hcr423 := cr_new hcr408 (n := 3) (u := 3) ⟨by decide, by decide⟩ hle421
  obtain ⟨σ424, e425⟩ : ∃ z, z = nw σ416 5 := ⟨_, rfl⟩
  have h := h σ424 e425
  have hke426 : Ke σ416 σ424 := ke_nw hw415 e425
  have hz427 : tg σ (nx σ416) = 0 := z0_ki hk419 (by rw [hg420]; decide) hw415.1.fresh
  have hw422 := wc_e e425 hw422
  have ha428 := at_ke ha418 hke426 hg420 (by decide)
  have hk429 := ki_ke hk419 hke426
  have hg430 : tg σ424 a0 = -1 := ke_tg hke426 hg420 (by decide)
  have hg431 : tg σ424 (nx σ416) = (-5) := tg_nw e425
  refine lv_dup (pc := 231) K.x K.b dX1_init_231 (jR_cat _ _) ?_
  refine zac_v (pc := 232) (maxL := 1) K hw422 (met_X5_init X l σ424 (nx σ416) hg431 (cr407 - 3) hcr423.2.2 _ h) (i_IN (n := 0) (As := []) K (hw422.1.pos (by rw [hg431]; decide)).1 (by decide) rfl q349 q350 q351 rfl rfl dX1_init_232) (locw K q351 q96) (zr_ok2A (by decide) (by decide)) hl.1 dX1_init_232 (by simp [jR_cat, jI_cat, jL_cat]) hcr423 (Int.toNat_of_nonneg hcr423.2.2) ⟨Nat.le_refl _, Nat.le_refl _⟩ (fun σ435 _ _ _ _ cr437 hq434 hw436 hcr438 => ?_)
  obtain ⟨hk439, hg440, h⟩ := hq434
  have h := h hk439 hg440
  have ha441 := at_ki ha428 hk439 hg430 (by decide) hg431 (by decide)
  have hk442 := ki_ki hk429 hk439 hz427
  have hg443 : tg σ435 a0 = -1 := ki_tg hk439 hg430 (by decide) hg431 (by decide)
  have hg444 : tg σ435 (nx σ416) = 5 := hg440
  refine z_putrF (pc := 235) (t := 1) 12 K hw436 (by decide) hg443 zq1 (by decide) kf_1_12 zt_1_12 q530 (fun _ h => h) rfl hnm rfl dX1_init_235 (fun _ _ hw445 => ?_)
  obtain ⟨σ446, e447⟩ : ∃ z, z = st σ435 a0 12 0 (nx σ416) := ⟨_, rfl⟩
  have h := h σ446 e447
  have hw445 := wc_e e447 hw445
  have ha448 := at_st ha441 e447 (by decide)
  have hk449 := ki_same hk442 (ki_e e447)
  have hg450 : tg σ446 a0 = -1 := (tg_e e447 (by decide)).trans hg443
  refine z_aload_n (pc := 238) K dX1_init_238 rfl (lv_at hl 0 rfl) ?_
  obtain ⟨hle451, h⟩ := h
  refine z_new (pc := 239) (t := 5) K hw445 (by decide) zq5 q347 q348 q96 (cr_fit hcr438 (u := 3) ⟨by decide, by decide⟩ hle451) dX1_init_239 (fun _ hw452 => ?_)
  have hcr453 := cr_new hcr438 (n := 3) (u := 3) ⟨by decide, by decide⟩ hle451
  obtain ⟨σ454, e455⟩ : ∃ z, z = nw σ446 5 := ⟨_, rfl⟩
  have h := h σ454 e455
  have hke456 : Ke σ446 σ454 := ke_nw hw445 e455
  have hz457 : tg σ (nx σ446) = 0 := z0_ki hk449 (by rw [hg450]; decide) hw445.1.fresh
  have hw452 := wc_e e455 hw452
  have ha458 := at_ke ha448 hke456 hg450 (by decide)
  have hk459 := ki_ke hk449 hke456
  have hg460 : tg σ454 a0 = -1 := ke_tg hke456 hg450 (by decide)
  have hg461 : tg σ454 (nx σ446) = (-5) := tg_nw e455
  refine lv_dup (pc := 242) K.x K.b dX1_init_242 (jR_cat _ _) ?_
  refine zac_v (pc := 243) (maxL := 1) K hw452 (met_X5_init X l σ454 (nx σ446) hg461 (cr437 - 3) hcr453.2.2 _ h) (i_IN (n := 0) (As := []) K (hw452.1.pos (by rw [hg461]; decide)).1 (by decide) rfl q349 q350 q351 rfl rfl dX1_init_243) (locw K q351 q96) (zr_ok2A (by decide) (by decide)) hl.1 dX1_init_243 (by simp [jR_cat, jI_cat, jL_cat]) hcr453 (Int.toNat_of_nonneg hcr453.2.2) ⟨Nat.le_refl _, Nat.le_refl _⟩ (fun σ465 _ _ _ _ cr467 hq464 hw466 hcr468 => ?_)
  obtain ⟨hk469, hg470, h⟩ := hq464
  have h := h hk469 hg470
  have ha471 := at_ki ha458 hk469 hg460 (by decide) hg461 (by decide)
  have hk472 := ki_ki hk459 hk469 hz457
  have hg473 : tg σ465 a0 = -1 := ki_tg hk469 hg460 (by decide) hg461 (by decide)
  have hg474 : tg σ465 (nx σ446) = 5 := hg470
  refine z_putrF (pc := 246) (t := 1) 13 K hw466 (by decide) hg473 zq1 (by decide) kf_1_13 zt_1_13 q531 (fun _ h => h) rfl hnm rfl dX1_init_246 (fun _ _ hw475 => ?_)
  obtain ⟨σ476, e477⟩ : ∃ z, z = st σ465 a0 13 0 (nx σ446) := ⟨_, rfl⟩
  have h := h σ476 e477
  have hw475 := wc_e e477 hw475
  have ha478 := at_st ha471 e477 (by decide)
  have hk479 := ki_same hk472 (ki_e e477)
  have hg480 : tg σ476 a0 = -1 := (tg_e e477 (by decide)).trans hg473
  refine z_aload_n (pc := 249) K dX1_init_249 rfl (lv_at hl 0 rfl) ?_
  obtain ⟨hle481, h⟩ := h
  refine z_new (pc := 250) (t := 6) K hw475 (by decide) zq6 q369 q370 q98 (cr_fit hcr468 (u := 11) ⟨by decide, by decide⟩ hle481) dX1_init_250 (fun _ hw482 => ?_)
  have hcr483 := cr_new hcr468 (n := 11) (u := 11) ⟨by decide, by decide⟩ hle481
  obtain ⟨σ484, e485⟩ : ∃ z, z = nw σ476 6 := ⟨_, rfl⟩
  have h := h σ484 e485
  have hke486 : Ke σ476 σ484 := ke_nw hw475 e485
  have hz487 : tg σ (nx σ476) = 0 := z0_ki hk479 (by rw [hg480]; decide) hw475.1.fresh
  have hw482 := wc_e e485 hw482
  have ha488 := at_ke ha478 hke486 hg480 (by decide)
  have hk489 := ki_ke hk479 hke486
  have hg490 : tg σ484 a0 = -1 := ke_tg hke486 hg480 (by decide)
  have hg491 : tg σ484 (nx σ476) = (-6) := tg_nw e485
  refine lv_dup (pc := 253) K.x K.b dX1_init_253 (jR_cat _ _) ?_
  refine z_aload_n (pc := 254) K dX1_init_254 rfl (lv_at hl 0 rfl) ?_
  refine zc_v (pc := 255) (maxL := 2) K hw482 (met_X7_init X l σ484 (nx σ476) a0 hg491 hg490 _ h) (i_I (n := 1) (As := [jR X a0]) K (hw482.1.pos (by rw [hg491]; decide)).1 (by decide) rfl q371 q372 q373 rfl rfl dX1_init_255) (locw K q373 q98) (zr_ok2A (by decide) (by decide)) hl.1 dX1_init_255 (Nat.le_of_ble_eq_true rfl) (cr_le hcr483) (fun σ495 _ _ hq494 hw496 => ?_)
  obtain ⟨hk497, hg498, h⟩ := hq494
  have h := h hk497 hg498
  have ha499 := at_ki ha488 hk497 hg490 (by decide) hg491 (by decide)
  have hk500 := ki_ki hk489 hk497 hz487
  have hg501 : tg σ495 a0 = -1 := ki_tg hk497 hg490 (by decide) hg491 (by decide)
  have hg502 : tg σ495 (nx σ476) = -6 := hg498
  refine z_putrF (pc := 258) (t := 1) 14 K hw496 (by decide) hg501 zq1 (by decide) kf_1_14 zt_1_14 q532 (fun _ h => h) rfl hnm rfl dX1_init_258 (fun _ _ hw503 => ?_)
  obtain ⟨σ504, e505⟩ : ∃ z, z = st σ495 a0 14 0 (nx σ476) := ⟨_, rfl⟩
  have h := h σ504 e505
  have hw503 := wc_e e505 hw503
  have ha506 := at_st ha499 e505 (by decide)
  have hk507 := ki_same hk500 (ki_e e505)
  have hg508 : tg σ504 a0 = -1 := (tg_e e505 (by decide)).trans hg501
  refine z_aload_n (pc := 261) K dX1_init_261 rfl (lv_at hl 0 rfl) ?_
  obtain ⟨hle509, h⟩ := h
  refine z_new (pc := 262) (t := 7) K hw503 (by decide) zq7 q426 q427 q99 (cr_fit hcr483 (u := 10) ⟨by decide, by decide⟩ hle509) dX1_init_262 (fun _ hw510 => ?_)
  have hcr511 := cr_new hcr483 (n := 10) (u := 10) ⟨by decide, by decide⟩ hle509
  obtain ⟨σ512, e513⟩ : ∃ z, z = nw σ504 7 := ⟨_, rfl⟩
  have h := h σ512 e513
  have hke514 : Ke σ504 σ512 := ke_nw hw503 e513
  have hz515 : tg σ (nx σ504) = 0 := z0_ki hk507 (by rw [hg508]; decide) hw503.1.fresh
  have hw510 := wc_e e513 hw510
  have ha516 := at_ke ha506 hke514 hg508 (by decide)
  have hk517 := ki_ke hk507 hke514
  have hg518 : tg σ512 a0 = -1 := ke_tg hke514 hg508 (by decide)
  have hg519 : tg σ512 (nx σ504) = (-7) := tg_nw e513
  refine lv_dup (pc := 265) K.x K.b dX1_init_265 (jR_cat _ _) ?_
  refine z_aload_n (pc := 266) K dX1_init_266 rfl (lv_at hl 0 rfl) ?_
  refine zc_v (pc := 267) (maxL := 2) K hw510 (met_X8_init X l σ512 (nx σ504) a0 hg519 hg518 _ h) (i_I (n := 1) (As := [jR X a0]) K (hw510.1.pos (by rw [hg519]; decide)).1 (by decide) rfl q428 q429 q430 rfl rfl dX1_init_267) (locw K q430 q99) (zr_ok2A (by decide) (by decide)) hl.1 dX1_init_267 (Nat.le_of_ble_eq_true rfl) (cr_le hcr511) (fun σ523 _ _ hq522 hw524 => ?_)
  obtain ⟨hk525, hg526, h⟩ := hq522
  have h := h hk525 hg526
  have ha527 := at_ki ha516 hk525 hg518 (by decide) hg519 (by decide)
  have hk528 := ki_ki hk517 hk525 hz515
  have hg529 : tg σ523 a0 = -1 := ki_tg hk525 hg518 (by decide) hg519 (by decide)
  have hg530 : tg σ523 (nx σ504) = -7 := hg526
  refine z_putrF (pc := 270) (t := 1) 15 K hw524 (by decide) hg529 zq1 (by decide) kf_1_15 zt_1_15 q533 (fun _ h => h) rfl hnm rfl dX1_init_270 (fun _ _ hw531 => ?_)
  obtain ⟨σ532, e533⟩ : ∃ z, z = st σ523 a0 15 0 (nx σ504) := ⟨_, rfl⟩
  have h := h σ532 e533
  have hw531 := wc_e e533 hw531
  have ha534 := at_st ha527 e533 (by decide)
  have hk535 := ki_same hk528 (ki_e e533)
  have hg536 : tg σ532 a0 = -1 := (tg_e e533 (by decide)).trans hg529
  refine z_aload_n (pc := 273) K dX1_init_273 rfl (lv_at hl 0 rfl) ?_
  obtain ⟨hle537, h⟩ := h
  refine z_new (pc := 274) (t := 8) K hw531 (by decide) zq8 q448 q449 q100 (cr_fit hcr511 (u := 10) ⟨by decide, by decide⟩ hle537) dX1_init_274 (fun _ hw538 => ?_)
  have hcr539 := cr_new hcr511 (n := 10) (u := 10) ⟨by decide, by decide⟩ hle537
  obtain ⟨σ540, e541⟩ : ∃ z, z = nw σ532 8 := ⟨_, rfl⟩
  have h := h σ540 e541
  have hke542 : Ke σ532 σ540 := ke_nw hw531 e541
  have hz543 : tg σ (nx σ532) = 0 := z0_ki hk535 (by rw [hg536]; decide) hw531.1.fresh
  have hw538 := wc_e e541 hw538
  have ha544 := at_ke ha534 hke542 hg536 (by decide)
  have hk545 := ki_ke hk535 hke542
  have hg546 : tg σ540 a0 = -1 := ke_tg hke542 hg536 (by decide)
  have hg547 : tg σ540 (nx σ532) = (-8) := tg_nw e541
  refine lv_dup (pc := 277) K.x K.b dX1_init_277 (jR_cat _ _) ?_
  refine z_aload_n (pc := 278) K dX1_init_278 rfl (lv_at hl 0 rfl) ?_
  refine zc_v (pc := 279) (maxL := 2) K hw538 (met_X9_init X l σ540 (nx σ532) a0 hg547 hg546 _ h) (i_I (n := 1) (As := [jR X a0]) K (hw538.1.pos (by rw [hg547]; decide)).1 (by decide) rfl q450 q451 q452 rfl rfl dX1_init_279) (locw K q452 q100) (zr_ok2A (by decide) (by decide)) hl.1 dX1_init_279 (Nat.le_of_ble_eq_true rfl) (cr_le hcr539) (fun σ551 _ _ hq550 hw552 => ?_)
  obtain ⟨hk553, hg554, h⟩ := hq550
  have h := h hk553 hg554
  have ha555 := at_ki ha544 hk553 hg546 (by decide) hg547 (by decide)
  have hk556 := ki_ki hk545 hk553 hz543
  have hg557 : tg σ551 a0 = -1 := ki_tg hk553 hg546 (by decide) hg547 (by decide)
  have hg558 : tg σ551 (nx σ532) = -8 := hg554
  refine z_putrF (pc := 282) (t := 1) 16 K hw552 (by decide) hg557 zq1 (by decide) kf_1_16 zt_1_16 q534 (fun _ h => h) rfl hnm rfl dX1_init_282 (fun _ _ hw559 => ?_)
  obtain ⟨σ560, e561⟩ : ∃ z, z = st σ551 a0 16 0 (nx σ532) := ⟨_, rfl⟩
  have h := h σ560 e561
  have hw559 := wc_e e561 hw559
  have ha562 := at_st ha555 e561 (by decide)
  have hk563 := ki_same hk556 (ki_e e561)
  have hg564 : tg σ560 a0 = -1 := (tg_e e561 (by decide)).trans hg557
  refine z_aload_n (pc := 285) K dX1_init_285 rfl (lv_at hl 0 rfl) ?_
  refine z_bipush (pc := 286) K dX1_init_286 (by decide) ?_
  obtain ⟨hle565, h⟩ := h
  refine z_newa (pc := 288) (atype := .int) (κ := 1) (N' := 24) K hw559 (by decide) rfl (fun _ => rfl) q298 ⟨by decide, by decide⟩ rfl (by decide) (cr_fit hcr539 (u := 24) ⟨by decide, by decide⟩ hle565) dX1_init_288 (fun _ hw566 => ?_)
  have hcr567 := cr_new hcr539 (n := 24) (u := 24) ⟨by decide, by decide⟩ hle565
  obtain ⟨σ568, e569⟩ : ∃ z, z = na σ560 1 24 := ⟨_, rfl⟩
  have h := h σ568 e569
  have hke570 : Ke σ560 σ568 := ke_na hw559 e569
  have hz571 : tg σ (nx σ560) = 0 := z0_ki hk563 (by rw [hg564]; decide) hw559.1.fresh
  have hw566 := wc_e e569 hw566
  have ha572 := at_ke ha562 hke570 hg564 (by decide)
  have hk573 := ki_ke hk563 hke570
  have hg574 : tg σ568 a0 = -1 := ke_tg hke570 hg564 (by decide)
  have hg575 : tg σ568 (nx σ560) = 61 := tg_na e569
  have hln576 : σ568 (nx σ560) 1 0 = 24 := len_na e569
  refine z_putA (pc := 290) (t := 1) (k := 19) (κ := 1) K hw566 (by decide) hg574 zq1 (by decide) (by decide) kf_1_19 hg575 (hln576.trans kl_1_19.symm) q537 (fun _ h => h) rfl hnm rfl dX1_init_290 (fun _ _ hw577 => ?_)
  obtain ⟨σ578, e579⟩ : ∃ z, z = att σ568 a0 19 (nx σ560) := ⟨_, rfl⟩
  have h := h σ578 e579
  have ha580 := at_att ha572 e579 (hw566.1.pos (by rw [hg575]; decide)).1 hg574 hg575 (by decide)
  have hw577 := wc_e e579 hw577
  have hk581 := ki_att2 hk573 hz571 e579
  have hg582 : tg σ578 a0 = -1 := tg_att e579 (by decide) hg574 hg575 (by decide)
  refine z_aload_n (pc := 293) K dX1_init_293 rfl (lv_at hl 0 rfl) ?_
  refine z_bipush (pc := 294) K dX1_init_294 (by decide) ?_
  obtain ⟨hle583, h⟩ := h
  refine z_newa (pc := 296) (atype := .int) (κ := 1) (N' := 24) K hw577 (by decide) rfl (fun _ => rfl) q298 ⟨by decide, by decide⟩ rfl (by decide) (cr_fit hcr567 (u := 24) ⟨by decide, by decide⟩ hle583) dX1_init_296 (fun _ hw584 => ?_)
  have hcr585 := cr_new hcr567 (n := 24) (u := 24) ⟨by decide, by decide⟩ hle583
  obtain ⟨σ586, e587⟩ : ∃ z, z = na σ578 1 24 := ⟨_, rfl⟩
  have h := h σ586 e587
  have hke588 : Ke σ578 σ586 := ke_na hw577 e587
  have hz589 : tg σ (nx σ578) = 0 := z0_ki hk581 (by rw [hg582]; decide) hw577.1.fresh
  have hw584 := wc_e e587 hw584
  have ha590 := at_ke ha580 hke588 hg582 (by decide)
  have hk591 := ki_ke hk581 hke588
  have hg592 : tg σ586 a0 = -1 := ke_tg hke588 hg582 (by decide)
  have hg593 : tg σ586 (nx σ578) = 61 := tg_na e587
  have hln594 : σ586 (nx σ578) 1 0 = 24 := len_na e587
  refine z_putA (pc := 298) (t := 1) (k := 20) (κ := 1) K hw584 (by decide) hg592 zq1 (by decide) (by decide) kf_1_20 hg593 (hln594.trans kl_1_20.symm) q538 (fun _ h => h) rfl hnm rfl dX1_init_298 (fun _ _ hw595 => ?_)
  obtain ⟨σ596, e597⟩ : ∃ z, z = att σ586 a0 20 (nx σ578) := ⟨_, rfl⟩
  have h := h σ596 e597
  have ha598 := at_att ha590 e597 (hw584.1.pos (by rw [hg593]; decide)).1 hg592 hg593 (by decide)
  have hw595 := wc_e e597 hw595
  have hk599 := ki_att2 hk591 hz589 e597
  have hg600 : tg σ596 a0 = -1 := tg_att e597 (by decide) hg592 hg593 (by decide)
  refine z_aload_n (pc := 301) K dX1_init_301 rfl (lv_at hl 0 rfl) ?_
  refine z_bipush (pc := 302) K dX1_init_302 (by decide) ?_
  obtain ⟨hle601, h⟩ := h
  refine z_newa (pc := 304) (atype := .int) (κ := 1) (N' := 24) K hw595 (by decide) rfl (fun _ => rfl) q298 ⟨by decide, by decide⟩ rfl (by decide) (cr_fit hcr585 (u := 24) ⟨by decide, by decide⟩ hle601) dX1_init_304 (fun _ hw602 => ?_)
  have hcr603 := cr_new hcr585 (n := 24) (u := 24) ⟨by decide, by decide⟩ hle601
  obtain ⟨σ604, e605⟩ : ∃ z, z = na σ596 1 24 := ⟨_, rfl⟩
  have h := h σ604 e605
  have hke606 : Ke σ596 σ604 := ke_na hw595 e605
  have hz607 : tg σ (nx σ596) = 0 := z0_ki hk599 (by rw [hg600]; decide) hw595.1.fresh
  have hw602 := wc_e e605 hw602
  have ha608 := at_ke ha598 hke606 hg600 (by decide)
  have hk609 := ki_ke hk599 hke606
  have hg610 : tg σ604 a0 = -1 := ke_tg hke606 hg600 (by decide)
  have hg611 : tg σ604 (nx σ596) = 61 := tg_na e605
  have hln612 : σ604 (nx σ596) 1 0 = 24 := len_na e605
  refine z_putA (pc := 306) (t := 1) (k := 21) (κ := 1) K hw602 (by decide) hg610 zq1 (by decide) (by decide) kf_1_21 hg611 (hln612.trans kl_1_21.symm) q539 (fun _ h => h) rfl hnm rfl dX1_init_306 (fun _ _ hw613 => ?_)
  obtain ⟨σ614, e615⟩ : ∃ z, z = att σ604 a0 21 (nx σ596) := ⟨_, rfl⟩
  have h := h σ614 e615
  have ha616 := at_att ha608 e615 (hw602.1.pos (by rw [hg611]; decide)).1 hg610 hg611 (by decide)
  have hw613 := wc_e e615 hw613
  have hk617 := ki_att2 hk609 hz607 e615
  have hg618 : tg σ614 a0 = -1 := tg_att e615 (by decide) hg610 hg611 (by decide)
  refine z_aload_n (pc := 309) K dX1_init_309 rfl (lv_at hl 0 rfl) ?_
  refine z_iconst (pc := 310) K dX1_init_310 ?_
  refine z_puti (pc := 311) (t := 1) 25 K hw613 (obm (t := 1) hg618) zq1 (by decide) kf_1_25 zt_1_25 ⟨by decide, by decide⟩ q543 (fun _ h => h) rfl dX1_init_311 (fun _ _ hw619 => ?_)
  obtain ⟨σ620, e621⟩ : ∃ z, z = st σ614 a0 25 0 (-1) := ⟨_, rfl⟩
  have h := h σ620 e621
  have hw619 := wc_e e621 hw619
  have ha622 := at_st ha616 e621 (by decide)
  have hk623 := ki_same hk617 (ki_e e621)
  have hg624 : tg σ620 a0 = -1 := (tg_e e621 (by decide)).trans hg618
  refine z_aload_n (pc := 314) K dX1_init_314 rfl (lv_at hl 0 rfl) ?_
  refine z_bipush (pc := 315) K dX1_init_315 (by decide) ?_
  obtain ⟨hle625, h⟩ := h
  refine z_newa (pc := 317) (atype := .int) (κ := 1) (N' := 7) K hw619 (by decide) rfl (fun _ => rfl) q298 ⟨by decide, by decide⟩ rfl (by decide) (cr_fit hcr603 (u := 7) ⟨by decide, by decide⟩ hle625) dX1_init_317 (fun _ hw626 => ?_)
  have hcr627 := cr_new hcr603 (n := 7) (u := 7) ⟨by decide, by decide⟩ hle625
  obtain ⟨σ628, e629⟩ : ∃ z, z = na σ620 1 7 := ⟨_, rfl⟩
  have h := h σ628 e629
  have hke630 : Ke σ620 σ628 := ke_na hw619 e629
  have hz631 : tg σ (nx σ620) = 0 := z0_ki hk623 (by rw [hg624]; decide) hw619.1.fresh
  have hw626 := wc_e e629 hw626
  have ha632 := at_ke ha622 hke630 hg624 (by decide)
  have hk633 := ki_ke hk623 hke630
  have hg634 : tg σ628 a0 = -1 := ke_tg hke630 hg624 (by decide)
  have hg635 : tg σ628 (nx σ620) = 61 := tg_na e629
  have hln636 : σ628 (nx σ620) 1 0 = 7 := len_na e629
  refine z_putA (pc := 319) (t := 1) (k := 26) (κ := 1) K hw626 (by decide) hg634 zq1 (by decide) (by decide) kf_1_26 hg635 (hln636.trans kl_1_26.symm) q544 (fun _ h => h) rfl hnm rfl dX1_init_319 (fun _ _ hw637 => ?_)
  obtain ⟨σ638, e639⟩ : ∃ z, z = att σ628 a0 26 (nx σ620) := ⟨_, rfl⟩
  have h := h σ638 e639
  have ha640 := at_att ha632 e639 (hw626.1.pos (by rw [hg635]; decide)).1 hg634 hg635 (by decide)
  have hw637 := wc_e e639 hw637
  have hk641 := ki_att2 hk633 hz631 e639
  have hg642 : tg σ638 a0 = -1 := tg_att e639 (by decide) hg634 hg635 (by decide)
  refine z_aload_n (pc := 322) K dX1_init_322 rfl (lv_at hl 0 rfl) ?_
  refine z_bipush (pc := 323) K dX1_init_323 (by decide) ?_
  obtain ⟨hle643, h⟩ := h
  refine z_newa (pc := 325) (atype := .int) (κ := 1) (N' := 7) K hw637 (by decide) rfl (fun _ => rfl) q298 ⟨by decide, by decide⟩ rfl (by decide) (cr_fit hcr627 (u := 7) ⟨by decide, by decide⟩ hle643) dX1_init_325 (fun _ hw644 => ?_)
  have hcr645 := cr_new hcr627 (n := 7) (u := 7) ⟨by decide, by decide⟩ hle643
  obtain ⟨σ646, e647⟩ : ∃ z, z = na σ638 1 7 := ⟨_, rfl⟩
  have h := h σ646 e647
  have hke648 : Ke σ638 σ646 := ke_na hw637 e647
  have hz649 : tg σ (nx σ638) = 0 := z0_ki hk641 (by rw [hg642]; decide) hw637.1.fresh
  have hw644 := wc_e e647 hw644
  have ha650 := at_ke ha640 hke648 hg642 (by decide)
  have hk651 := ki_ke hk641 hke648
  have hg652 : tg σ646 a0 = -1 := ke_tg hke648 hg642 (by decide)
  have hg653 : tg σ646 (nx σ638) = 61 := tg_na e647
  have hln654 : σ646 (nx σ638) 1 0 = 7 := len_na e647
  refine z_putA (pc := 327) (t := 1) (k := 27) (κ := 1) K hw644 (by decide) hg652 zq1 (by decide) (by decide) kf_1_27 hg653 (hln654.trans kl_1_27.symm) q545 (fun _ h => h) rfl hnm rfl dX1_init_327 (fun _ _ hw655 => ?_)
  obtain ⟨σ656, e657⟩ : ∃ z, z = att σ646 a0 27 (nx σ638) := ⟨_, rfl⟩
  have h := h σ656 e657
  have ha658 := at_att ha650 e657 (hw644.1.pos (by rw [hg653]; decide)).1 hg652 hg653 (by decide)
  have hw655 := wc_e e657 hw655
  have hk659 := ki_att2 hk651 hz649 e657
  have hg660 : tg σ656 a0 = -1 := tg_att e657 (by decide) hg652 hg653 (by decide)
  refine z_aload_n (pc := 330) K dX1_init_330 rfl (lv_at hl 0 rfl) ?_
  refine z_bipush (pc := 331) K dX1_init_331 (by decide) ?_
  obtain ⟨hle661, h⟩ := h
  refine z_newa (pc := 333) (atype := .int) (κ := 1) (N' := 8) K hw655 (by decide) rfl (fun _ => rfl) q298 ⟨by decide, by decide⟩ rfl (by decide) (cr_fit hcr645 (u := 8) ⟨by decide, by decide⟩ hle661) dX1_init_333 (fun _ hw662 => ?_)
  have hcr663 := cr_new hcr645 (n := 8) (u := 8) ⟨by decide, by decide⟩ hle661
  obtain ⟨σ664, e665⟩ : ∃ z, z = na σ656 1 8 := ⟨_, rfl⟩
  have h := h σ664 e665
  have hke666 : Ke σ656 σ664 := ke_na hw655 e665
  have hz667 : tg σ (nx σ656) = 0 := z0_ki hk659 (by rw [hg660]; decide) hw655.1.fresh
  have hw662 := wc_e e665 hw662
  have ha668 := at_ke ha658 hke666 hg660 (by decide)
  have hk669 := ki_ke hk659 hke666
  have hg670 : tg σ664 a0 = -1 := ke_tg hke666 hg660 (by decide)
  have hg671 : tg σ664 (nx σ656) = 61 := tg_na e665
  have hln672 : σ664 (nx σ656) 1 0 = 8 := len_na e665
  refine z_putA (pc := 335) (t := 1) (k := 30) (κ := 1) K hw662 (by decide) hg670 zq1 (by decide) (by decide) kf_1_30 hg671 (hln672.trans kl_1_30.symm) q548 (fun _ h => h) rfl hnm rfl dX1_init_335 (fun _ _ hw673 => ?_)
  obtain ⟨σ674, e675⟩ : ∃ z, z = att σ664 a0 30 (nx σ656) := ⟨_, rfl⟩
  have h := h σ674 e675
  have ha676 := at_att ha668 e675 (hw662.1.pos (by rw [hg671]; decide)).1 hg670 hg671 (by decide)
  have hw673 := wc_e e675 hw673
  have hk677 := ki_att2 hk669 hz667 e675
  have hg678 : tg σ674 a0 = -1 := tg_att e675 (by decide) hg670 hg671 (by decide)
  refine z_aload_n (pc := 338) K dX1_init_338 rfl (lv_at hl 0 rfl) ?_
  obtain ⟨hle679, h⟩ := h
  refine z_new (pc := 339) (t := 9) K hw673 (by decide) zq9 q469 q470 q101 (cr_fit hcr663 (u := 12) ⟨by decide, by decide⟩ hle679) dX1_init_339 (fun _ hw680 => ?_)
  have hcr681 := cr_new hcr663 (n := 12) (u := 12) ⟨by decide, by decide⟩ hle679
  obtain ⟨σ682, e683⟩ : ∃ z, z = nw σ674 9 := ⟨_, rfl⟩
  have h := h σ682 e683
  have hke684 : Ke σ674 σ682 := ke_nw hw673 e683
  have hz685 : tg σ (nx σ674) = 0 := z0_ki hk677 (by rw [hg678]; decide) hw673.1.fresh
  have hw680 := wc_e e683 hw680
  have ha686 := at_ke ha676 hke684 hg678 (by decide)
  have hk687 := ki_ke hk677 hke684
  have hg688 : tg σ682 a0 = -1 := ke_tg hke684 hg678 (by decide)
  have hg689 : tg σ682 (nx σ674) = (-9) := tg_nw e683
  refine lv_dup (pc := 342) K.x K.b dX1_init_342 (jR_cat _ _) ?_
  refine z_aload_n (pc := 343) K dX1_init_343 rfl (lv_at hl 0 rfl) ?_
  refine zac_v (pc := 344) (maxL := 2) K hw680 (met_X10_init X l σ682 (nx σ674) a0 hg689 hg688 ((((((((((cr467 - 11) - 10) - 10) - 24) - 24) - 24) - 7) - 7) - 8) - 12) hcr681.2.2 _ h) (i_I (n := 1) (As := [jR X a0]) K (hw680.1.pos (by rw [hg689]; decide)).1 (by decide) rfl q471 q472 q473 rfl rfl dX1_init_344) (locw K q473 q101) (zr_ok2A (by decide) (by decide)) hl.1 dX1_init_344 (by simp [jR_cat, jI_cat, jL_cat]) hcr681 (Int.toNat_of_nonneg hcr681.2.2) ⟨Nat.le_refl _, Nat.le_refl _⟩ (fun σ693 _ _ _ _ cr695 hq692 hw694 hcr696 => ?_)
  obtain ⟨hk697, hg698, h⟩ := hq692
  have h := h hk697 hg698
  have ha699 := at_ki ha686 hk697 hg688 (by decide) hg689 (by decide)
  have hk700 := ki_ki hk687 hk697 hz685
  have hg701 : tg σ693 a0 = -1 := ki_tg hk697 hg688 (by decide) hg689 (by decide)
  have hg702 : tg σ693 (nx σ674) = -9 := hg698
  refine z_putrF (pc := 347) (t := 1) 33 K hw694 (by decide) hg701 zq1 (by decide) kf_1_33 zt_1_33 q551 (fun _ h => h) rfl hnm rfl dX1_init_347 (fun _ _ hw703 => ?_)
  obtain ⟨σ704, e705⟩ : ∃ z, z = st σ693 a0 33 0 (nx σ674) := ⟨_, rfl⟩
  have h := h σ704 e705
  have hw703 := wc_e e705 hw703
  have ha706 := at_st ha699 e705 (by decide)
  have hk707 := ki_same hk700 (ki_e e705)
  have hg708 : tg σ704 a0 = -1 := (tg_e e705 (by decide)).trans hg701
  refine z_aload_n (pc := 350) K dX1_init_350 rfl (lv_at hl 0 rfl) ?_
  refine z_iconst (pc := 351) K dX1_init_351 ?_
  obtain ⟨hle709, h⟩ := h
  refine z_anew (pc := 352) (κ := 7) (N' := 2) K hw703 ⟨by decide, by decide⟩ rfl q225 q505 ⟨by decide, by decide⟩ rfl (cr_fit hcr696 (u := 2) ⟨by decide, by decide⟩ hle709) dX1_init_352 (fun _ hw710 => ?_)
  have hcr711 := cr_new hcr696 (n := 2) (u := 2) ⟨by decide, by decide⟩ hle709
  obtain ⟨σ712, e713⟩ : ∃ z, z = na σ704 7 2 := ⟨_, rfl⟩
  have h := h σ712 e713
  have hke714 : Ke σ704 σ712 := ke_na hw703 e713
  have hz715 : tg σ (nx σ704) = 0 := z0_ki hk707 (by rw [hg708]; decide) hw703.1.fresh
  have hw710 := wc_e e713 hw710
  have ha716 := at_ke ha706 hke714 hg708 (by decide)
  have hk717 := ki_ke hk707 hke714
  have hg718 : tg σ712 a0 = -1 := ke_tg hke714 hg708 (by decide)
  have hg719 : tg σ712 (nx σ704) = 67 := tg_na e713
  have hln720 : σ712 (nx σ704) 1 0 = 2 := len_na e713
  refine z_putA (pc := 355) (t := 1) (k := 35) (κ := 7) K hw710 (by decide) hg718 zq1 (by decide) (by decide) kf_1_35 hg719 (hln720.trans kl_1_35.symm) q553 (fun _ h => h) rfl hnm rfl dX1_init_355 (fun _ _ hw721 => ?_)
  obtain ⟨σ722, e723⟩ : ∃ z, z = att σ712 a0 35 (nx σ704) := ⟨_, rfl⟩
  have h := h σ722 e723
  have ha724 := at_att ha716 e723 (hw710.1.pos (by rw [hg719]; decide)).1 hg718 hg719 (by decide)
  have hw721 := wc_e e723 hw721
  have hk725 := ki_att2 hk717 hz715 e723
  have hg726 : tg σ722 a0 = -1 := tg_att e723 (by decide) hg718 hg719 (by decide)
  refine z_aload_n (pc := 358) K dX1_init_358 rfl (lv_at hl 0 rfl) ?_
  refine z_iconst (pc := 359) K dX1_init_359 ?_
  obtain ⟨hle727, h⟩ := h
  refine z_anew (pc := 360) (κ := 8) (N' := 2) K hw721 ⟨by decide, by decide⟩ rfl q347 q506 ⟨by decide, by decide⟩ rfl (cr_fit hcr711 (u := 2) ⟨by decide, by decide⟩ hle727) dX1_init_360 (fun _ hw728 => ?_)
  have hcr729 := cr_new hcr711 (n := 2) (u := 2) ⟨by decide, by decide⟩ hle727
  obtain ⟨σ730, e731⟩ : ∃ z, z = na σ722 8 2 := ⟨_, rfl⟩
  have h := h σ730 e731
  have hke732 : Ke σ722 σ730 := ke_na hw721 e731
  have hz733 : tg σ (nx σ722) = 0 := z0_ki hk725 (by rw [hg726]; decide) hw721.1.fresh
  have hw728 := wc_e e731 hw728
  have ha734 := at_ke ha724 hke732 hg726 (by decide)
  have hk735 := ki_ke hk725 hke732
  have hg736 : tg σ730 a0 = -1 := ke_tg hke732 hg726 (by decide)
  have hg737 : tg σ730 (nx σ722) = 68 := tg_na e731
  have hln738 : σ730 (nx σ722) 1 0 = 2 := len_na e731
  refine z_putA (pc := 363) (t := 1) (k := 36) (κ := 8) K hw728 (by decide) hg736 zq1 (by decide) (by decide) kf_1_36 hg737 (hln738.trans kl_1_36.symm) q554 (fun _ h => h) rfl hnm rfl dX1_init_363 (fun _ _ hw739 => ?_)
  obtain ⟨σ740, e741⟩ : ∃ z, z = att σ730 a0 36 (nx σ722) := ⟨_, rfl⟩
  have h := h σ740 e741
  have ha742 := at_att ha734 e741 (hw728.1.pos (by rw [hg737]; decide)).1 hg736 hg737 (by decide)
  have hw739 := wc_e e741 hw739
  have hk743 := ki_att2 hk735 hz733 e741
  have hg744 : tg σ740 a0 = -1 := tg_att e741 (by decide) hg736 hg737 (by decide)
  refine z_aload_n (pc := 366) K dX1_init_366 rfl (lv_at hl 0 rfl) ?_
  refine z_iconst (pc := 367) K dX1_init_367 ?_
  obtain ⟨hle745, h⟩ := h
  refine z_anew (pc := 368) (κ := 9) (N' := 2) K hw739 ⟨by decide, by decide⟩ rfl q507 q508 ⟨by decide, by decide⟩ rfl (cr_fit hcr729 (u := 2) ⟨by decide, by decide⟩ hle745) dX1_init_368 (fun _ hw746 => ?_)
  have hcr747 := cr_new hcr729 (n := 2) (u := 2) ⟨by decide, by decide⟩ hle745
  obtain ⟨σ748, e749⟩ : ∃ z, z = na σ740 9 2 := ⟨_, rfl⟩
  have h := h σ748 e749
  have hke750 : Ke σ740 σ748 := ke_na hw739 e749
  have hz751 : tg σ (nx σ740) = 0 := z0_ki hk743 (by rw [hg744]; decide) hw739.1.fresh
  have hw746 := wc_e e749 hw746
  have ha752 := at_ke ha742 hke750 hg744 (by decide)
  have hk753 := ki_ke hk743 hke750
  have hg754 : tg σ748 a0 = -1 := ke_tg hke750 hg744 (by decide)
  have hg755 : tg σ748 (nx σ740) = 69 := tg_na e749
  have hln756 : σ748 (nx σ740) 1 0 = 2 := len_na e749
  refine z_putA (pc := 371) (t := 1) (k := 37) (κ := 9) K hw746 (by decide) hg754 zq1 (by decide) (by decide) kf_1_37 hg755 (hln756.trans kl_1_37.symm) q555 (fun _ h => h) rfl hnm rfl dX1_init_371 (fun _ _ hw757 => ?_)
  obtain ⟨σ758, e759⟩ : ∃ z, z = att σ748 a0 37 (nx σ740) := ⟨_, rfl⟩
  have h := h σ758 e759
  have ha760 := at_att ha752 e759 (hw746.1.pos (by rw [hg755]; decide)).1 hg754 hg755 (by decide)
  have hw757 := wc_e e759 hw757
  have hk761 := ki_att2 hk753 hz751 e759
  have hg762 : tg σ758 a0 = -1 := tg_att e759 (by decide) hg754 hg755 (by decide)
  obtain ⟨hs765, hx768, h⟩ := h
  obtain ⟨σ763, e764⟩ : ∃ z, z = sealz σ758 [a0, σ758 a0 14 0, σ758 a0 15 0, σ758 a0 16 0, σ758 a0 33 0] := ⟨_, rfl⟩
  have h := h σ763 e764
  have hw769 := wc_seal hw757 e764 hs765
  have hk766 := ki_seal hk761 e764 hx768
  have hg767 : tg σ763 a0 = 1 := tg_seal e764 hg762 List.mem_cons_self
  exact za_vret (pc := 374) K hw769 hcr747 ⟨hk766, hg767, h⟩ dX1_init_374
