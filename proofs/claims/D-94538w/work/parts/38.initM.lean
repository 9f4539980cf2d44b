/-! printed by gen/walk2.py -/
set_option maxRecDepth 100000
def wp_X11_init (σ : St) (a0 : Int) (cr : Int) (Q : St → Int → Prop) : Prop :=
  940 ≤ cr ∧ ∀ σ4 : St, σ4 = na σ 1 940 → ∀ σ14 : St, σ14 = att σ4 a0 1 (nx σ) → 1152 ≤ (cr - 940) ∧ ∀ σ22 : St, σ22 = na σ14 1 1152 → ∀ σ32 : St, σ32 = att σ22 a0 14 (nx σ14) → 60 ≤ ((cr - 940) - 1152) ∧ ∀ σ40 : St, σ40 = na σ32 1 60 → ∀ σ50 : St, σ50 = att σ40 a0 15 (nx σ32) → 2304 ≤ (((cr - 940) - 1152) - 60) ∧ ∀ σ58 : St, σ58 = na σ50 1 2304 → ∀ σ68 : St, σ68 = att σ58 a0 16 (nx σ50) → 800 ≤ ((((cr - 940) - 1152) - 60) - 2304) ∧ ∀ σ76 : St, σ76 = na σ68 1 800 → ∀ σ86 : St, σ86 = att σ76 a0 17 (nx σ68) → 18 ≤ (((((cr - 940) - 1152) - 60) - 2304) - 800) ∧ ∀ σ94 : St, σ94 = na σ86 2 18 → ∀ σ104 : St, σ104 = att σ94 a0 18 (nx σ86) → 18 ≤ ((((((cr - 940) - 1152) - 60) - 2304) - 800) - 18) ∧ ∀ σ112 : St, σ112 = na σ104 2 18 → ∀ σ122 : St, σ122 = att σ112 a0 19 (nx σ104) → 36 ≤ (((((((cr - 940) - 1152) - 60) - 2304) - 800) - 18) - 18) ∧ ∀ σ130 : St, σ130 = na σ122 2 36 → ∀ σ140 : St, σ140 = att σ130 a0 20 (nx σ122) → 2 ≤ ((((((((cr - 940) - 1152) - 60) - 2304) - 800) - 18) - 18) - 36) ∧ ∀ σ148 : St, σ148 = na σ140 3 2 → ∀ σ158 : St, σ158 = att σ148 a0 21 (nx σ140) → 120 ≤ (((((((((cr - 940) - 1152) - 60) - 2304) - 800) - 18) - 18) - 36) - 2) ∧ ∀ σ166 : St, σ166 = na σ158 1 120 → ∀ σ176 : St, σ176 = att σ166 a0 22 (nx σ158) → 800 ≤ ((((((((((cr - 940) - 1152) - 60) - 2304) - 800) - 18) - 18) - 36) - 2) - 120) ∧ ∀ σ184 : St, σ184 = na σ176 1 800 → ∀ σ194 : St, σ194 = att σ184 a0 23 (nx σ176) → 800 ≤ (((((((((((cr - 940) - 1152) - 60) - 2304) - 800) - 18) - 18) - 36) - 2) - 120) - 800) ∧ ∀ σ202 : St, σ202 = na σ194 1 800 → ∀ σ212 : St, σ212 = att σ202 a0 24 (nx σ194) → 800 ≤ ((((((((((((cr - 940) - 1152) - 60) - 2304) - 800) - 18) - 18) - 36) - 2) - 120) - 800) - 800) ∧ ∀ σ220 : St, σ220 = na σ212 1 800 → ∀ σ230 : St, σ230 = att σ220 a0 25 (nx σ212) → 800 ≤ (((((((((((((cr - 940) - 1152) - 60) - 2304) - 800) - 18) - 18) - 36) - 2) - 120) - 800) - 800) - 800) ∧ ∀ σ238 : St, σ238 = na σ230 1 800 → ∀ σ248 : St, σ248 = att σ238 a0 26 (nx σ230) → 800 ≤ ((((((((((((((cr - 940) - 1152) - 60) - 2304) - 800) - 18) - 18) - 36) - 2) - 120) - 800) - 800) - 800) - 800) ∧ ∀ σ256 : St, σ256 = na σ248 1 800 → ∀ σ266 : St, σ266 = att σ256 a0 27 (nx σ248) → 800 ≤ (((((((((((((((cr - 940) - 1152) - 60) - 2304) - 800) - 18) - 18) - 36) - 2) - 120) - 800) - 800) - 800) - 800) - 800) ∧ ∀ σ274 : St, σ274 = na σ266 1 800 → ∀ σ284 : St, σ284 = att σ274 a0 28 (nx σ266) → 2 ≤ ((((((((((((((((cr - 940) - 1152) - 60) - 2304) - 800) - 18) - 18) - 36) - 2) - 120) - 800) - 800) - 800) - 800) - 800) - 800) ∧ ∀ σ292 : St, σ292 = na σ284 1 2 → ∀ σ302 : St, σ302 = att σ292 a0 29 (nx σ284) → 2 ≤ (((((((((((((((((cr - 940) - 1152) - 60) - 2304) - 800) - 18) - 18) - 36) - 2) - 120) - 800) - 800) - 800) - 800) - 800) - 800) - 2) ∧ ∀ σ310 : St, σ310 = na σ302 1 2 → ∀ σ320 : St, σ320 = att σ310 a0 30 (nx σ302) → 48 ≤ ((((((((((((((((((cr - 940) - 1152) - 60) - 2304) - 800) - 18) - 18) - 36) - 2) - 120) - 800) - 800) - 800) - 800) - 800) - 800) - 2) - 2) ∧ ∀ σ328 : St, σ328 = na σ320 1 48 → ∀ σ338 : St, σ338 = att σ328 a0 35 (nx σ320) → 24 ≤ (((((((((((((((((((cr - 940) - 1152) - 60) - 2304) - 800) - 18) - 18) - 36) - 2) - 120) - 800) - 800) - 800) - 800) - 800) - 800) - 2) - 2) - 48) ∧ ∀ σ346 : St, σ346 = na σ338 1 24 → ∀ σ356 : St, σ356 = att σ346 a0 36 (nx σ338) → 24 ≤ ((((((((((((((((((((cr - 940) - 1152) - 60) - 2304) - 800) - 18) - 18) - 36) - 2) - 120) - 800) - 800) - 800) - 800) - 800) - 800) - 2) - 2) - 48) - 24) ∧ ∀ σ364 : St, σ364 = na σ356 1 24 → ∀ σ374 : St, σ374 = att σ364 a0 37 (nx σ356) → 24 ≤ (((((((((((((((((((((cr - 940) - 1152) - 60) - 2304) - 800) - 18) - 18) - 36) - 2) - 120) - 800) - 800) - 800) - 800) - 800) - 800) - 2) - 2) - 48) - 24) - 24) ∧ ∀ σ382 : St, σ382 = na σ374 1 24 → ∀ σ392 : St, σ392 = att σ382 a0 38 (nx σ374) → 24 ≤ ((((((((((((((((((((((cr - 940) - 1152) - 60) - 2304) - 800) - 18) - 18) - 36) - 2) - 120) - 800) - 800) - 800) - 800) - 800) - 800) - 2) - 2) - 48) - 24) - 24) - 24) ∧ ∀ σ400 : St, σ400 = na σ392 1 24 → ∀ σ410 : St, σ410 = att σ400 a0 39 (nx σ392) → 24 ≤ (((((((((((((((((((((((cr - 940) - 1152) - 60) - 2304) - 800) - 18) - 18) - 36) - 2) - 120) - 800) - 800) - 800) - 800) - 800) - 800) - 2) - 2) - 48) - 24) - 24) - 24) - 24) ∧ ∀ σ418 : St, σ418 = na σ410 1 24 → ∀ σ428 : St, σ428 = att σ418 a0 40 (nx σ410) → 24 ≤ ((((((((((((((((((((((((cr - 940) - 1152) - 60) - 2304) - 800) - 18) - 18) - 36) - 2) - 120) - 800) - 800) - 800) - 800) - 800) - 800) - 2) - 2) - 48) - 24) - 24) - 24) - 24) - 24) ∧ ∀ σ436 : St, σ436 = na σ428 1 24 → ∀ σ446 : St, σ446 = att σ436 a0 41 (nx σ428) → ∀ σ452 : St, σ452 = st σ446 a0 45 0 (-1) → 7 ≤ (((((((((((((((((((((((((cr - 940) - 1152) - 60) - 2304) - 800) - 18) - 18) - 36) - 2) - 120) - 800) - 800) - 800) - 800) - 800) - 800) - 2) - 2) - 48) - 24) - 24) - 24) - 24) - 24) - 24) ∧ ∀ σ460 : St, σ460 = na σ452 1 7 → ∀ σ470 : St, σ470 = att σ460 a0 46 (nx σ452) → 7 ≤ ((((((((((((((((((((((((((cr - 940) - 1152) - 60) - 2304) - 800) - 18) - 18) - 36) - 2) - 120) - 800) - 800) - 800) - 800) - 800) - 800) - 2) - 2) - 48) - 24) - 24) - 24) - 24) - 24) - 24) - 7) ∧ ∀ σ478 : St, σ478 = na σ470 1 7 → ∀ σ488 : St, σ488 = att σ478 a0 47 (nx σ470) → 8 ≤ (((((((((((((((((((((((((((cr - 940) - 1152) - 60) - 2304) - 800) - 18) - 18) - 36) - 2) - 120) - 800) - 800) - 800) - 800) - 800) - 800) - 2) - 2) - 48) - 24) - 24) - 24) - 24) - 24) - 24) - 7) - 7) ∧ ∀ σ496 : St, σ496 = na σ488 1 8 → ∀ σ506 : St, σ506 = att σ496 a0 50 (nx σ488) → 8 ≤ ((((((((((((((((((((((((((((cr - 940) - 1152) - 60) - 2304) - 800) - 18) - 18) - 36) - 2) - 120) - 800) - 800) - 800) - 800) - 800) - 800) - 2) - 2) - 48) - 24) - 24) - 24) - 24) - 24) - 24) - 7) - 7) - 8) ∧ ∀ σ514 : St, σ514 = na σ506 1 8 → ∀ σ524 : St, σ524 = att σ514 a0 51 (nx σ506) → 240 ≤ (((((((((((((((((((((((((((((cr - 940) - 1152) - 60) - 2304) - 800) - 18) - 18) - 36) - 2) - 120) - 800) - 800) - 800) - 800) - 800) - 800) - 2) - 2) - 48) - 24) - 24) - 24) - 24) - 24) - 24) - 7) - 7) - 8) - 8) ∧ ∀ σ532 : St, σ532 = na σ524 1 240 → ∀ σ542 : St, σ542 = att σ532 a0 53 (nx σ524) → RefOk (sealz σ542 [a0]) a0 10 ∧ ∀ σ547 : St, σ547 = sealz σ542 [a0] → Q σ547 ((((((((((((((((((((((((((((((cr - 940) - 1152) - 60) - 2304) - 800) - 18) - 18) - 36) - 2) - 120) - 800) - 800) - 800) - 800) - 800) - 800) - 2) - 2) - 48) - 24) - 24) - 24) - 24) - 24) - 24) - 7) - 7) - 8) - 8) - 240)
set_option maxHeartbeats 4000000 in
theorem met_X11_init (X : Cxt) (l : Launch) (σ : St) (a0 : Int) (ht0 : tg σ a0 = (-10)) (cr : Int) (hcr0 : 0 ≤ cr) (Q : St → Int → Prop) (h : wp_X11_init σ a0 cr Q) : MetA X l yX11_init (ws_ yX11_init cX11_init 1 (none)) 2 cr.toNat (ZP X σ [jR X a0]) (qVA (fun σ' cr => Ki a0 σ σ' ∧ tg σ' a0 = 10 ∧ Q σ' cr)) (fun _ _ _ => False) := by
  have hcr : Cr cr.toNat 0 0 cr := by unfold Cr; omega
  refine z_startA (own := "CombTableModel") (lv := [(0, jR X a0)]) (by decide) rfl (by simp [lv_args, jR_cat, jI_cat, jL_cat]) (by simp [lg_sl, jR_cat, jI_cat, jL_cat]) (fun p e s m below meth c ls _ K _ hnm hw hl => ?_)
  have hk : Ki a0 σ σ := ki_rf σ
  have hat : AtF σ a0 [] := fun _ h => absurd h List.not_mem_nil
  refine z_aload_n (pc := 0) K dX11_init_0 rfl (lv_at hl 0 rfl) ?_
  refine z_objI (pc := 1) K (hw.1.pos (by rw [ht0]; decide)).1 q1410 q127 q128 hl.1 (zr_ok3A (by decide) (by decide)) (by decide) dX11_init_1 ?_
  refine z_aload_n (pc := 4) K dX11_init_4 rfl (lv_at hl 0 rfl) ?_
  refine z_sipush (pc := 5) K dX11_init_5 (by decide) ?_
  obtain ⟨hle1, h⟩ := h
  refine z_newa (pc := 8) (atype := .int) (κ := 1) (N' := 940) K hw (by decide) rfl (fun _ => rfl) q298 ⟨by decide, by decide⟩ rfl (by decide) (cr_fit hcr (u := 940) ⟨by decide, by decide⟩ hle1) dX11_init_8 (fun _ hw2 => ?_)
  have hcr3 := cr_new hcr (n := 940) (u := 940) ⟨by decide, by decide⟩ hle1
  obtain ⟨σ4, e5⟩ : ∃ z, z = na σ 1 940 := ⟨_, rfl⟩
  have h := h σ4 e5
  have hke6 : Ke σ σ4 := ke_na hw e5
  have hz7 : tg σ (nx σ) = 0 := z0_ki hk (by rw [ht0]; decide) hw.1.fresh
  have hw2 := wc_e e5 hw2
  have ha8 := at_ke hat hke6 ht0 (by decide)
  have hk9 := ki_ke hk hke6
  have hg10 : tg σ4 a0 = -10 := ke_tg hke6 ht0 (by decide)
  have hg11 : tg σ4 (nx σ) = 61 := tg_na e5
  have hln12 : σ4 (nx σ) 1 0 = 940 := len_na e5
  refine z_putA (pc := 10) (t := 10) (k := 1) (κ := 1) K hw2 (by decide) hg10 zq10 (by decide) (by decide) kf_10_1 hg11 (hln12.trans kl_10_1.symm) q1412 (fun _ h => h) rfl hnm rfl dX11_init_10 (fun _ _ hw13 => ?_)
  obtain ⟨σ14, e15⟩ : ∃ z, z = att σ4 a0 1 (nx σ) := ⟨_, rfl⟩
  have h := h σ14 e15
  have ha16 := at_att ha8 e15 (hw2.1.pos (by rw [hg11]; decide)).1 hg10 hg11 (by decide)
  have hw13 := wc_e e15 hw13
  have hk17 := ki_att2 hk9 hz7 e15
  have hg18 : tg σ14 a0 = -10 := tg_att e15 (by decide) hg10 hg11 (by decide)
  refine z_aload_n (pc := 13) K dX11_init_13 rfl (lv_at hl 0 rfl) ?_
  refine z_sipush (pc := 14) K dX11_init_14 (by decide) ?_
  obtain ⟨hle19, h⟩ := h
  refine z_newa (pc := 17) (atype := .int) (κ := 1) (N' := 1152) K hw13 (by decide) rfl (fun _ => rfl) q298 ⟨by decide, by decide⟩ rfl (by decide) (cr_fit hcr3 (u := 1152) ⟨by decide, by decide⟩ hle19) dX11_init_17 (fun _ hw20 => ?_)
  have hcr21 := cr_new hcr3 (n := 1152) (u := 1152) ⟨by decide, by decide⟩ hle19
  obtain ⟨σ22, e23⟩ : ∃ z, z = na σ14 1 1152 := ⟨_, rfl⟩
  have h := h σ22 e23
  have hke24 : Ke σ14 σ22 := ke_na hw13 e23
  have hz25 : tg σ (nx σ14) = 0 := z0_ki hk17 (by rw [hg18]; decide) hw13.1.fresh
  have hw20 := wc_e e23 hw20
  have ha26 := at_ke ha16 hke24 hg18 (by decide)
  have hk27 := ki_ke hk17 hke24
  have hg28 : tg σ22 a0 = -10 := ke_tg hke24 hg18 (by decide)
  have hg29 : tg σ22 (nx σ14) = 61 := tg_na e23
  have hln30 : σ22 (nx σ14) 1 0 = 1152 := len_na e23
  refine z_putA (pc := 19) (t := 10) (k := 14) (κ := 1) K hw20 (by decide) hg28 zq10 (by decide) (by decide) kf_10_14 hg29 (hln30.trans kl_10_14.symm) q1425 (fun _ h => h) rfl hnm rfl dX11_init_19 (fun _ _ hw31 => ?_)
  obtain ⟨σ32, e33⟩ : ∃ z, z = att σ22 a0 14 (nx σ14) := ⟨_, rfl⟩
  have h := h σ32 e33
  have ha34 := at_att ha26 e33 (hw20.1.pos (by rw [hg29]; decide)).1 hg28 hg29 (by decide)
  have hw31 := wc_e e33 hw31
  have hk35 := ki_att2 hk27 hz25 e33
  have hg36 : tg σ32 a0 = -10 := tg_att e33 (by decide) hg28 hg29 (by decide)
  refine z_aload_n (pc := 22) K dX11_init_22 rfl (lv_at hl 0 rfl) ?_
  refine z_bipush (pc := 23) K dX11_init_23 (by decide) ?_
  obtain ⟨hle37, h⟩ := h
  refine z_newa (pc := 25) (atype := .int) (κ := 1) (N' := 60) K hw31 (by decide) rfl (fun _ => rfl) q298 ⟨by decide, by decide⟩ rfl (by decide) (cr_fit hcr21 (u := 60) ⟨by decide, by decide⟩ hle37) dX11_init_25 (fun _ hw38 => ?_)
  have hcr39 := cr_new hcr21 (n := 60) (u := 60) ⟨by decide, by decide⟩ hle37
  obtain ⟨σ40, e41⟩ : ∃ z, z = na σ32 1 60 := ⟨_, rfl⟩
  have h := h σ40 e41
  have hke42 : Ke σ32 σ40 := ke_na hw31 e41
  have hz43 : tg σ (nx σ32) = 0 := z0_ki hk35 (by rw [hg36]; decide) hw31.1.fresh
  have hw38 := wc_e e41 hw38
  have ha44 := at_ke ha34 hke42 hg36 (by decide)
  have hk45 := ki_ke hk35 hke42
  have hg46 : tg σ40 a0 = -10 := ke_tg hke42 hg36 (by decide)
  have hg47 : tg σ40 (nx σ32) = 61 := tg_na e41
  have hln48 : σ40 (nx σ32) 1 0 = 60 := len_na e41
  refine z_putA (pc := 27) (t := 10) (k := 15) (κ := 1) K hw38 (by decide) hg46 zq10 (by decide) (by decide) kf_10_15 hg47 (hln48.trans kl_10_15.symm) q1426 (fun _ h => h) rfl hnm rfl dX11_init_27 (fun _ _ hw49 => ?_)
  obtain ⟨σ50, e51⟩ : ∃ z, z = att σ40 a0 15 (nx σ32) := ⟨_, rfl⟩
  have h := h σ50 e51
  have ha52 := at_att ha44 e51 (hw38.1.pos (by rw [hg47]; decide)).1 hg46 hg47 (by decide)
  have hw49 := wc_e e51 hw49
  have hk53 := ki_att2 hk45 hz43 e51
  have hg54 : tg σ50 a0 = -10 := tg_att e51 (by decide) hg46 hg47 (by decide)
  refine z_aload_n (pc := 30) K dX11_init_30 rfl (lv_at hl 0 rfl) ?_
  refine z_sipush (pc := 31) K dX11_init_31 (by decide) ?_
  obtain ⟨hle55, h⟩ := h
  refine z_newa (pc := 34) (atype := .int) (κ := 1) (N' := 2304) K hw49 (by decide) rfl (fun _ => rfl) q298 ⟨by decide, by decide⟩ rfl (by decide) (cr_fit hcr39 (u := 2304) ⟨by decide, by decide⟩ hle55) dX11_init_34 (fun _ hw56 => ?_)
  have hcr57 := cr_new hcr39 (n := 2304) (u := 2304) ⟨by decide, by decide⟩ hle55
  obtain ⟨σ58, e59⟩ : ∃ z, z = na σ50 1 2304 := ⟨_, rfl⟩
  have h := h σ58 e59
  have hke60 : Ke σ50 σ58 := ke_na hw49 e59
  have hz61 : tg σ (nx σ50) = 0 := z0_ki hk53 (by rw [hg54]; decide) hw49.1.fresh
  have hw56 := wc_e e59 hw56
  have ha62 := at_ke ha52 hke60 hg54 (by decide)
  have hk63 := ki_ke hk53 hke60
  have hg64 : tg σ58 a0 = -10 := ke_tg hke60 hg54 (by decide)
  have hg65 : tg σ58 (nx σ50) = 61 := tg_na e59
  have hln66 : σ58 (nx σ50) 1 0 = 2304 := len_na e59
  refine z_putA (pc := 36) (t := 10) (k := 16) (κ := 1) K hw56 (by decide) hg64 zq10 (by decide) (by decide) kf_10_16 hg65 (hln66.trans kl_10_16.symm) q1427 (fun _ h => h) rfl hnm rfl dX11_init_36 (fun _ _ hw67 => ?_)
  obtain ⟨σ68, e69⟩ : ∃ z, z = att σ58 a0 16 (nx σ50) := ⟨_, rfl⟩
  have h := h σ68 e69
  have ha70 := at_att ha62 e69 (hw56.1.pos (by rw [hg65]; decide)).1 hg64 hg65 (by decide)
  have hw67 := wc_e e69 hw67
  have hk71 := ki_att2 hk63 hz61 e69
  have hg72 : tg σ68 a0 = -10 := tg_att e69 (by decide) hg64 hg65 (by decide)
  refine z_aload_n (pc := 39) K dX11_init_39 rfl (lv_at hl 0 rfl) ?_
  refine z_sipush (pc := 40) K dX11_init_40 (by decide) ?_
  obtain ⟨hle73, h⟩ := h
  refine z_newa (pc := 43) (atype := .int) (κ := 1) (N' := 800) K hw67 (by decide) rfl (fun _ => rfl) q298 ⟨by decide, by decide⟩ rfl (by decide) (cr_fit hcr57 (u := 800) ⟨by decide, by decide⟩ hle73) dX11_init_43 (fun _ hw74 => ?_)
  have hcr75 := cr_new hcr57 (n := 800) (u := 800) ⟨by decide, by decide⟩ hle73
  obtain ⟨σ76, e77⟩ : ∃ z, z = na σ68 1 800 := ⟨_, rfl⟩
  have h := h σ76 e77
  have hke78 : Ke σ68 σ76 := ke_na hw67 e77
  have hz79 : tg σ (nx σ68) = 0 := z0_ki hk71 (by rw [hg72]; decide) hw67.1.fresh
  have hw74 := wc_e e77 hw74
  have ha80 := at_ke ha70 hke78 hg72 (by decide)
  have hk81 := ki_ke hk71 hke78
  have hg82 : tg σ76 a0 = -10 := ke_tg hke78 hg72 (by decide)
  have hg83 : tg σ76 (nx σ68) = 61 := tg_na e77
  have hln84 : σ76 (nx σ68) 1 0 = 800 := len_na e77
  refine z_putA (pc := 45) (t := 10) (k := 17) (κ := 1) K hw74 (by decide) hg82 zq10 (by decide) (by decide) kf_10_17 hg83 (hln84.trans kl_10_17.symm) q1428 (fun _ h => h) rfl hnm rfl dX11_init_45 (fun _ _ hw85 => ?_)
  obtain ⟨σ86, e87⟩ : ∃ z, z = att σ76 a0 17 (nx σ68) := ⟨_, rfl⟩
  have h := h σ86 e87
  have ha88 := at_att ha80 e87 (hw74.1.pos (by rw [hg83]; decide)).1 hg82 hg83 (by decide)
  have hw85 := wc_e e87 hw85
  have hk89 := ki_att2 hk81 hz79 e87
  have hg90 : tg σ86 a0 = -10 := tg_att e87 (by decide) hg82 hg83 (by decide)
  refine z_aload_n (pc := 48) K dX11_init_48 rfl (lv_at hl 0 rfl) ?_
  refine z_bipush (pc := 49) K dX11_init_49 (by decide) ?_
  obtain ⟨hle91, h⟩ := h
  refine z_newa (pc := 51) (atype := .long) (κ := 2) (N' := 18) K hw85 (by decide) rfl (fun _ => rfl) q1586 ⟨by decide, by decide⟩ rfl (by decide) (cr_fit hcr75 (u := 18) ⟨by decide, by decide⟩ hle91) dX11_init_51 (fun _ hw92 => ?_)
  have hcr93 := cr_new hcr75 (n := 18) (u := 18) ⟨by decide, by decide⟩ hle91
  obtain ⟨σ94, e95⟩ : ∃ z, z = na σ86 2 18 := ⟨_, rfl⟩
  have h := h σ94 e95
  have hke96 : Ke σ86 σ94 := ke_na hw85 e95
  have hz97 : tg σ (nx σ86) = 0 := z0_ki hk89 (by rw [hg90]; decide) hw85.1.fresh
  have hw92 := wc_e e95 hw92
  have ha98 := at_ke ha88 hke96 hg90 (by decide)
  have hk99 := ki_ke hk89 hke96
  have hg100 : tg σ94 a0 = -10 := ke_tg hke96 hg90 (by decide)
  have hg101 : tg σ94 (nx σ86) = 62 := tg_na e95
  have hln102 : σ94 (nx σ86) 1 0 = 18 := len_na e95
  refine z_putA (pc := 53) (t := 10) (k := 18) (κ := 2) K hw92 (by decide) hg100 zq10 (by decide) (by decide) kf_10_18 hg101 (hln102.trans kl_10_18.symm) q1429 (fun _ h => h) rfl hnm rfl dX11_init_53 (fun _ _ hw103 => ?_)
  obtain ⟨σ104, e105⟩ : ∃ z, z = att σ94 a0 18 (nx σ86) := ⟨_, rfl⟩
  have h := h σ104 e105
  have ha106 := at_att ha98 e105 (hw92.1.pos (by rw [hg101]; decide)).1 hg100 hg101 (by decide)
  have hw103 := wc_e e105 hw103
  have hk107 := ki_att2 hk99 hz97 e105
  have hg108 : tg σ104 a0 = -10 := tg_att e105 (by decide) hg100 hg101 (by decide)
  refine z_aload_n (pc := 56) K dX11_init_56 rfl (lv_at hl 0 rfl) ?_
  refine z_bipush (pc := 57) K dX11_init_57 (by decide) ?_
  obtain ⟨hle109, h⟩ := h
  refine z_newa (pc := 59) (atype := .long) (κ := 2) (N' := 18) K hw103 (by decide) rfl (fun _ => rfl) q1586 ⟨by decide, by decide⟩ rfl (by decide) (cr_fit hcr93 (u := 18) ⟨by decide, by decide⟩ hle109) dX11_init_59 (fun _ hw110 => ?_)
  have hcr111 := cr_new hcr93 (n := 18) (u := 18) ⟨by decide, by decide⟩ hle109
  obtain ⟨σ112, e113⟩ : ∃ z, z = na σ104 2 18 := ⟨_, rfl⟩
  have h := h σ112 e113
  have hke114 : Ke σ104 σ112 := ke_na hw103 e113
  have hz115 : tg σ (nx σ104) = 0 := z0_ki hk107 (by rw [hg108]; decide) hw103.1.fresh
  have hw110 := wc_e e113 hw110
  have ha116 := at_ke ha106 hke114 hg108 (by decide)
  have hk117 := ki_ke hk107 hke114
  have hg118 : tg σ112 a0 = -10 := ke_tg hke114 hg108 (by decide)
  have hg119 : tg σ112 (nx σ104) = 62 := tg_na e113
  have hln120 : σ112 (nx σ104) 1 0 = 18 := len_na e113
  refine z_putA (pc := 61) (t := 10) (k := 19) (κ := 2) K hw110 (by decide) hg118 zq10 (by decide) (by decide) kf_10_19 hg119 (hln120.trans kl_10_19.symm) q1430 (fun _ h => h) rfl hnm rfl dX11_init_61 (fun _ _ hw121 => ?_)
  obtain ⟨σ122, e123⟩ : ∃ z, z = att σ112 a0 19 (nx σ104) := ⟨_, rfl⟩
  have h := h σ122 e123
  have ha124 := at_att ha116 e123 (hw110.1.pos (by rw [hg119]; decide)).1 hg118 hg119 (by decide)
  have hw121 := wc_e e123 hw121
  have hk125 := ki_att2 hk117 hz115 e123
  have hg126 : tg σ122 a0 = -10 := tg_att e123 (by decide) hg118 hg119 (by decide)
  refine z_aload_n (pc := 64) K dX11_init_64 rfl (lv_at hl 0 rfl) ?_
  refine z_bipush (pc := 65) K dX11_init_65 (by decide) ?_
  obtain ⟨hle127, h⟩ := h
  refine z_newa (pc := 67) (atype := .long) (κ := 2) (N' := 36) K hw121 (by decide) rfl (fun _ => rfl) q1586 ⟨by decide, by decide⟩ rfl (by decide) (cr_fit hcr111 (u := 36) ⟨by decide, by decide⟩ hle127) dX11_init_67 (fun _ hw128 => ?_)
  have hcr129 := cr_new hcr111 (n := 36) (u := 36) ⟨by decide, by decide⟩ hle127
  obtain ⟨σ130, e131⟩ : ∃ z, z = na σ122 2 36 := ⟨_, rfl⟩
  have h := h σ130 e131
  have hke132 : Ke σ122 σ130 := ke_na hw121 e131
  have hz133 : tg σ (nx σ122) = 0 := z0_ki hk125 (by rw [hg126]; decide) hw121.1.fresh
  have hw128 := wc_e e131 hw128
  have ha134 := at_ke ha124 hke132 hg126 (by decide)
  have hk135 := ki_ke hk125 hke132
  have hg136 : tg σ130 a0 = -10 := ke_tg hke132 hg126 (by decide)
  have hg137 : tg σ130 (nx σ122) = 62 := tg_na e131
  have hln138 : σ130 (nx σ122) 1 0 = 36 := len_na e131
  refine z_putA (pc := 69) (t := 10) (k := 20) (κ := 2) K hw128 (by decide) hg136 zq10 (by decide) (by decide) kf_10_20 hg137 (hln138.trans kl_10_20.symm) q1431 (fun _ h => h) rfl hnm rfl dX11_init_69 (fun _ _ hw139 => ?_)
  obtain ⟨σ140, e141⟩ : ∃ z, z = att σ130 a0 20 (nx σ122) := ⟨_, rfl⟩
  have h := h σ140 e141
  have ha142 := at_att ha134 e141 (hw128.1.pos (by rw [hg137]; decide)).1 hg136 hg137 (by decide)
  have hw139 := wc_e e141 hw139
  have hk143 := ki_att2 hk135 hz133 e141
  have hg144 : tg σ140 a0 = -10 := tg_att e141 (by decide) hg136 hg137 (by decide)
  refine z_aload_n (pc := 72) K dX11_init_72 rfl (lv_at hl 0 rfl) ?_
  refine z_iconst (pc := 73) K dX11_init_73 ?_
  obtain ⟨hle145, h⟩ := h
  refine z_newa (pc := 74) (atype := .boolean) (κ := 3) (N' := 2) K hw139 (by decide) rfl (fun _ => rfl) q1587 ⟨by decide, by decide⟩ rfl (by decide) (cr_fit hcr129 (u := 2) ⟨by decide, by decide⟩ hle145) dX11_init_74 (fun _ hw146 => ?_)
  have hcr147 := cr_new hcr129 (n := 2) (u := 2) ⟨by decide, by decide⟩ hle145
  obtain ⟨σ148, e149⟩ : ∃ z, z = na σ140 3 2 := ⟨_, rfl⟩
  have h := h σ148 e149
  have hke150 : Ke σ140 σ148 := ke_na hw139 e149
  have hz151 : tg σ (nx σ140) = 0 := z0_ki hk143 (by rw [hg144]; decide) hw139.1.fresh
  have hw146 := wc_e e149 hw146
  have ha152 := at_ke ha142 hke150 hg144 (by decide)
  have hk153 := ki_ke hk143 hke150
  have hg154 : tg σ148 a0 = -10 := ke_tg hke150 hg144 (by decide)
  have hg155 : tg σ148 (nx σ140) = 63 := tg_na e149
  have hln156 : σ148 (nx σ140) 1 0 = 2 := len_na e149
  refine z_putA (pc := 76) (t := 10) (k := 21) (κ := 3) K hw146 (by decide) hg154 zq10 (by decide) (by decide) kf_10_21 hg155 (hln156.trans kl_10_21.symm) q1432 (fun _ h => h) rfl hnm rfl dX11_init_76 (fun _ _ hw157 => ?_)
  obtain ⟨σ158, e159⟩ : ∃ z, z = att σ148 a0 21 (nx σ140) := ⟨_, rfl⟩
  have h := h σ158 e159
  have ha160 := at_att ha152 e159 (hw146.1.pos (by rw [hg155]; decide)).1 hg154 hg155 (by decide)
  have hw157 := wc_e e159 hw157
  have hk161 := ki_att2 hk153 hz151 e159
  have hg162 : tg σ158 a0 = -10 := tg_att e159 (by decide) hg154 hg155 (by decide)
  refine z_aload_n (pc := 79) K dX11_init_79 rfl (lv_at hl 0 rfl) ?_
  refine z_bipush (pc := 80) K dX11_init_80 (by decide) ?_
  obtain ⟨hle163, h⟩ := h
  refine z_newa (pc := 82) (atype := .int) (κ := 1) (N' := 120) K hw157 (by decide) rfl (fun _ => rfl) q298 ⟨by decide, by decide⟩ rfl (by decide) (cr_fit hcr147 (u := 120) ⟨by decide, by decide⟩ hle163) dX11_init_82 (fun _ hw164 => ?_)
  have hcr165 := cr_new hcr147 (n := 120) (u := 120) ⟨by decide, by decide⟩ hle163
  obtain ⟨σ166, e167⟩ : ∃ z, z = na σ158 1 120 := ⟨_, rfl⟩
  have h := h σ166 e167
  have hke168 : Ke σ158 σ166 := ke_na hw157 e167
  have hz169 : tg σ (nx σ158) = 0 := z0_ki hk161 (by rw [hg162]; decide) hw157.1.fresh
  have hw164 := wc_e e167 hw164
  have ha170 := at_ke ha160 hke168 hg162 (by decide)
  have hk171 := ki_ke hk161 hke168
  have hg172 : tg σ166 a0 = -10 := ke_tg hke168 hg162 (by decide)
  have hg173 : tg σ166 (nx σ158) = 61 := tg_na e167
  have hln174 : σ166 (nx σ158) 1 0 = 120 := len_na e167
  refine z_putA (pc := 84) (t := 10) (k := 22) (κ := 1) K hw164 (by decide) hg172 zq10 (by decide) (by decide) kf_10_22 hg173 (hln174.trans kl_10_22.symm) q1433 (fun _ h => h) rfl hnm rfl dX11_init_84 (fun _ _ hw175 => ?_)
  obtain ⟨σ176, e177⟩ : ∃ z, z = att σ166 a0 22 (nx σ158) := ⟨_, rfl⟩
  have h := h σ176 e177
  have ha178 := at_att ha170 e177 (hw164.1.pos (by rw [hg173]; decide)).1 hg172 hg173 (by decide)
  have hw175 := wc_e e177 hw175
  have hk179 := ki_att2 hk171 hz169 e177
  have hg180 : tg σ176 a0 = -10 := tg_att e177 (by decide) hg172 hg173 (by decide)
  refine z_aload_n (pc := 87) K dX11_init_87 rfl (lv_at hl 0 rfl) ?_
  refine z_sipush (pc := 88) K dX11_init_88 (by decide) ?_
  obtain ⟨hle181, h⟩ := h
  refine z_newa (pc := 91) (atype := .int) (κ := 1) (N' := 800) K hw175 (by decide) rfl (fun _ => rfl) q298 ⟨by decide, by decide⟩ rfl (by decide) (cr_fit hcr165 (u := 800) ⟨by decide, by decide⟩ hle181) dX11_init_91 (fun _ hw182 => ?_)
  have hcr183 := cr_new hcr165 (n := 800) (u := 800) ⟨by decide, by decide⟩ hle181
  obtain ⟨σ184, e185⟩ : ∃ z, z = na σ176 1 800 := ⟨_, rfl⟩
  have h := h σ184 e185
  have hke186 : Ke σ176 σ184 := ke_na hw175 e185
  have hz187 : tg σ (nx σ176) = 0 := z0_ki hk179 (by rw [hg180]; decide) hw175.1.fresh
  have hw182 := wc_e e185 hw182
  have ha188 := at_ke ha178 hke186 hg180 (by decide)
  have hk189 := ki_ke hk179 hke186
  have hg190 : tg σ184 a0 = -10 := ke_tg hke186 hg180 (by decide)
  have hg191 : tg σ184 (nx σ176) = 61 := tg_na e185
  have hln192 : σ184 (nx σ176) 1 0 = 800 := len_na e185
  refine z_putA (pc := 93) (t := 10) (k := 23) (κ := 1) K hw182 (by decide) hg190 zq10 (by decide) (by decide) kf_10_23 hg191 (hln192.trans kl_10_23.symm) q1434 (fun _ h => h) rfl hnm rfl dX11_init_93 (fun _ _ hw193 => ?_)
  obtain ⟨σ194, e195⟩ : ∃ z, z = att σ184 a0 23 (nx σ176) := ⟨_, rfl⟩
  have h := h σ194 e195
  have ha196 := at_att ha188 e195 (hw182.1.pos (by rw [hg191]; decide)).1 hg190 hg191 (by decide)
  have hw193 := wc_e e195 hw193
  have hk197 := ki_att2 hk189 hz187 e195
  have hg198 : tg σ194 a0 = -10 := tg_att e195 (by decide) hg190 hg191 (by decide)
  refine z_aload_n (pc := 96) K dX11_init_96 rfl (lv_at hl 0 rfl) ?_
  refine z_sipush (pc := 97) K dX11_init_97 (by decide) ?_
  obtain ⟨hle199, h⟩ := h
  refine z_newa (pc := 100) (atype := .int) (κ := 1) (N' := 800) K hw193 (by decide) rfl (fun _ => rfl) q298 ⟨by decide, by decide⟩ rfl (by decide) (cr_fit hcr183 (u := 800) ⟨by decide, by decide⟩ hle199) dX11_init_100 (fun _ hw200 => ?_)
  have hcr201 := cr_new hcr183 (n := 800) (u := 800) ⟨by decide, by decide⟩ hle199
  obtain ⟨σ202, e203⟩ : ∃ z, z = na σ194 1 800 := ⟨_, rfl⟩
  have h := h σ202 e203
  have hke204 : Ke σ194 σ202 := ke_na hw193 e203
  have hz205 : tg σ (nx σ194) = 0 := z0_ki hk197 (by rw [hg198]; decide) hw193.1.fresh
  have hw200 := wc_e e203 hw200
  have ha206 := at_ke ha196 hke204 hg198 (by decide)
  have hk207 := ki_ke hk197 hke204
  have hg208 : tg σ202 a0 = -10 := ke_tg hke204 hg198 (by decide)
  have hg209 : tg σ202 (nx σ194) = 61 := tg_na e203
  have hln210 : σ202 (nx σ194) 1 0 = 800 := len_na e203
  refine z_putA (pc := 102) (t := 10) (k := 24) (κ := 1) K hw200 (by decide) hg208 zq10 (by decide) (by decide) kf_10_24 hg209 (hln210.trans kl_10_24.symm) q1435 (fun _ h => h) rfl hnm rfl dX11_init_102 (fun _ _ hw211 => ?_)
  obtain ⟨σ212, e213⟩ : ∃ z, z = att σ202 a0 24 (nx σ194) := ⟨_, rfl⟩
  have h := h σ212 e213
  have ha214 := at_att ha206 e213 (hw200.1.pos (by rw [hg209]; decide)).1 hg208 hg209 (by decide)
  have hw211 := wc_e e213 hw211
  have hk215 := ki_att2 hk207 hz205 e213
  have hg216 : tg σ212 a0 = -10 := tg_att e213 (by decide) hg208 hg209 (by decide)
  refine z_aload_n (pc := 105) K dX11_init_105 rfl (lv_at hl 0 rfl) ?_
  refine z_sipush (pc := 106) K dX11_init_106 (by decide) ?_
  obtain ⟨hle217, h⟩ := h
  refine z_newa (pc := 109) (atype := .int) (κ := 1) (N' := 800) K hw211 (by decide) rfl (fun _ => rfl) q298 ⟨by decide, by decide⟩ rfl (by decide) (cr_fit hcr201 (u := 800) ⟨by decide, by decide⟩ hle217) dX11_init_109 (fun _ hw218 => ?_)
  have hcr219 := cr_new hcr201 (n := 800) (u := 800) ⟨by decide, by decide⟩ hle217
  obtain ⟨σ220, e221⟩ : ∃ z, z = na σ212 1 800 := ⟨_, rfl⟩
  have h := h σ220 e221
  have hke222 : Ke σ212 σ220 := ke_na hw211 e221
  have hz223 : tg σ (nx σ212) = 0 := z0_ki hk215 (by rw [hg216]; decide) hw211.1.fresh
  have hw218 := wc_e e221 hw218
  have ha224 := at_ke ha214 hke222 hg216 (by decide)
  have hk225 := ki_ke hk215 hke222
  have hg226 : tg σ220 a0 = -10 := ke_tg hke222 hg216 (by decide)
  have hg227 : tg σ220 (nx σ212) = 61 := tg_na e221
  have hln228 : σ220 (nx σ212) 1 0 = 800 := len_na e221
  refine z_putA (pc := 111) (t := 10) (k := 25) (κ := 1) K hw218 (by decide) hg226 zq10 (by decide) (by decide) kf_10_25 hg227 (hln228.trans kl_10_25.symm) q1436 (fun _ h => h) rfl hnm rfl dX11_init_111 (fun _ _ hw229 => ?_)
  obtain ⟨σ230, e231⟩ : ∃ z, z = att σ220 a0 25 (nx σ212) := ⟨_, rfl⟩
  have h := h σ230 e231
  have ha232 := at_att ha224 e231 (hw218.1.pos (by rw [hg227]; decide)).1 hg226 hg227 (by decide)
  have hw229 := wc_e e231 hw229
  have hk233 := ki_att2 hk225 hz223 e231
  have hg234 : tg σ230 a0 = -10 := tg_att e231 (by decide) hg226 hg227 (by decide)
  refine z_aload_n (pc := 114) K dX11_init_114 rfl (lv_at hl 0 rfl) ?_
  refine z_sipush (pc := 115) K dX11_init_115 (by decide) ?_
  obtain ⟨hle235, h⟩ := h
  refine z_newa (pc := 118) (atype := .int) (κ := 1) (N' := 800) K hw229 (by decide) rfl (fun _ => rfl) q298 ⟨by decide, by decide⟩ rfl (by decide) (cr_fit hcr219 (u := 800) ⟨by decide, by decide⟩ hle235) dX11_init_118 (fun _ hw236 => ?_)
  have hcr237 := cr_new hcr219 (n := 800) (u := 800) ⟨by decide, by decide⟩ hle235
  obtain ⟨σ238, e239⟩ : ∃ z, z = na σ230 1 800 := ⟨_, rfl⟩
  have h := h σ238 e239
  have hke240 : Ke σ230 σ238 := ke_na hw229 e239
  have hz241 : tg σ (nx σ230) = 0 := z0_ki hk233 (by rw [hg234]; decide) hw229.1.fresh
  have hw236 := wc_e e239 hw236
  have ha242 := at_ke ha232 hke240 hg234 (by decide)
  have hk243 := ki_ke hk233 hke240
  have hg244 : tg σ238 a0 = -10 := ke_tg hke240 hg234 (by decide)
  have hg245 : tg σ238 (nx σ230) = 61 := tg_na e239
  have hln246 : σ238 (nx σ230) 1 0 = 800 := len_na e239
  refine z_putA (pc := 120) (t := 10) (k := 26) (κ := 1) K hw236 (by decide) hg244 zq10 (by decide) (by decide) kf_10_26 hg245 (hln246.trans kl_10_26.symm) q1437 (fun _ h => h) rfl hnm rfl dX11_init_120 (fun _ _ hw247 => ?_)
  obtain ⟨σ248, e249⟩ : ∃ z, z = att σ238 a0 26 (nx σ230) := ⟨_, rfl⟩
  have h := h σ248 e249
  have ha250 := at_att ha242 e249 (hw236.1.pos (by rw [hg245]; decide)).1 hg244 hg245 (by decide)
  have hw247 := wc_e e249 hw247
  have hk251 := ki_att2 hk243 hz241 e249
  have hg252 : tg σ248 a0 = -10 := tg_att e249 (by decide) hg244 hg245 (by decide)
  refine z_aload_n (pc := 123) K dX11_init_123 rfl (lv_at hl 0 rfl) ?_
  refine z_sipush (pc := 124) K dX11_init_124 (by decide) ?_
  obtain ⟨hle253, h⟩ := h
  refine z_newa (pc := 127) (atype := .int) (κ := 1) (N' := 800) K hw247 (by decide) rfl (fun _ => rfl) q298 ⟨by decide, by decide⟩ rfl (by decide) (cr_fit hcr237 (u := 800) ⟨by decide, by decide⟩ hle253) dX11_init_127 (fun _ hw254 => ?_)
  have hcr255 := cr_new hcr237 (n := 800) (u := 800) ⟨by decide, by decide⟩ hle253
  obtain ⟨σ256, e257⟩ : ∃ z, z = na σ248 1 800 := ⟨_, rfl⟩
  have h := h σ256 e257
  have hke258 : Ke σ248 σ256 := ke_na hw247 e257
  have hz259 : tg σ (nx σ248) = 0 := z0_ki hk251 (by rw [hg252]; decide) hw247.1.fresh
  have hw254 := wc_e e257 hw254
  have ha260 := at_ke ha250 hke258 hg252 (by decide)
  have hk261 := ki_ke hk251 hke258
  have hg262 : tg σ256 a0 = -10 := ke_tg hke258 hg252 (by decide)
  have hg263 : tg σ256 (nx σ248) = 61 := tg_na e257
  have hln264 : σ256 (nx σ248) 1 0 = 800 := len_na e257
  refine z_putA (pc := 129) (t := 10) (k := 27) (κ := 1) K hw254 (by decide) hg262 zq10 (by decide) (by decide) kf_10_27 hg263 (hln264.trans kl_10_27.symm) q1438 (fun _ h => h) rfl hnm rfl dX11_init_129 (fun _ _ hw265 => ?_)
  obtain ⟨σ266, e267⟩ : ∃ z, z = att σ256 a0 27 (nx σ248) := ⟨_, rfl⟩
  have h := h σ266 e267
  have ha268 := at_att ha260 e267 (hw254.1.pos (by rw [hg263]; decide)).1 hg262 hg263 (by decide)
  have hw265 := wc_e e267 hw265
  have hk269 := ki_att2 hk261 hz259 e267
  have hg270 : tg σ266 a0 = -10 := tg_att e267 (by decide) hg262 hg263 (by decide)
  refine z_aload_n (pc := 132) K dX11_init_132 rfl (lv_at hl 0 rfl) ?_
  refine z_sipush (pc := 133) K dX11_init_133 (by decide) ?_
  obtain ⟨hle271, h⟩ := h
  refine z_newa (pc := 136) (atype := .int) (κ := 1) (N' := 800) K hw265 (by decide) rfl (fun _ => rfl) q298 ⟨by decide, by decide⟩ rfl (by decide) (cr_fit hcr255 (u := 800) ⟨by decide, by decide⟩ hle271) dX11_init_136 (fun _ hw272 => ?_)
  have hcr273 := cr_new hcr255 (n := 800) (u := 800) ⟨by decide, by decide⟩ hle271
  obtain ⟨σ274, e275⟩ : ∃ z, z = na σ266 1 800 := ⟨_, rfl⟩
  have h := h σ274 e275
  have hke276 : Ke σ266 σ274 := ke_na hw265 e275
  have hz277 : tg σ (nx σ266) = 0 := z0_ki hk269 (by rw [hg270]; decide) hw265.1.fresh
  have hw272 := wc_e e275 hw272
  have ha278 := at_ke ha268 hke276 hg270 (by decide)
  have hk279 := ki_ke hk269 hke276
  have hg280 : tg σ274 a0 = -10 := ke_tg hke276 hg270 (by decide)
  have hg281 : tg σ274 (nx σ266) = 61 := tg_na e275
  have hln282 : σ274 (nx σ266) 1 0 = 800 := len_na e275
  refine z_putA (pc := 138) (t := 10) (k := 28) (κ := 1) K hw272 (by decide) hg280 zq10 (by decide) (by decide) kf_10_28 hg281 (hln282.trans kl_10_28.symm) q1439 (fun _ h => h) rfl hnm rfl dX11_init_138 (fun _ _ hw283 => ?_)
  obtain ⟨σ284, e285⟩ : ∃ z, z = att σ274 a0 28 (nx σ266) := ⟨_, rfl⟩
  have h := h σ284 e285
  have ha286 := at_att ha278 e285 (hw272.1.pos (by rw [hg281]; decide)).1 hg280 hg281 (by decide)
  have hw283 := wc_e e285 hw283
  have hk287 := ki_att2 hk279 hz277 e285
  have hg288 : tg σ284 a0 = -10 := tg_att e285 (by decide) hg280 hg281 (by decide)
  refine z_aload_n (pc := 141) K dX11_init_141 rfl (lv_at hl 0 rfl) ?_
  refine z_iconst (pc := 142) K dX11_init_142 ?_
  obtain ⟨hle289, h⟩ := h
  refine z_newa (pc := 143) (atype := .int) (κ := 1) (N' := 2) K hw283 (by decide) rfl (fun _ => rfl) q298 ⟨by decide, by decide⟩ rfl (by decide) (cr_fit hcr273 (u := 2) ⟨by decide, by decide⟩ hle289) dX11_init_143 (fun _ hw290 => ?_)
  have hcr291 := cr_new hcr273 (n := 2) (u := 2) ⟨by decide, by decide⟩ hle289
  obtain ⟨σ292, e293⟩ : ∃ z, z = na σ284 1 2 := ⟨_, rfl⟩
  have h := h σ292 e293
  have hke294 : Ke σ284 σ292 := ke_na hw283 e293
  have hz295 : tg σ (nx σ284) = 0 := z0_ki hk287 (by rw [hg288]; decide) hw283.1.fresh
  have hw290 := wc_e e293 hw290
  have ha296 := at_ke ha286 hke294 hg288 (by decide)
  have hk297 := ki_ke hk287 hke294
  have hg298 : tg σ292 a0 = -10 := ke_tg hke294 hg288 (by decide)
  have hg299 : tg σ292 (nx σ284) = 61 := tg_na e293
  have hln300 : σ292 (nx σ284) 1 0 = 2 := len_na e293
  refine z_putA (pc := 145) (t := 10) (k := 29) (κ := 1) K hw290 (by decide) hg298 zq10 (by decide) (by decide) kf_10_29 hg299 (hln300.trans kl_10_29.symm) q1440 (fun _ h => h) rfl hnm rfl dX11_init_145 (fun _ _ hw301 => ?_)
  obtain ⟨σ302, e303⟩ : ∃ z, z = att σ292 a0 29 (nx σ284) := ⟨_, rfl⟩
  have h := h σ302 e303
  have ha304 := at_att ha296 e303 (hw290.1.pos (by rw [hg299]; decide)).1 hg298 hg299 (by decide)
  have hw301 := wc_e e303 hw301
  have hk305 := ki_att2 hk297 hz295 e303
  have hg306 : tg σ302 a0 = -10 := tg_att e303 (by decide) hg298 hg299 (by decide)
  refine z_aload_n (pc := 148) K dX11_init_148 rfl (lv_at hl 0 rfl) ?_
  refine z_iconst (pc := 149) K dX11_init_149 ?_
  obtain ⟨hle307, h⟩ := h
  refine z_newa (pc := 150) (atype := .int) (κ := 1) (N' := 2) K hw301 (by decide) rfl (fun _ => rfl) q298 ⟨by decide, by decide⟩ rfl (by decide) (cr_fit hcr291 (u := 2) ⟨by decide, by decide⟩ hle307) dX11_init_150 (fun _ hw308 => ?_)
  have hcr309 := cr_new hcr291 (n := 2) (u := 2) ⟨by decide, by decide⟩ hle307
  obtain ⟨σ310, e311⟩ : ∃ z, z = na σ302 1 2 := ⟨_, rfl⟩
  have h := h σ310 e311
  have hke312 : Ke σ302 σ310 := ke_na hw301 e311
  have hz313 : tg σ (nx σ302) = 0 := z0_ki hk305 (by rw [hg306]; decide) hw301.1.fresh
  have hw308 := wc_e e311 hw308
  have ha314 := at_ke ha304 hke312 hg306 (by decide)
  have hk315 := ki_ke hk305 hke312
  have hg316 : tg σ310 a0 = -10 := ke_tg hke312 hg306 (by decide)
  have hg317 : tg σ310 (nx σ302) = 61 := tg_na e311
  have hln318 : σ310 (nx σ302) 1 0 = 2 := len_na e311
  refine z_putA (pc := 152) (t := 10) (k := 30) (κ := 1) K hw308 (by decide) hg316 zq10 (by decide) (by decide) kf_10_30 hg317 (hln318.trans kl_10_30.symm) q1441 (fun _ h => h) rfl hnm rfl dX11_init_152 (fun _ _ hw319 => ?_)
  obtain ⟨σ320, e321⟩ : ∃ z, z = att σ310 a0 30 (nx σ302) := ⟨_, rfl⟩
  have h := h σ320 e321
  have ha322 := at_att ha314 e321 (hw308.1.pos (by rw [hg317]; decide)).1 hg316 hg317 (by decide)
  have hw319 := wc_e e321 hw319
  have hk323 := ki_att2 hk315 hz313 e321
  have hg324 : tg σ320 a0 = -10 := tg_att e321 (by decide) hg316 hg317 (by decide)
  refine z_aload_n (pc := 155) K dX11_init_155 rfl (lv_at hl 0 rfl) ?_
  refine z_bipush (pc := 156) K dX11_init_156 (by decide) ?_
  obtain ⟨hle325, h⟩ := h
  refine z_newa (pc := 158) (atype := .int) (κ := 1) (N' := 48) K hw319 (by decide) rfl (fun _ => rfl) q298 ⟨by decide, by decide⟩ rfl (by decide) (cr_fit hcr309 (u := 48) ⟨by decide, by decide⟩ hle325) dX11_init_158 (fun _ hw326 => ?_)
  have hcr327 := cr_new hcr309 (n := 48) (u := 48) ⟨by decide, by decide⟩ hle325
  obtain ⟨σ328, e329⟩ : ∃ z, z = na σ320 1 48 := ⟨_, rfl⟩
  have h := h σ328 e329
  have hke330 : Ke σ320 σ328 := ke_na hw319 e329
  have hz331 : tg σ (nx σ320) = 0 := z0_ki hk323 (by rw [hg324]; decide) hw319.1.fresh
  have hw326 := wc_e e329 hw326
  have ha332 := at_ke ha322 hke330 hg324 (by decide)
  have hk333 := ki_ke hk323 hke330
  have hg334 : tg σ328 a0 = -10 := ke_tg hke330 hg324 (by decide)
  have hg335 : tg σ328 (nx σ320) = 61 := tg_na e329
  have hln336 : σ328 (nx σ320) 1 0 = 48 := len_na e329
  refine z_putA (pc := 160) (t := 10) (k := 35) (κ := 1) K hw326 (by decide) hg334 zq10 (by decide) (by decide) kf_10_35 hg335 (hln336.trans kl_10_35.symm) q1446 (fun _ h => h) rfl hnm rfl dX11_init_160 (fun _ _ hw337 => ?_)
  obtain ⟨σ338, e339⟩ : ∃ z, z = att σ328 a0 35 (nx σ320) := ⟨_, rfl⟩
  have h := h σ338 e339
  have ha340 := at_att ha332 e339 (hw326.1.pos (by rw [hg335]; decide)).1 hg334 hg335 (by decide)
  have hw337 := wc_e e339 hw337
  have hk341 := ki_att2 hk333 hz331 e339
  have hg342 : tg σ338 a0 = -10 := tg_att e339 (by decide) hg334 hg335 (by decide)
  refine z_aload_n (pc := 163) K dX11_init_163 rfl (lv_at hl 0 rfl) ?_
  refine z_bipush (pc := 164) K dX11_init_164 (by decide) ?_
  obtain ⟨hle343, h⟩ := h
  refine z_newa (pc := 166) (atype := .int) (κ := 1) (N' := 24) K hw337 (by decide) rfl (fun _ => rfl) q298 ⟨by decide, by decide⟩ rfl (by decide) (cr_fit hcr327 (u := 24) ⟨by decide, by decide⟩ hle343) dX11_init_166 (fun _ hw344 => ?_)
  have hcr345 := cr_new hcr327 (n := 24) (u := 24) ⟨by decide, by decide⟩ hle343
  obtain ⟨σ346, e347⟩ : ∃ z, z = na σ338 1 24 := ⟨_, rfl⟩
  have h := h σ346 e347
  have hke348 : Ke σ338 σ346 := ke_na hw337 e347
  have hz349 : tg σ (nx σ338) = 0 := z0_ki hk341 (by rw [hg342]; decide) hw337.1.fresh
  have hw344 := wc_e e347 hw344
  have ha350 := at_ke ha340 hke348 hg342 (by decide)
  have hk351 := ki_ke hk341 hke348
  have hg352 : tg σ346 a0 = -10 := ke_tg hke348 hg342 (by decide)
  have hg353 : tg σ346 (nx σ338) = 61 := tg_na e347
  have hln354 : σ346 (nx σ338) 1 0 = 24 := len_na e347
  refine z_putA (pc := 168) (t := 10) (k := 36) (κ := 1) K hw344 (by decide) hg352 zq10 (by decide) (by decide) kf_10_36 hg353 (hln354.trans kl_10_36.symm) q1447 (fun _ h => h) rfl hnm rfl dX11_init_168 (fun _ _ hw355 => ?_)
  obtain ⟨σ356, e357⟩ : ∃ z, z = att σ346 a0 36 (nx σ338) := ⟨_, rfl⟩
  have h := h σ356 e357
  have ha358 := at_att ha350 e357 (hw344.1.pos (by rw [hg353]; decide)).1 hg352 hg353 (by decide)
  have hw355 := wc_e e357 hw355
  have hk359 := ki_att2 hk351 hz349 e357
  have hg360 : tg σ356 a0 = -10 := tg_att e357 (by decide) hg352 hg353 (by decide)
  refine z_aload_n (pc := 171) K dX11_init_171 rfl (lv_at hl 0 rfl) ?_
  refine z_bipush (pc := 172) K dX11_init_172 (by decide) ?_
  obtain ⟨hle361, h⟩ := h
  refine z_newa (pc := 174) (atype := .int) (κ := 1) (N' := 24) K hw355 (by decide) rfl (fun _ => rfl) q298 ⟨by decide, by decide⟩ rfl (by decide) (cr_fit hcr345 (u := 24) ⟨by decide, by decide⟩ hle361) dX11_init_174 (fun _ hw362 => ?_)
  have hcr363 := cr_new hcr345 (n := 24) (u := 24) ⟨by decide, by decide⟩ hle361
  obtain ⟨σ364, e365⟩ : ∃ z, z = na σ356 1 24 := ⟨_, rfl⟩
  have h := h σ364 e365
  have hke366 : Ke σ356 σ364 := ke_na hw355 e365
  have hz367 : tg σ (nx σ356) = 0 := z0_ki hk359 (by rw [hg360]; decide) hw355.1.fresh
  have hw362 := wc_e e365 hw362
  have ha368 := at_ke ha358 hke366 hg360 (by decide)
  have hk369 := ki_ke hk359 hke366
  have hg370 : tg σ364 a0 = -10 := ke_tg hke366 hg360 (by decide)
  have hg371 : tg σ364 (nx σ356) = 61 := tg_na e365
  have hln372 : σ364 (nx σ356) 1 0 = 24 := len_na e365
  refine z_putA (pc := 176) (t := 10) (k := 37) (κ := 1) K hw362 (by decide) hg370 zq10 (by decide) (by decide) kf_10_37 hg371 (hln372.trans kl_10_37.symm) q1448 (fun _ h => h) rfl hnm rfl dX11_init_176 (fun _ _ hw373 => ?_)
  obtain ⟨σ374, e375⟩ : ∃ z, z = att σ364 a0 37 (nx σ356) := ⟨_, rfl⟩
  have h := h σ374 e375
  have ha376 := at_att ha368 e375 (hw362.1.pos (by rw [hg371]; decide)).1 hg370 hg371 (by decide)
  have hw373 := wc_e e375 hw373
  have hk377 := ki_att2 hk369 hz367 e375
  have hg378 : tg σ374 a0 = -10 := tg_att e375 (by decide) hg370 hg371 (by decide)
  refine z_aload_n (pc := 179) K dX11_init_179 rfl (lv_at hl 0 rfl) ?_
  refine z_bipush (pc := 180) K dX11_init_180 (by decide) ?_
  obtain ⟨hle379, h⟩ := h
  refine z_newa (pc := 182) (atype := .int) (κ := 1) (N' := 24) K hw373 (by decide) rfl (fun _ => rfl) q298 ⟨by decide, by decide⟩ rfl (by decide) (cr_fit hcr363 (u := 24) ⟨by decide, by decide⟩ hle379) dX11_init_182 (fun _ hw380 => ?_)
  have hcr381 := cr_new hcr363 (n := 24) (u := 24) ⟨by decide, by decide⟩ hle379
  obtain ⟨σ382, e383⟩ : ∃ z, z = na σ374 1 24 := ⟨_, rfl⟩
  have h := h σ382 e383
  have hke384 : Ke σ374 σ382 := ke_na hw373 e383
  have hz385 : tg σ (nx σ374) = 0 := z0_ki hk377 (by rw [hg378]; decide) hw373.1.fresh
  have hw380 := wc_e e383 hw380
  have ha386 := at_ke ha376 hke384 hg378 (by decide)
  have hk387 := ki_ke hk377 hke384
  have hg388 : tg σ382 a0 = -10 := ke_tg hke384 hg378 (by decide)
  have hg389 : tg σ382 (nx σ374) = 61 := tg_na e383
  have hln390 : σ382 (nx σ374) 1 0 = 24 := len_na e383
  refine z_putA (pc := 184) (t := 10) (k := 38) (κ := 1) K hw380 (by decide) hg388 zq10 (by decide) (by decide) kf_10_38 hg389 (hln390.trans kl_10_38.symm) q1449 (fun _ h => h) rfl hnm rfl dX11_init_184 (fun _ _ hw391 => ?_)
  obtain ⟨σ392, e393⟩ : ∃ z, z = att σ382 a0 38 (nx σ374) := ⟨_, rfl⟩
  have h := h σ392 e393
  have ha394 := at_att ha386 e393 (hw380.1.pos (by rw [hg389]; decide)).1 hg388 hg389 (by decide)
  have hw391 := wc_e e393 hw391
  have hk395 := ki_att2 hk387 hz385 e393
  have hg396 : tg σ392 a0 = -10 := tg_att e393 (by decide) hg388 hg389 (by decide)
  refine z_aload_n (pc := 187) K dX11_init_187 rfl (lv_at hl 0 rfl) ?_
  refine z_bipush (pc := 188) K dX11_init_188 (by decide) ?_
  obtain ⟨hle397, h⟩ := h
  refine z_newa (pc := 190) (atype := .int) (κ := 1) (N' := 24) K hw391 (by decide) rfl (fun _ => rfl) q298 ⟨by decide, by decide⟩ rfl (by decide) (cr_fit hcr381 (u := 24) ⟨by decide, by decide⟩ hle397) dX11_init_190 (fun _ hw398 => ?_)
  have hcr399 := cr_new hcr381 (n := 24) (u := 24) ⟨by decide, by decide⟩ hle397
  obtain ⟨σ400, e401⟩ : ∃ z, z = na σ392 1 24 := ⟨_, rfl⟩
  have h := h σ400 e401
  have hke402 : Ke σ392 σ400 := ke_na hw391 e401
  have hz403 : tg σ (nx σ392) = 0 := z0_ki hk395 (by rw [hg396]; decide) hw391.1.fresh
  have hw398 := wc_e e401 hw398
  have ha404 := at_ke ha394 hke402 hg396 (by decide)
  have hk405 := ki_ke hk395 hke402
  have hg406 : tg σ400 a0 = -10 := ke_tg hke402 hg396 (by decide)
  have hg407 : tg σ400 (nx σ392) = 61 := tg_na e401
  have hln408 : σ400 (nx σ392) 1 0 = 24 := len_na e401
  refine z_putA (pc := 192) (t := 10) (k := 39) (κ := 1) K hw398 (by decide) hg406 zq10 (by decide) (by decide) kf_10_39 hg407 (hln408.trans kl_10_39.symm) q1450 (fun _ h => h) rfl hnm rfl dX11_init_192 (fun _ _ hw409 => ?_)
  obtain ⟨σ410, e411⟩ : ∃ z, z = att σ400 a0 39 (nx σ392) := ⟨_, rfl⟩
  have h := h σ410 e411
  have ha412 := at_att ha404 e411 (hw398.1.pos (by rw [hg407]; decide)).1 hg406 hg407 (by decide)
  have hw409 := wc_e e411 hw409
  have hk413 := ki_att2 hk405 hz403 e411
  have hg414 : tg σ410 a0 = -10 := tg_att e411 (by decide) hg406 hg407 (by decide)
  refine z_aload_n (pc := 195) K dX11_init_195 rfl (lv_at hl 0 rfl) ?_
  refine z_bipush (pc := 196) K dX11_init_196 (by decide) ?_
  obtain ⟨hle415, h⟩ := h
  refine z_newa (pc := 198) (atype := .int) (κ := 1) (N' := 24) K hw409 (by decide) rfl (fun _ => rfl) q298 ⟨by decide, by decide⟩ rfl (by decide) (cr_fit hcr399 (u := 24) ⟨by decide, by decide⟩ hle415) dX11_init_198 (fun _ hw416 => ?_)
  have hcr417 := cr_new hcr399 (n := 24) (u := 24) ⟨by decide, by decide⟩ hle415
  obtain ⟨σ418, e419⟩ : ∃ z, z = na σ410 1 24 := ⟨_, rfl⟩
  have h := h σ418 e419
  have hke420 : Ke σ410 σ418 := ke_na hw409 e419
  have hz421 : tg σ (nx σ410) = 0 := z0_ki hk413 (by rw [hg414]; decide) hw409.1.fresh
  have hw416 := wc_e e419 hw416
  have ha422 := at_ke ha412 hke420 hg414 (by decide)
  have hk423 := ki_ke hk413 hke420
  have hg424 : tg σ418 a0 = -10 := ke_tg hke420 hg414 (by decide)
  have hg425 : tg σ418 (nx σ410) = 61 := tg_na e419
  have hln426 : σ418 (nx σ410) 1 0 = 24 := len_na e419
  refine z_putA (pc := 200) (t := 10) (k := 40) (κ := 1) K hw416 (by decide) hg424 zq10 (by decide) (by decide) kf_10_40 hg425 (hln426.trans kl_10_40.symm) q1451 (fun _ h => h) rfl hnm rfl dX11_init_200 (fun _ _ hw427 => ?_)
  obtain ⟨σ428, e429⟩ : ∃ z, z = att σ418 a0 40 (nx σ410) := ⟨_, rfl⟩
  have h := h σ428 e429
  have ha430 := at_att ha422 e429 (hw416.1.pos (by rw [hg425]; decide)).1 hg424 hg425 (by decide)
  have hw427 := wc_e e429 hw427
  have hk431 := ki_att2 hk423 hz421 e429
  have hg432 : tg σ428 a0 = -10 := tg_att e429 (by decide) hg424 hg425 (by decide)
  refine z_aload_n (pc := 203) K dX11_init_203 rfl (lv_at hl 0 rfl) ?_
  refine z_bipush (pc := 204) K dX11_init_204 (by decide) ?_
  obtain ⟨hle433, h⟩ := h
  refine z_newa (pc := 206) (atype := .int) (κ := 1) (N' := 24) K hw427 (by decide) rfl (fun _ => rfl) q298 ⟨by decide, by decide⟩ rfl (by decide) (cr_fit hcr417 (u := 24) ⟨by decide, by decide⟩ hle433) dX11_init_206 (fun _ hw434 => ?_)
  have hcr435 := cr_new hcr417 (n := 24) (u := 24) ⟨by decide, by decide⟩ hle433
  obtain ⟨σ436, e437⟩ : ∃ z, z = na σ428 1 24 := ⟨_, rfl⟩
  have h := h σ436 e437
  have hke438 : Ke σ428 σ436 := ke_na hw427 e437
  have hz439 : tg σ (nx σ428) = 0 := z0_ki hk431 (by rw [hg432]; decide) hw427.1.fresh
  have hw434 := wc_e e437 hw434
  have ha440 := at_ke ha430 hke438 hg432 (by decide)
  have hk441 := ki_ke hk431 hke438
  have hg442 : tg σ436 a0 = -10 := ke_tg hke438 hg432 (by decide)
  have hg443 : tg σ436 (nx σ428) = 61 := tg_na e437
  have hln444 : σ436 (nx σ428) 1 0 = 24 := len_na e437
  refine z_putA (pc := 208) (t := 10) (k := 41) (κ := 1) K hw434 (by decide) hg442 zq10 (by decide) (by decide) kf_10_41 hg443 (hln444.trans kl_10_41.symm) q1452 (fun _ h => h) rfl hnm rfl dX11_init_208 (fun _ _ hw445 => ?_)
  obtain ⟨σ446, e447⟩ : ∃ z, z = att σ436 a0 41 (nx σ428) := ⟨_, rfl⟩
  have h := h σ446 e447
  have ha448 := at_att ha440 e447 (hw434.1.pos (by rw [hg443]; decide)).1 hg442 hg443 (by decide)
  have hw445 := wc_e e447 hw445
  have hk449 := ki_att2 hk441 hz439 e447
  have hg450 : tg σ446 a0 = -10 := tg_att e447 (by decide) hg442 hg443 (by decide)
  refine z_aload_n (pc := 211) K dX11_init_211 rfl (lv_at hl 0 rfl) ?_
  refine z_iconst (pc := 212) K dX11_init_212 ?_
  refine z_puti (pc := 213) (t := 10) 45 K hw445 (obm (t := 10) hg450) zq10 (by decide) kf_10_45 zt_10_45 ⟨by decide, by decide⟩ q1456 (fun _ h => h) rfl dX11_init_213 (fun _ _ hw451 => ?_)
  obtain ⟨σ452, e453⟩ : ∃ z, z = st σ446 a0 45 0 (-1) := ⟨_, rfl⟩
  have h := h σ452 e453
  have hw451 := wc_e e453 hw451
  have ha454 := at_st ha448 e453 (by decide)
  have hk455 := ki_same hk449 (ki_e e453)
  have hg456 : tg σ452 a0 = -10 := (tg_e e453 (by decide)).trans hg450
  refine z_aload_n (pc := 216) K dX11_init_216 rfl (lv_at hl 0 rfl) ?_
  refine z_bipush (pc := 217) K dX11_init_217 (by decide) ?_
  obtain ⟨hle457, h⟩ := h
  refine z_newa (pc := 219) (atype := .int) (κ := 1) (N' := 7) K hw451 (by decide) rfl (fun _ => rfl) q298 ⟨by decide, by decide⟩ rfl (by decide) (cr_fit hcr435 (u := 7) ⟨by decide, by decide⟩ hle457) dX11_init_219 (fun _ hw458 => ?_)
  have hcr459 := cr_new hcr435 (n := 7) (u := 7) ⟨by decide, by decide⟩ hle457
  obtain ⟨σ460, e461⟩ : ∃ z, z = na σ452 1 7 := ⟨_, rfl⟩
  have h := h σ460 e461
  have hke462 : Ke σ452 σ460 := ke_na hw451 e461
  have hz463 : tg σ (nx σ452) = 0 := z0_ki hk455 (by rw [hg456]; decide) hw451.1.fresh
  have hw458 := wc_e e461 hw458
  have ha464 := at_ke ha454 hke462 hg456 (by decide)
  have hk465 := ki_ke hk455 hke462
  have hg466 : tg σ460 a0 = -10 := ke_tg hke462 hg456 (by decide)
  have hg467 : tg σ460 (nx σ452) = 61 := tg_na e461
  have hln468 : σ460 (nx σ452) 1 0 = 7 := len_na e461
  refine z_putA (pc := 221) (t := 10) (k := 46) (κ := 1) K hw458 (by decide) hg466 zq10 (by decide) (by decide) kf_10_46 hg467 (hln468.trans kl_10_46.symm) q1457 (fun _ h => h) rfl hnm rfl dX11_init_221 (fun _ _ hw469 => ?_)
  obtain ⟨σ470, e471⟩ : ∃ z, z = att σ460 a0 46 (nx σ452) := ⟨_, rfl⟩
  have h := h σ470 e471
  have ha472 := at_att ha464 e471 (hw458.1.pos (by rw [hg467]; decide)).1 hg466 hg467 (by decide)
  have hw469 := wc_e e471 hw469
  have hk473 := ki_att2 hk465 hz463 e471
  have hg474 : tg σ470 a0 = -10 := tg_att e471 (by decide) hg466 hg467 (by decide)
  refine z_aload_n (pc := 224) K dX11_init_224 rfl (lv_at hl 0 rfl) ?_
  refine z_bipush (pc := 225) K dX11_init_225 (by decide) ?_
  obtain ⟨hle475, h⟩ := h
  refine z_newa (pc := 227) (atype := .int) (κ := 1) (N' := 7) K hw469 (by decide) rfl (fun _ => rfl) q298 ⟨by decide, by decide⟩ rfl (by decide) (cr_fit hcr459 (u := 7) ⟨by decide, by decide⟩ hle475) dX11_init_227 (fun _ hw476 => ?_)
  have hcr477 := cr_new hcr459 (n := 7) (u := 7) ⟨by decide, by decide⟩ hle475
  obtain ⟨σ478, e479⟩ : ∃ z, z = na σ470 1 7 := ⟨_, rfl⟩
  have h := h σ478 e479
  have hke480 : Ke σ470 σ478 := ke_na hw469 e479
  have hz481 : tg σ (nx σ470) = 0 := z0_ki hk473 (by rw [hg474]; decide) hw469.1.fresh
  have hw476 := wc_e e479 hw476
  have ha482 := at_ke ha472 hke480 hg474 (by decide)
  have hk483 := ki_ke hk473 hke480
  have hg484 : tg σ478 a0 = -10 := ke_tg hke480 hg474 (by decide)
  have hg485 : tg σ478 (nx σ470) = 61 := tg_na e479
  have hln486 : σ478 (nx σ470) 1 0 = 7 := len_na e479
  refine z_putA (pc := 229) (t := 10) (k := 47) (κ := 1) K hw476 (by decide) hg484 zq10 (by decide) (by decide) kf_10_47 hg485 (hln486.trans kl_10_47.symm) q1458 (fun _ h => h) rfl hnm rfl dX11_init_229 (fun _ _ hw487 => ?_)
  obtain ⟨σ488, e489⟩ : ∃ z, z = att σ478 a0 47 (nx σ470) := ⟨_, rfl⟩
  have h := h σ488 e489
  have ha490 := at_att ha482 e489 (hw476.1.pos (by rw [hg485]; decide)).1 hg484 hg485 (by decide)
  have hw487 := wc_e e489 hw487
  have hk491 := ki_att2 hk483 hz481 e489
  have hg492 : tg σ488 a0 = -10 := tg_att e489 (by decide) hg484 hg485 (by decide)
  refine z_aload_n (pc := 232) K dX11_init_232 rfl (lv_at hl 0 rfl) ?_
  refine z_bipush (pc := 233) K dX11_init_233 (by decide) ?_
  obtain ⟨hle493, h⟩ := h
  refine z_newa (pc := 235) (atype := .int) (κ := 1) (N' := 8) K hw487 (by decide) rfl (fun _ => rfl) q298 ⟨by decide, by decide⟩ rfl (by decide) (cr_fit hcr477 (u := 8) ⟨by decide, by decide⟩ hle493) dX11_init_235 (fun _ hw494 => ?_)
  have hcr495 := cr_new hcr477 (n := 8) (u := 8) ⟨by decide, by decide⟩ hle493
  obtain ⟨σ496, e497⟩ : ∃ z, z = na σ488 1 8 := ⟨_, rfl⟩
  have h := h σ496 e497
  have hke498 : Ke σ488 σ496 := ke_na hw487 e497
  have hz499 : tg σ (nx σ488) = 0 := z0_ki hk491 (by rw [hg492]; decide) hw487.1.fresh
  have hw494 := wc_e e497 hw494
  have ha500 := at_ke ha490 hke498 hg492 (by decide)
  have hk501 := ki_ke hk491 hke498
  have hg502 : tg σ496 a0 = -10 := ke_tg hke498 hg492 (by decide)
  have hg503 : tg σ496 (nx σ488) = 61 := tg_na e497
  have hln504 : σ496 (nx σ488) 1 0 = 8 := len_na e497
  refine z_putA (pc := 237) (t := 10) (k := 50) (κ := 1) K hw494 (by decide) hg502 zq10 (by decide) (by decide) kf_10_50 hg503 (hln504.trans kl_10_50.symm) q1461 (fun _ h => h) rfl hnm rfl dX11_init_237 (fun _ _ hw505 => ?_)
  obtain ⟨σ506, e507⟩ : ∃ z, z = att σ496 a0 50 (nx σ488) := ⟨_, rfl⟩
  have h := h σ506 e507
  have ha508 := at_att ha500 e507 (hw494.1.pos (by rw [hg503]; decide)).1 hg502 hg503 (by decide)
  have hw505 := wc_e e507 hw505
  have hk509 := ki_att2 hk501 hz499 e507
  have hg510 : tg σ506 a0 = -10 := tg_att e507 (by decide) hg502 hg503 (by decide)
  refine z_aload_n (pc := 240) K dX11_init_240 rfl (lv_at hl 0 rfl) ?_
  refine z_bipush (pc := 241) K dX11_init_241 (by decide) ?_
  obtain ⟨hle511, h⟩ := h
  refine z_newa (pc := 243) (atype := .int) (κ := 1) (N' := 8) K hw505 (by decide) rfl (fun _ => rfl) q298 ⟨by decide, by decide⟩ rfl (by decide) (cr_fit hcr495 (u := 8) ⟨by decide, by decide⟩ hle511) dX11_init_243 (fun _ hw512 => ?_)
  have hcr513 := cr_new hcr495 (n := 8) (u := 8) ⟨by decide, by decide⟩ hle511
  obtain ⟨σ514, e515⟩ : ∃ z, z = na σ506 1 8 := ⟨_, rfl⟩
  have h := h σ514 e515
  have hke516 : Ke σ506 σ514 := ke_na hw505 e515
  have hz517 : tg σ (nx σ506) = 0 := z0_ki hk509 (by rw [hg510]; decide) hw505.1.fresh
  have hw512 := wc_e e515 hw512
  have ha518 := at_ke ha508 hke516 hg510 (by decide)
  have hk519 := ki_ke hk509 hke516
  have hg520 : tg σ514 a0 = -10 := ke_tg hke516 hg510 (by decide)
  have hg521 : tg σ514 (nx σ506) = 61 := tg_na e515
  have hln522 : σ514 (nx σ506) 1 0 = 8 := len_na e515
  refine z_putA (pc := 245) (t := 10) (k := 51) (κ := 1) K hw512 (by decide) hg520 zq10 (by decide) (by decide) kf_10_51 hg521 (hln522.trans kl_10_51.symm) q1462 (fun _ h => h) rfl hnm rfl dX11_init_245 (fun _ _ hw523 => ?_)
  obtain ⟨σ524, e525⟩ : ∃ z, z = att σ514 a0 51 (nx σ506) := ⟨_, rfl⟩
  have h := h σ524 e525
  have ha526 := at_att ha518 e525 (hw512.1.pos (by rw [hg521]; decide)).1 hg520 hg521 (by decide)
  have hw523 := wc_e e525 hw523
  have hk527 := ki_att2 hk519 hz517 e525
  have hg528 : tg σ524 a0 = -10 := tg_att e525 (by decide) hg520 hg521 (by decide)
  refine z_aload_n (pc := 248) K dX11_init_248 rfl (lv_at hl 0 rfl) ?_
  refine z_sipush (pc := 249) K dX11_init_249 (by decide) ?_
  obtain ⟨hle529, h⟩ := h
  refine z_newa (pc := 252) (atype := .int) (κ := 1) (N' := 240) K hw523 (by decide) rfl (fun _ => rfl) q298 ⟨by decide, by decide⟩ rfl (by decide) (cr_fit hcr513 (u := 240) ⟨by decide, by decide⟩ hle529) dX11_init_252 (fun _ hw530 => ?_)
  have hcr531 := cr_new hcr513 (n := 240) (u := 240) ⟨by decide, by decide⟩ hle529
  obtain ⟨σ532, e533⟩ : ∃ z, z = na σ524 1 240 := ⟨_, rfl⟩
  have h := h σ532 e533
  have hke534 : Ke σ524 σ532 := ke_na hw523 e533
  have hz535 : tg σ (nx σ524) = 0 := z0_ki hk527 (by rw [hg528]; decide) hw523.1.fresh
  have hw530 := wc_e e533 hw530
  have ha536 := at_ke ha526 hke534 hg528 (by decide)
  have hk537 := ki_ke hk527 hke534
  have hg538 : tg σ532 a0 = -10 := ke_tg hke534 hg528 (by decide)
  have hg539 : tg σ532 (nx σ524) = 61 := tg_na e533
  have hln540 : σ532 (nx σ524) 1 0 = 240 := len_na e533
  refine z_putA (pc := 254) (t := 10) (k := 53) (κ := 1) K hw530 (by decide) hg538 zq10 (by decide) (by decide) kf_10_53 hg539 (hln540.trans kl_10_53.symm) q1464 (fun _ h => h) rfl hnm rfl dX11_init_254 (fun _ _ hw541 => ?_)
  obtain ⟨σ542, e543⟩ : ∃ z, z = att σ532 a0 53 (nx σ524) := ⟨_, rfl⟩
  have h := h σ542 e543
  have ha544 := at_att ha536 e543 (hw530.1.pos (by rw [hg539]; decide)).1 hg538 hg539 (by decide)
  have hw541 := wc_e e543 hw541
  have hk545 := ki_att2 hk537 hz535 e543
  have hg546 : tg σ542 a0 = -10 := tg_att e543 (by decide) hg538 hg539 (by decide)
  obtain ⟨hs549, h⟩ := h
  have hs549 := seal_1 hg546 (t := 10) (by decide) ha544 (by decide) hs549
  obtain ⟨σ547, e548⟩ : ∃ z, z = sealz σ542 [a0] := ⟨_, rfl⟩
  have h := h σ547 e548
  have hw552 := wc_seal hw541 e548 hs549
  have hk550 := ki_seal hk545 e548 (fun x hx => Or.inl (List.mem_singleton.mp hx))
  have hg551 : tg σ547 a0 = 10 := tg_seal e548 hg546 List.mem_cons_self
  exact za_vret (pc := 257) K hw552 hcr531 ⟨hk550, hg551, h⟩ dX11_init_257
