/-! printed by gen/walk.py -/
set_option maxRecDepth 100000
def wp_X4_back (σ : St) (a0 : Int) (x1 : Int) (x2 : Int) (Q : Int → Prop) : Prop :=
  (if σ a0 7 0 = 0 then
    (σ a0 6 0) ≠ 0 ∧ (σ a0 6 0) ≠ -1 ∧ (0 ≤ x1.tmod (σ a0 6 0) ∧ x1.tmod (σ a0 6 0) < 6) ∧ Q (σ a0 2 (x1.tmod (σ a0 6 0)))
    else
    (0 ≤ x2 ∧ x2 < 8) ∧ (σ a0 0 x2) ≠ -1 ∧ Q (σ (σ a0 0 x2) 1 0))
set_option maxHeartbeats 4000000 in
theorem met_X4_back (X : Cxt) (l : Launch) (σ : St) (a0 : Int) (x1 : Int) (x2 : Int) (ht0 : tg σ a0 = 4) (hx1 : rng x1) (hx2 : rng x2) (Q : Int → Prop) (h : wp_X4_back σ a0 x1 x2 Q) : MetT l yX4_back (ws_ yX4_back cX4_back 3 (some .int)) (zrm 1 0 0) (ZP X σ [jR X a0, jI x1, jI x2]) (ZQ X (qI (fun r σ' => σ' = σ ∧ Q r)) (fun _ _ => False)) 0 0 (zA X) := by
  refine z_start (own := "CombTable$Table") (lv := [(0, jR X a0), (1, jI x1), (2, jI x2)]) (by decide) rfl (by simp [lv_args, jR_cat, jI_cat, jL_cat]) (by simp [lg_sl, jR_cat, jI_cat, jL_cat]) (fun p e s m below meth c ls K _ _ hw hl => ?_)
  refine z_aload_n (pc := 0) K dX4_back_0 rfl (lv_at hl 0 rfl) ?_
  refine z_get (pc := 1) (t := 4) (k := 7) K hw (ob ht0) zq4 (by decide) q273 (fun _ h => h) dX4_back_1 (zval_z kf_4_7) ?_
  refine z_if_eq (pc := 4) (tgt := 19) K (b01r (z_rZ hw (ob (t := 4) ht0) kf_4_7)) dX4_back_4 (by decide) (fun hc1 => ?_) (fun hc1 => ?_)
  · have h := ite_t h hc1
    refine z_aload_n (pc := 19) K dX4_back_19 rfl (lv_at hl 0 rfl) ?_
    refine z_get (pc := 20) (t := 4) (k := 2) K hw (ob ht0) zq4 (by decide) q254 (fun _ h => h) dX4_back_20 (zval_p (κ := 1) kf_4_2) ?_
    refine lv_iload_n (pc := 23) K.x K.b dX4_back_23 rfl (lv_at hl 1 rfl) ?_
    refine z_aload_n (pc := 24) K dX4_back_24 rfl (lv_at hl 0 rfl) ?_
    refine z_get (pc := 25) (t := 4) (k := 6) K hw (ob ht0) zq4 (by decide) q270 (fun _ h => h) dX4_back_25 (zval_i kf_4_6) ?_
    obtain ⟨hd2, hd3, h⟩ := h
    refine z_irem (pc := 28) K hx1 (z_rI hw (ob (t := 4) ht0) kf_4_6) hd2 hd3 dX4_back_28 ?_
    obtain ⟨hj4, h⟩ := h
    refine z_iald (pc := 29) (t := 4) K hw ht0 ⟨by decide, by decide⟩ kf_4_2 kl_4_2 hj4 (by decide) dX4_back_29 ?_
    exact z_iret (pc := 30) K hw (z_elI (t := 4) hw ht0 ⟨by decide, by decide⟩ kf_4_2 kl_4_2 hj4) ⟨rfl, h⟩ dX4_back_30
  · have h := ite_f h hc1
    refine z_aload_n (pc := 7) K dX4_back_7 rfl (lv_at hl 0 rfl) ?_
    refine z_get (pc := 8) (t := 4) (k := 0) K hw (ob ht0) zq4 (by decide) q241 (fun _ h => h) dX4_back_8 (zval_p (κ := 5) kf_4_0) ?_
    refine lv_iload_n (pc := 11) K.x K.b dX4_back_11 rfl (lv_at hl 2 rfl) ?_
    obtain ⟨hj5, h⟩ := h
    refine z_aald (pc := 12) (t := 4) (κ := 5) K hw ht0 ⟨by decide, by decide⟩ kf_4_0 ⟨by decide, by decide⟩ kl_4_0 hj5 (by decide) dX4_back_12 ?_
    obtain ⟨hn7, h⟩ := h
    have hg6 : tg σ (σ a0 0 x2) = 11 := okR_nn hn7 (by decide) (by decide) (z_el (t := 4) (κ := 5) (r := 11) hw ht0 ⟨by decide, by decide⟩ kf_4_0 (by decide) kt_4_0 kl_4_0 hj5)
    refine z_getN (pc := 13) (t := 11) (k := 1) K hw (ob hg6) zq11 (by decide) q810 (fun _ h => h) dX4_back_13 (zval_i kf_11_1) ?_
    refine z_goto (pc := 16) (tgt := 30) K dX4_back_16 (by decide) ?_
    exact z_iret (pc := 30) K hw (z_rI hw (ob (t := 11) hg6) kf_11_1) ⟨rfl, h⟩ dX4_back_30
def wp_X3_answered (σ : St) (a0 : Int) (x1 : Int) (x2 : Int) (Q : Int → Prop) : Prop :=
  (0 ≤ x2 ∧ x2 < 10) ∧ (σ (σ a0 0 0) 1 x2) ≠ -1 ∧ (if σ (σ (σ a0 0 0) 1 x2) 1 0 = 2 then
    Q (-1)
    else
    wp_X4_back σ (σ a0 0 0) (σ a0 8 0) x1 (fun r6 => rng ((σ a0 8 0) - r6) ∧ (if (σ a0 8 0) - r6 < 0 then
      Q (-1)
      else
      Q ((σ a0 8 0) - r6))))
set_option maxHeartbeats 4000000 in
theorem met_X3_answered (X : Cxt) (l : Launch) (σ : St) (a0 : Int) (x1 : Int) (x2 : Int) (ht0 : tg σ a0 = 3) (hx1 : rng x1) (hx2 : rng x2) (Q : Int → Prop) (h : wp_X3_answered σ a0 x1 x2 Q) : MetT l yX3_answered (ws_ yX3_answered cX3_answered 4 (some .int)) (zrm 2 0 0) (ZP X σ [jR X a0, jI x1, jI x2]) (ZQ X (qI (fun r σ' => σ' = σ ∧ Q r)) (fun _ _ => False)) 0 0 (zA X) := by
  refine z_start (own := "CombTable$Talk") (lv := [(0, jR X a0), (1, jI x1), (2, jI x2)]) (by decide) rfl (by simp [lv_args, jR_cat, jI_cat, jL_cat]) (by simp [lg_sl, jR_cat, jI_cat, jL_cat]) (fun p e s m below meth c ls K _ _ hw hl => ?_)
  refine z_aload_n (pc := 0) K dX3_answered_0 rfl (lv_at hl 0 rfl) ?_
  refine z_get (pc := 1) (t := 3) (k := 0) K hw (ob ht0) zq3 (by decide) q299 (fun _ h => h) dX3_answered_1 (zval_r kf_3_0) ?_
  have hg1 : tg σ (σ a0 0 0) = 4 := (z_tg (t := 3) (r := 4) hw ht0 ⟨by decide, by decide⟩ kf_3_0 kn_3_0 kt_3_0 (by decide) (by decide))
  refine z_getN (pc := 4) (t := 4) (k := 1) K hw (ob hg1) zq4 (by decide) q252 (fun _ h => h) dX3_answered_4 (zval_p (κ := 6) kf_4_1) ?_
  refine lv_iload_n (pc := 7) K.x K.b dX3_answered_7 rfl (lv_at hl 2 rfl) ?_
  obtain ⟨hj2, h⟩ := h
  refine z_aald (pc := 8) (t := 4) (κ := 6) K hw hg1 ⟨by decide, by decide⟩ kf_4_1 ⟨by decide, by decide⟩ kl_4_1 hj2 (by decide) dX3_answered_8 ?_
  obtain ⟨hn4, h⟩ := h
  have hg3 : tg σ (σ (σ a0 0 0) 1 x2) = 12 := okR_nn hn4 (by decide) (by decide) (z_el (t := 4) (κ := 6) (r := 12) hw hg1 ⟨by decide, by decide⟩ kf_4_1 (by decide) kt_4_1 kl_4_1 hj2)
  refine z_getN (pc := 9) (t := 12) (k := 1) K hw (ob hg3) zq12 (by decide) q830 (fun _ h => h) dX3_answered_9 (zval_i kf_12_1) ?_
  refine z_iconst (pc := 12) K dX3_answered_12 ?_
  refine z_icmp_ne (pc := 13) (tgt := 18) K (z_rI hw (ob (t := 12) hg3) kf_12_1) ⟨by decide, by decide⟩ dX3_answered_13 (by decide) (fun hc5 => ?_) (fun hc5 => ?_)
  · have h := ite_t h hc5
    refine z_iconst (pc := 16) K dX3_answered_16 ?_
    exact z_iret (pc := 17) K hw ⟨by decide, by decide⟩ ⟨rfl, h⟩ dX3_answered_17
  · have h := ite_f h hc5
    refine z_aload_n (pc := 18) K dX3_answered_18 rfl (lv_at hl 0 rfl) ?_
    refine z_get (pc := 19) (t := 3) (k := 8) K hw (ob ht0) zq3 (by decide) q321 (fun _ h => h) dX3_answered_19 (zval_i kf_3_8) ?_
    refine z_aload_n (pc := 22) K dX3_answered_22 rfl (lv_at hl 0 rfl) ?_
    refine z_get (pc := 23) (t := 3) (k := 0) K hw (ob ht0) zq3 (by decide) q299 (fun _ h => h) dX3_answered_23 (zval_r kf_3_0) ?_
    refine z_aload_n (pc := 26) K dX3_answered_26 rfl (lv_at hl 0 rfl) ?_
    refine z_get (pc := 27) (t := 3) (k := 8) K hw (ob ht0) zq3 (by decide) q321 (fun _ h => h) dX3_answered_27 (zval_i kf_3_8) ?_
    refine lv_iload_n (pc := 30) K.x K.b dX3_answered_30 rfl (lv_at hl 1 rfl) ?_
    refine zr_i (pc := 31) (maxL := 3) K hw (met_X4_back X l σ (σ a0 0 0) (σ a0 8 0) x1 hg1 (z_rI hw (ob (t := 3) ht0) kf_3_8) hx1 _ h) (i_V (n := 2) (t := 4) (As := [jI (σ a0 8 0), jI x1]) K hw (ob hg1) zq4 (by decide) q923 q924 q925 (sg_of K q926) rfl rfl dX3_answered_31) (locw K q926 q95) ⟨by decide, by decide⟩ hl.1 dX3_answered_31 (Nat.le_of_ble_eq_true rfl) ⟨Nat.le_refl _, Nat.le_refl _⟩ (fun r6 _ _ hr7 h hw10 => ?_)
    refine z_isub (pc := 34) K dX3_answered_34 ?_
    refine lv_istore_n (pc := 35) (lv' := [(3, jI ((σ a0 8 0) - r6)), (0, jR X a0), (1, jI x1), (2, jI x2)]) K.x K.b dX3_answered_35 rfl hl (by decide) rfl (fun ls hl => ?_)
    refine lv_iload_n (pc := 36) K.x K.b dX3_answered_36 rfl (lv_at hl 0 rfl) ?_
    obtain ⟨hr12, h⟩ := h
    refine z_if_ge (pc := 37) (tgt := 44) K hr12 dX3_answered_37 (by decide) (fun hc11 => ?_) (fun hc11 => ?_)
    · have h := ite_t h hc11
      refine z_iconst (pc := 40) K dX3_answered_40 ?_
      refine z_goto (pc := 41) (tgt := 45) K dX3_answered_41 (by decide) ?_
      exact z_iret (pc := 45) K hw10 ⟨by decide, by decide⟩ ⟨rfl, h⟩ dX3_answered_45
    · have h := ite_f h hc11
      refine lv_iload_n (pc := 44) K.x K.b dX3_answered_44 rfl (lv_at hl 0 rfl) ?_
      exact z_iret (pc := 45) K hw10 hr12 ⟨rfl, h⟩ dX3_answered_45
def ws_X3_say : List (Int × Nat) := [(3, 1), (3, 2), (3, 3), (3, 4), (3, 5), (3, 6), (3, 7), (3, 8), (3, 9)]
theorem wo_X3_say : wsOk ws_X3_say = true := rfl
def wp_X3_say_b216 (a0 : Int) (x1 : Int) (x2 : Int) (Q : St → Prop) (σ0 : St) (σ : St) : Prop :=
  rng ((σ a0 8 0) + 1) ∧ ∀ σ3 : St, σ3 = st σ a0 8 0 ((σ a0 8 0) + 1) → Q σ3
def wp_X3_say_b215 (a0 : Int) (x1 : Int) (x2 : Int) (Q : St → Prop) (σ0 : St) (σ : St) (s1 : Int) (s2 : Int) : Prop :=
  (0 ≤ s1 ∧ s1 < 400) ∧ ∀ σ3 : St, σ3 = st σ a0 6 s1 s2 → (wp_X3_say_b216 a0 x1 x2 Q σ0 σ3)
def wp_X3_say_b142 (a0 : Int) (x1 : Int) (x2 : Int) (Q : St → Prop) (σ0 : St) (σ : St) (v3 : Int) (v4 : Int) (v5 : Int) (s1 : Int) (s2 : Int) : Prop :=
  (0 ≤ s1 ∧ s1 < 400) ∧ ∀ σ3 : St, σ3 = st σ a0 6 s1 s2 → (if v3 = (-1) then
    (wp_X3_say_b216 a0 x1 x2 Q σ0 σ3)
    else
    (0 ≤ v3 ∧ v3 < 400) ∧ (0 ≤ v4 ∧ v4 < 400) ∧ ∀ σ11 : St, σ11 = st σ3 a0 7 v4 (σ3 a0 6 v3) → (if 1 < v5 then
      (if v5 = 2 then
        (wp_X3_say_b215 a0 x1 x2 Q σ0 σ11 v3 2)
        else
        (if v5 = 3 then
          (wp_X3_say_b215 a0 x1 x2 Q σ0 σ11 v3 3)
          else
          (if v5 = 4 then
            (wp_X3_say_b215 a0 x1 x2 Q σ0 σ11 v3 5)
            else
            (if v5 = 5 then
              (wp_X3_say_b215 a0 x1 x2 Q σ0 σ11 v3 6)
              else
              (wp_X3_say_b215 a0 x1 x2 Q σ0 σ11 v3 7)))))
      else
      (wp_X3_say_b216 a0 x1 x2 Q σ0 σ11)))
def wp_X3_say_b101 (a0 : Int) (x1 : Int) (x2 : Int) (Q : St → Prop) (σ0 : St) (σ : St) (v3 : Int) (v4 : Int) : Prop :=
  (0 ≤ x2 ∧ x2 < 10) ∧ (σ (σ a0 0 0) 1 x2) ≠ -1 ∧ (if σ (σ (σ a0 0 0) 1 x2) 2 0 = 1 then
    (wp_X3_say_b142 a0 x1 x2 Q σ0 σ v3 v4 (σ (σ (σ a0 0 0) 1 x2) 2 0) v4 1)
    else
    (if σ (σ (σ a0 0 0) 1 x2) 2 0 = 2 then
      (wp_X3_say_b142 a0 x1 x2 Q σ0 σ v3 v4 (σ (σ (σ a0 0 0) 1 x2) 2 0) v4 4)
      else
      (wp_X3_say_b142 a0 x1 x2 Q σ0 σ v3 v4 (σ (σ (σ a0 0 0) 1 x2) 2 0) v4 0)))
def wp_X3_say_b85 (a0 : Int) (x1 : Int) (x2 : Int) (Q : St → Prop) (σ0 : St) (σ : St) (v3 : Int) (v4 : Int) (s1 : Int) (s2 : Int) : Prop :=
  (0 ≤ s1 ∧ s1 < 400) ∧ ∀ σ3 : St, σ3 = st σ a0 5 s1 s2 → (if v3 = (-1) then
    rng ((σ3 a0 9 0) + 1) ∧ ∀ σ10 : St, σ10 = st σ3 a0 9 0 ((σ3 a0 9 0) + 1) → (wp_X3_say_b101 a0 x1 x2 Q σ0 σ10 v3 v4)
    else
    (wp_X3_say_b101 a0 x1 x2 Q σ0 σ3 v3 v4))
def wp_X3_say_b61 (a0 : Int) (x1 : Int) (x2 : Int) (Q : St → Prop) (σ0 : St) (σ : St) (v3 : Int) (v4 : Int) (s1 : Int) (s2 : Int) : Prop :=
  (0 ≤ s1 ∧ s1 < 400) ∧ ∀ σ3 : St, σ3 = st σ a0 4 s1 s2 → (if v3 = (-1) then
    (wp_X3_say_b85 a0 x1 x2 Q σ0 σ3 v3 v4 v4 0)
    else
    (0 ≤ v3 ∧ v3 < 400) ∧ rng ((σ3 a0 5 v3) + 1) ∧ (wp_X3_say_b85 a0 x1 x2 Q σ0 σ3 v3 v4 v4 ((σ3 a0 5 v3) + 1)))
def wp_X3_say (σ : St) (a0 : Int) (x1 : Int) (x2 : Int) (Q : St → Prop) : Prop :=
  wp_X3_answered σ a0 x1 x2 (fun r1 => (0 ≤ σ a0 8 0 ∧ σ a0 8 0 < 400) ∧ ∀ σ8 : St, σ8 = st σ a0 1 (σ a0 8 0) x1 → ∀ σ13 : St, σ13 = st σ8 a0 2 (σ a0 8 0) x2 → ∀ σ18 : St, σ18 = st σ13 a0 3 (σ a0 8 0) r1 → (if r1 = (-1) then
    (wp_X3_say_b61 a0 x1 x2 Q σ σ18 r1 (σ a0 8 0) (σ a0 8 0) (σ18 a0 9 0))
    else
    (0 ≤ r1 ∧ r1 < 400) ∧ (wp_X3_say_b61 a0 x1 x2 Q σ σ18 r1 (σ a0 8 0) (σ a0 8 0) (σ18 a0 4 r1))))
set_option maxHeartbeats 4000000 in
theorem wk_X3_say_b216 {X : Cxt} {p : Program} {l : Launch} {e : Env} {s : State} {m : MethodId} {args : Array Value} {below : List Frame} {meth : Method} {c : Code} (a0 : Int) (x1 : Int) (x2 : Int) (Q : St → Prop) (σ0 : St) (K : MCx X p s m args meth c cX3_say 6 "CombTable$Talk" (none)) (hx1 : rng x1) (hx2 : rng x2) : ∀ (σ : St) (H : Heap) (locs : List Loc) (ls : Array Slot), wp_X3_say_b216 a0 x1 x2 Q σ0 σ → Wc X σ s.heap H locs → Kp ws_X3_say σ0 σ → tg σ a0 = 3 → lv_has ls 6 [(0, jR X a0)] → W p l e (zrm 3 0 0) s m args below meth c H locs 0 0 (MQT below (ZQ X (qV (fun σ' => Kp ws_X3_say σ0 σ' ∧ Q σ')) (fun _ _ => False)) args s 0 0 (zA X)) (F0 m 216 ls []) := by
  intro σ H locs ls h hw hk ht0 hl
  refine z_aload_n (pc := 216) K dX3_say_216 rfl (lv_at hl 0 rfl) ?_
  refine lv_dup (pc := 217) K.x K.b dX3_say_217 (jR_cat _ _) ?_
  refine z_get (pc := 218) (t := 3) (k := 8) K hw (ob ht0) zq3 (by decide) q321 (fun _ h => h) dX3_say_218 (zval_i kf_3_8) ?_
  refine z_iconst (pc := 221) K dX3_say_221 ?_
  refine z_iadd (pc := 222) K dX3_say_222 ?_
  obtain ⟨hr1, h⟩ := h
  refine z_puti (pc := 223) (t := 3) 8 K hw (ob ht0) zq3 (by decide) kf_3_8 zt_3_8 hr1 q321 (fun _ h => h) rfl dX3_say_223 (fun _ _ hw2 => ?_)
  obtain ⟨σ3, e4⟩ : ∃ z, z = st σ a0 8 0 ((σ a0 8 0) + 1) := ⟨_, rfl⟩
  have h := h σ3 e4
  have hw2 := wc_e e4 hw2
  have hk5 := kp_e e4 hk wo_X3_say (by decide) ht0 (t := 3) (by decide)
  have hg6 : tg σ3 a0 = 3 := (tg_e e4 (by decide)).trans ht0
  exact z_vret (pc := 226) K hw2 ⟨hk5, h⟩ dX3_say_226
set_option maxHeartbeats 4000000 in
theorem wk_X3_say_b215 {X : Cxt} {p : Program} {l : Launch} {e : Env} {s : State} {m : MethodId} {args : Array Value} {below : List Frame} {meth : Method} {c : Code} (a0 : Int) (x1 : Int) (x2 : Int) (Q : St → Prop) (σ0 : St) (K : MCx X p s m args meth c cX3_say 6 "CombTable$Talk" (none)) (hx1 : rng x1) (hx2 : rng x2) : ∀ (σ : St) (s1 : Int) (s2 : Int) (H : Heap) (locs : List Loc) (ls : Array Slot), wp_X3_say_b215 a0 x1 x2 Q σ0 σ s1 s2 → Wc X σ s.heap H locs → Kp ws_X3_say σ0 σ → tg σ a0 = 3 → rng s1 → rng s2 → lv_has ls 6 [(0, jR X a0)] → W p l e (zrm 3 0 0) s m args below meth c H locs 0 0 (MQT below (ZQ X (qV (fun σ' => Kp ws_X3_say σ0 σ' ∧ Q σ')) (fun _ _ => False)) args s 0 0 (zA X)) (F0 m 215 ls [jI s2, jI s1, jR X (σ a0 6 (-1))]) := by
  intro σ s1 s2 H locs ls h hw hk ht0 hs1 hs2 hl
  obtain ⟨hj1, h⟩ := h
  refine z_iast (pc := 215) (t := 3) K hw ht0 ⟨by decide, by decide⟩ kf_3_6 kl_3_6 hj1 (by decide) hs2 dX3_say_215 (fun _ _ hw2 => ?_)
  obtain ⟨σ3, e4⟩ : ∃ z, z = st σ a0 6 s1 s2 := ⟨_, rfl⟩
  have h := h σ3 e4
  have hw2 := wc_e e4 hw2
  have hk5 := kp_e e4 hk wo_X3_say hj1.1 ht0 (t := 3) (by decide)
  have hg6 : tg σ3 a0 = 3 := (tg_e e4 (by decide)).trans ht0
  exact wk_X3_say_b216 a0 x1 x2 Q σ0 K hx1 hx2 σ3 _ _ _ h hw2 hk5 hg6 (lv_sub hl [0] rfl)
set_option maxHeartbeats 4000000 in
theorem wk_X3_say_b142 {X : Cxt} {p : Program} {l : Launch} {e : Env} {s : State} {m : MethodId} {args : Array Value} {below : List Frame} {meth : Method} {c : Code} (a0 : Int) (x1 : Int) (x2 : Int) (Q : St → Prop) (σ0 : St) (K : MCx X p s m args meth c cX3_say 6 "CombTable$Talk" (none)) (hx1 : rng x1) (hx2 : rng x2) : ∀ (σ : St) (v3 : Int) (v4 : Int) (v5 : Int) (s1 : Int) (s2 : Int) (H : Heap) (locs : List Loc) (ls : Array Slot), wp_X3_say_b142 a0 x1 x2 Q σ0 σ v3 v4 v5 s1 s2 → Wc X σ s.heap H locs → Kp ws_X3_say σ0 σ → tg σ a0 = 3 → rng v3 → rng v4 → rng v5 → rng s1 → rng s2 → lv_has ls 6 [(0, jR X a0), (3, jI v3), (4, jI v4), (5, jI v5)] → W p l e (zrm 3 0 0) s m args below meth c H locs 0 0 (MQT below (ZQ X (qV (fun σ' => Kp ws_X3_say σ0 σ' ∧ Q σ')) (fun _ _ => False)) args s 0 0 (zA X)) (F0 m 142 ls [jI s2, jI s1, jR X (σ a0 6 (-1))]) := by
  intro σ v3 v4 v5 s1 s2 H locs ls h hw hk ht0 hv3 hv4 hv5 hs1 hs2 hl
  obtain ⟨hj1, h⟩ := h
  refine z_iast (pc := 142) (t := 3) K hw ht0 ⟨by decide, by decide⟩ kf_3_6 kl_3_6 hj1 (by decide) hs2 dX3_say_142 (fun _ _ hw2 => ?_)
  obtain ⟨σ3, e4⟩ : ∃ z, z = st σ a0 6 s1 s2 := ⟨_, rfl⟩
  have h := h σ3 e4
  have hw2 := wc_e e4 hw2
  have hk5 := kp_e e4 hk wo_X3_say hj1.1 ht0 (t := 3) (by decide)
  have hg6 : tg σ3 a0 = 3 := (tg_e e4 (by decide)).trans ht0
  refine lv_iload_n (pc := 143) K.x K.b dX3_say_143 rfl (lv_at hl 1 rfl) ?_
  refine z_iconst (pc := 144) K dX3_say_144 ?_
  refine z_icmp_eq (pc := 145) (tgt := 216) K hv3 ⟨by decide, by decide⟩ dX3_say_145 (by decide) (fun hc7 => ?_) (fun hc7 => ?_)
  · have h := ite_t h hc7
    exact wk_X3_say_b216 a0 x1 x2 Q σ0 K hx1 hx2 σ3 _ _ _ h hw2 hk5 hg6 (lv_sub hl [0] rfl)
  · have h := ite_f h hc7
    refine z_aload_n (pc := 148) K dX3_say_148 rfl (lv_at hl 0 rfl) ?_
    refine z_get (pc := 149) (t := 3) (k := 7) K hw2 (ob hg6) zq3 (by decide) q320 (fun _ h => h) dX3_say_149 (zval_p (κ := 1) kf_3_7) ?_
    refine lv_iload (pc := 152) K.x K.b dX3_say_152 (lv_at hl 2 rfl) ?_
    refine z_aload_n (pc := 154) K dX3_say_154 rfl (lv_at hl 0 rfl) ?_
    refine z_get (pc := 155) (t := 3) (k := 6) K hw2 (ob hg6) zq3 (by decide) q319 (fun _ h => h) dX3_say_155 (zval_p (κ := 1) kf_3_6) ?_
    refine lv_iload_n (pc := 158) K.x K.b dX3_say_158 rfl (lv_at hl 1 rfl) ?_
    obtain ⟨hj8, h⟩ := h
    refine z_iald (pc := 159) (t := 3) K hw2 hg6 ⟨by decide, by decide⟩ kf_3_6 kl_3_6 hj8 (by decide) dX3_say_159 ?_
    obtain ⟨hj9, h⟩ := h
    refine z_iast (pc := 160) (t := 3) K hw2 hg6 ⟨by decide, by decide⟩ kf_3_7 kl_3_7 hj9 (by decide) (z_elI (t := 3) hw2 hg6 ⟨by decide, by decide⟩ kf_3_6 kl_3_6 hj8) dX3_say_160 (fun _ _ hw10 => ?_)
    obtain ⟨σ11, e12⟩ : ∃ z, z = st σ3 a0 7 v4 (σ3 a0 6 v3) := ⟨_, rfl⟩
    have h := h σ11 e12
    have hw10 := wc_e e12 hw10
    have hk13 := kp_e e12 hk5 wo_X3_say hj9.1 hg6 (t := 3) (by decide)
    have hg14 : tg σ11 a0 = 3 := (tg_e e12 (by decide)).trans hg6
    refine lv_iload (pc := 161) K.x K.b dX3_say_161 (lv_at hl 3 rfl) ?_
    refine z_iconst (pc := 163) K dX3_say_163 ?_
    refine z_icmp_le (pc := 164) (tgt := 216) K hv5 ⟨by decide, by decide⟩ dX3_say_164 (by decide) (fun hc15 => ?_) (fun hc15 => ?_)
    · have h := ite_t h hc15
      refine z_aload_n (pc := 167) K dX3_say_167 rfl (lv_at hl 0 rfl) ?_
      refine z_get (pc := 168) (t := 3) (k := 6) K hw10 (ob hg14) zq3 (by decide) q319 (fun _ h => h) dX3_say_168 (zval_p (κ := 1) kf_3_6) ?_
      refine lv_iload_n (pc := 171) K.x K.b dX3_say_171 rfl (lv_at hl 1 rfl) ?_
      refine lv_iload (pc := 172) K.x K.b dX3_say_172 (lv_at hl 3 rfl) ?_
      refine z_iconst (pc := 174) K dX3_say_174 ?_
      refine z_icmp_ne (pc := 175) (tgt := 182) K hv5 ⟨by decide, by decide⟩ dX3_say_175 (by decide) (fun hc16 => ?_) (fun hc16 => ?_)
      · have h := ite_t h hc16
        refine z_iconst (pc := 178) K dX3_say_178 ?_
        refine z_goto (pc := 179) (tgt := 215) K dX3_say_179 (by decide) ?_
        exact wk_X3_say_b215 a0 x1 x2 Q σ0 K hx1 hx2 σ11 v3 2 _ _ _ h hw10 hk13 hg14 hv3 ⟨by decide, by decide⟩ (lv_sub hl [0] rfl)
      · have h := ite_f h hc16
        refine lv_iload (pc := 182) K.x K.b dX3_say_182 (lv_at hl 3 rfl) ?_
        refine z_iconst (pc := 184) K dX3_say_184 ?_
        refine z_icmp_ne (pc := 185) (tgt := 192) K hv5 ⟨by decide, by decide⟩ dX3_say_185 (by decide) (fun hc17 => ?_) (fun hc17 => ?_)
        · have h := ite_t h hc17
          refine z_iconst (pc := 188) K dX3_say_188 ?_
          refine z_goto (pc := 189) (tgt := 215) K dX3_say_189 (by decide) ?_
          exact wk_X3_say_b215 a0 x1 x2 Q σ0 K hx1 hx2 σ11 v3 3 _ _ _ h hw10 hk13 hg14 hv3 ⟨by decide, by decide⟩ (lv_sub hl [0] rfl)
        · have h := ite_f h hc17
          refine lv_iload (pc := 192) K.x K.b dX3_say_192 (lv_at hl 3 rfl) ?_
          refine z_iconst (pc := 194) K dX3_say_194 ?_
          refine z_icmp_ne (pc := 195) (tgt := 202) K hv5 ⟨by decide, by decide⟩ dX3_say_195 (by decide) (fun hc18 => ?_) (fun hc18 => ?_)
          · have h := ite_t h hc18
            refine z_iconst (pc := 198) K dX3_say_198 ?_
            refine z_goto (pc := 199) (tgt := 215) K dX3_say_199 (by decide) ?_
            exact wk_X3_say_b215 a0 x1 x2 Q σ0 K hx1 hx2 σ11 v3 5 _ _ _ h hw10 hk13 hg14 hv3 ⟨by decide, by decide⟩ (lv_sub hl [0] rfl)
          · have h := ite_f h hc18
            refine lv_iload (pc := 202) K.x K.b dX3_say_202 (lv_at hl 3 rfl) ?_
            refine z_iconst (pc := 204) K dX3_say_204 ?_
            refine z_icmp_ne (pc := 205) (tgt := 213) K hv5 ⟨by decide, by decide⟩ dX3_say_205 (by decide) (fun hc19 => ?_) (fun hc19 => ?_)
            · have h := ite_t h hc19
              refine z_bipush (pc := 208) K dX3_say_208 (by decide) ?_
              refine z_goto (pc := 210) (tgt := 215) K dX3_say_210 (by decide) ?_
              exact wk_X3_say_b215 a0 x1 x2 Q σ0 K hx1 hx2 σ11 v3 6 _ _ _ h hw10 hk13 hg14 hv3 ⟨by decide, by decide⟩ (lv_sub hl [0] rfl)
            · have h := ite_f h hc19
              refine z_bipush (pc := 213) K dX3_say_213 (by decide) ?_
              exact wk_X3_say_b215 a0 x1 x2 Q σ0 K hx1 hx2 σ11 v3 7 _ _ _ h hw10 hk13 hg14 hv3 ⟨by decide, by decide⟩ (lv_sub hl [0] rfl)
    · have h := ite_f h hc15
      exact wk_X3_say_b216 a0 x1 x2 Q σ0 K hx1 hx2 σ11 _ _ _ h hw10 hk13 hg14 (lv_sub hl [0] rfl)
set_option maxHeartbeats 4000000 in
theorem wk_X3_say_b101 {X : Cxt} {p : Program} {l : Launch} {e : Env} {s : State} {m : MethodId} {args : Array Value} {below : List Frame} {meth : Method} {c : Code} (a0 : Int) (x1 : Int) (x2 : Int) (Q : St → Prop) (σ0 : St) (K : MCx X p s m args meth c cX3_say 6 "CombTable$Talk" (none)) (hx1 : rng x1) (hx2 : rng x2) : ∀ (σ : St) (v3 : Int) (v4 : Int) (H : Heap) (locs : List Loc) (ls : Array Slot), wp_X3_say_b101 a0 x1 x2 Q σ0 σ v3 v4 → Wc X σ s.heap H locs → Kp ws_X3_say σ0 σ → tg σ a0 = 3 → rng v3 → rng v4 → lv_has ls 6 [(0, jR X a0), (2, jI x2), (3, jI v3), (4, jI v4)] → W p l e (zrm 3 0 0) s m args below meth c H locs 0 0 (MQT below (ZQ X (qV (fun σ' => Kp ws_X3_say σ0 σ' ∧ Q σ')) (fun _ _ => False)) args s 0 0 (zA X)) (F0 m 101 ls []) := by
  intro σ v3 v4 H locs ls h hw hk ht0 hv3 hv4 hl
  refine z_aload_n (pc := 101) K dX3_say_101 rfl (lv_at hl 0 rfl) ?_
  refine z_get (pc := 102) (t := 3) (k := 0) K hw (ob ht0) zq3 (by decide) q299 (fun _ h => h) dX3_say_102 (zval_r kf_3_0) ?_
  have hg1 : tg σ (σ a0 0 0) = 4 := (z_tg (t := 3) (r := 4) hw ht0 ⟨by decide, by decide⟩ kf_3_0 kn_3_0 kt_3_0 (by decide) (by decide))
  refine z_getN (pc := 105) (t := 4) (k := 1) K hw (ob hg1) zq4 (by decide) q252 (fun _ h => h) dX3_say_105 (zval_p (κ := 6) kf_4_1) ?_
  refine lv_iload_n (pc := 108) K.x K.b dX3_say_108 rfl (lv_at hl 1 rfl) ?_
  obtain ⟨hj2, h⟩ := h
  refine z_aald (pc := 109) (t := 4) (κ := 6) K hw hg1 ⟨by decide, by decide⟩ kf_4_1 ⟨by decide, by decide⟩ kl_4_1 hj2 (by decide) dX3_say_109 ?_
  obtain ⟨hn4, h⟩ := h
  have hg3 : tg σ (σ (σ a0 0 0) 1 x2) = 12 := okR_nn hn4 (by decide) (by decide) (z_el (t := 4) (κ := 6) (r := 12) hw hg1 ⟨by decide, by decide⟩ kf_4_1 (by decide) kt_4_1 kl_4_1 hj2)
  refine z_getN (pc := 110) (t := 12) (k := 2) K hw (ob hg3) zq12 (by decide) q833 (fun _ h => h) dX3_say_110 (zval_i kf_12_2) ?_
  refine lv_istore (pc := 113) (lv' := [(5, jI (σ (σ (σ a0 0 0) 1 x2) 2 0)), (0, jR X a0), (2, jI x2), (3, jI v3), (4, jI v4)]) K.x K.b dX3_say_113 hl (by decide) rfl (fun ls hl => ?_)
  refine z_aload_n (pc := 115) K dX3_say_115 rfl (lv_at hl 1 rfl) ?_
  refine z_get (pc := 116) (t := 3) (k := 6) K hw (ob ht0) zq3 (by decide) q319 (fun _ h => h) dX3_say_116 (zval_p (κ := 1) kf_3_6) ?_
  refine lv_iload (pc := 119) K.x K.b dX3_say_119 (lv_at hl 4 rfl) ?_
  refine lv_iload (pc := 121) K.x K.b dX3_say_121 (lv_at hl 0 rfl) ?_
  refine z_iconst (pc := 123) K dX3_say_123 ?_
  refine z_icmp_ne (pc := 124) (tgt := 131) K (z_rI hw (ob (t := 12) hg3) kf_12_2) ⟨by decide, by decide⟩ dX3_say_124 (by decide) (fun hc5 => ?_) (fun hc5 => ?_)
  · have h := ite_t h hc5
    refine z_iconst (pc := 127) K dX3_say_127 ?_
    refine z_goto (pc := 128) (tgt := 142) K dX3_say_128 (by decide) ?_
    exact wk_X3_say_b142 a0 x1 x2 Q σ0 K hx1 hx2 σ v3 v4 (σ (σ (σ a0 0 0) 1 x2) 2 0) v4 1 _ _ _ h hw hk ht0 hv3 hv4 (z_rI hw (ob (t := 12) hg3) kf_12_2) hv4 ⟨by decide, by decide⟩ (lv_sub hl [1, 3, 4, 0] rfl)
  · have h := ite_f h hc5
    refine lv_iload (pc := 131) K.x K.b dX3_say_131 (lv_at hl 0 rfl) ?_
    refine z_iconst (pc := 133) K dX3_say_133 ?_
    refine z_icmp_ne (pc := 134) (tgt := 141) K (z_rI hw (ob (t := 12) hg3) kf_12_2) ⟨by decide, by decide⟩ dX3_say_134 (by decide) (fun hc6 => ?_) (fun hc6 => ?_)
    · have h := ite_t h hc6
      refine z_iconst (pc := 137) K dX3_say_137 ?_
      refine z_goto (pc := 138) (tgt := 142) K dX3_say_138 (by decide) ?_
      exact wk_X3_say_b142 a0 x1 x2 Q σ0 K hx1 hx2 σ v3 v4 (σ (σ (σ a0 0 0) 1 x2) 2 0) v4 4 _ _ _ h hw hk ht0 hv3 hv4 (z_rI hw (ob (t := 12) hg3) kf_12_2) hv4 ⟨by decide, by decide⟩ (lv_sub hl [1, 3, 4, 0] rfl)
    · have h := ite_f h hc6
      refine z_iconst (pc := 141) K dX3_say_141 ?_
      exact wk_X3_say_b142 a0 x1 x2 Q σ0 K hx1 hx2 σ v3 v4 (σ (σ (σ a0 0 0) 1 x2) 2 0) v4 0 _ _ _ h hw hk ht0 hv3 hv4 (z_rI hw (ob (t := 12) hg3) kf_12_2) hv4 ⟨by decide, by decide⟩ (lv_sub hl [1, 3, 4, 0] rfl)
set_option maxHeartbeats 4000000 in
theorem wk_X3_say_b85 {X : Cxt} {p : Program} {l : Launch} {e : Env} {s : State} {m : MethodId} {args : Array Value} {below : List Frame} {meth : Method} {c : Code} (a0 : Int) (x1 : Int) (x2 : Int) (Q : St → Prop) (σ0 : St) (K : MCx X p s m args meth c cX3_say 6 "CombTable$Talk" (none)) (hx1 : rng x1) (hx2 : rng x2) : ∀ (σ : St) (v3 : Int) (v4 : Int) (s1 : Int) (s2 : Int) (H : Heap) (locs : List Loc) (ls : Array Slot), wp_X3_say_b85 a0 x1 x2 Q σ0 σ v3 v4 s1 s2 → Wc X σ s.heap H locs → Kp ws_X3_say σ0 σ → tg σ a0 = 3 → rng v3 → rng v4 → rng s1 → rng s2 → lv_has ls 6 [(0, jR X a0), (2, jI x2), (3, jI v3), (4, jI v4)] → W p l e (zrm 3 0 0) s m args below meth c H locs 0 0 (MQT below (ZQ X (qV (fun σ' => Kp ws_X3_say σ0 σ' ∧ Q σ')) (fun _ _ => False)) args s 0 0 (zA X)) (F0 m 85 ls [jI s2, jI s1, jR X (σ a0 5 (-1))]) := by
  intro σ v3 v4 s1 s2 H locs ls h hw hk ht0 hv3 hv4 hs1 hs2 hl
  obtain ⟨hj1, h⟩ := h
  refine z_iast (pc := 85) (t := 3) K hw ht0 ⟨by decide, by decide⟩ kf_3_5 kl_3_5 hj1 (by decide) hs2 dX3_say_85 (fun _ _ hw2 => ?_)
  obtain ⟨σ3, e4⟩ : ∃ z, z = st σ a0 5 s1 s2 := ⟨_, rfl⟩
  have h := h σ3 e4
  have hw2 := wc_e e4 hw2
  have hk5 := kp_e e4 hk wo_X3_say hj1.1 ht0 (t := 3) (by decide)
  have hg6 : tg σ3 a0 = 3 := (tg_e e4 (by decide)).trans ht0
  refine lv_iload_n (pc := 86) K.x K.b dX3_say_86 rfl (lv_at hl 2 rfl) ?_
  refine z_iconst (pc := 87) K dX3_say_87 ?_
  refine z_icmp_ne (pc := 88) (tgt := 101) K hv3 ⟨by decide, by decide⟩ dX3_say_88 (by decide) (fun hc7 => ?_) (fun hc7 => ?_)
  · have h := ite_t h hc7
    refine z_aload_n (pc := 91) K dX3_say_91 rfl (lv_at hl 0 rfl) ?_
    refine lv_dup (pc := 92) K.x K.b dX3_say_92 (jR_cat _ _) ?_
    refine z_get (pc := 93) (t := 3) (k := 9) K hw2 (ob hg6) zq3 (by decide) q324 (fun _ h => h) dX3_say_93 (zval_i kf_3_9) ?_
    refine z_iconst (pc := 96) K dX3_say_96 ?_
    refine z_iadd (pc := 97) K dX3_say_97 ?_
    obtain ⟨hr8, h⟩ := h
    refine z_puti (pc := 98) (t := 3) 9 K hw2 (ob hg6) zq3 (by decide) kf_3_9 zt_3_9 hr8 q324 (fun _ h => h) rfl dX3_say_98 (fun _ _ hw9 => ?_)
    obtain ⟨σ10, e11⟩ : ∃ z, z = st σ3 a0 9 0 ((σ3 a0 9 0) + 1) := ⟨_, rfl⟩
    have h := h σ10 e11
    have hw9 := wc_e e11 hw9
    have hk12 := kp_e e11 hk5 wo_X3_say (by decide) hg6 (t := 3) (by decide)
    have hg13 : tg σ10 a0 = 3 := (tg_e e11 (by decide)).trans hg6
    exact wk_X3_say_b101 a0 x1 x2 Q σ0 K hx1 hx2 σ10 v3 v4 _ _ _ h hw9 hk12 hg13 hv3 hv4 (lv_sub hl [0, 1, 2, 3] rfl)
  · have h := ite_f h hc7
    exact wk_X3_say_b101 a0 x1 x2 Q σ0 K hx1 hx2 σ3 v3 v4 _ _ _ h hw2 hk5 hg6 hv3 hv4 (lv_sub hl [0, 1, 2, 3] rfl)
set_option maxHeartbeats 4000000 in
theorem wk_X3_say_b61 {X : Cxt} {p : Program} {l : Launch} {e : Env} {s : State} {m : MethodId} {args : Array Value} {below : List Frame} {meth : Method} {c : Code} (a0 : Int) (x1 : Int) (x2 : Int) (Q : St → Prop) (σ0 : St) (K : MCx X p s m args meth c cX3_say 6 "CombTable$Talk" (none)) (hx1 : rng x1) (hx2 : rng x2) : ∀ (σ : St) (v3 : Int) (v4 : Int) (s1 : Int) (s2 : Int) (H : Heap) (locs : List Loc) (ls : Array Slot), wp_X3_say_b61 a0 x1 x2 Q σ0 σ v3 v4 s1 s2 → Wc X σ s.heap H locs → Kp ws_X3_say σ0 σ → tg σ a0 = 3 → rng v3 → rng v4 → rng s1 → rng s2 → lv_has ls 6 [(0, jR X a0), (2, jI x2), (3, jI v3), (4, jI v4)] → W p l e (zrm 3 0 0) s m args below meth c H locs 0 0 (MQT below (ZQ X (qV (fun σ' => Kp ws_X3_say σ0 σ' ∧ Q σ')) (fun _ _ => False)) args s 0 0 (zA X)) (F0 m 61 ls [jI s2, jI s1, jR X (σ a0 4 (-1))]) := by
  intro σ v3 v4 s1 s2 H locs ls h hw hk ht0 hv3 hv4 hs1 hs2 hl
  obtain ⟨hj1, h⟩ := h
  refine z_iast (pc := 61) (t := 3) K hw ht0 ⟨by decide, by decide⟩ kf_3_4 kl_3_4 hj1 (by decide) hs2 dX3_say_61 (fun _ _ hw2 => ?_)
  obtain ⟨σ3, e4⟩ : ∃ z, z = st σ a0 4 s1 s2 := ⟨_, rfl⟩
  have h := h σ3 e4
  have hw2 := wc_e e4 hw2
  have hk5 := kp_e e4 hk wo_X3_say hj1.1 ht0 (t := 3) (by decide)
  have hg6 : tg σ3 a0 = 3 := (tg_e e4 (by decide)).trans ht0
  refine z_aload_n (pc := 62) K dX3_say_62 rfl (lv_at hl 0 rfl) ?_
  refine z_get (pc := 63) (t := 3) (k := 5) K hw2 (ob hg6) zq3 (by decide) q316 (fun _ h => h) dX3_say_63 (zval_p (κ := 1) kf_3_5) ?_
  refine lv_iload (pc := 66) K.x K.b dX3_say_66 (lv_at hl 3 rfl) ?_
  refine lv_iload_n (pc := 68) K.x K.b dX3_say_68 rfl (lv_at hl 2 rfl) ?_
  refine z_iconst (pc := 69) K dX3_say_69 ?_
  refine z_icmp_ne (pc := 70) (tgt := 77) K hv3 ⟨by decide, by decide⟩ dX3_say_70 (by decide) (fun hc7 => ?_) (fun hc7 => ?_)
  · have h := ite_t h hc7
    refine z_iconst (pc := 73) K dX3_say_73 ?_
    refine z_goto (pc := 74) (tgt := 85) K dX3_say_74 (by decide) ?_
    exact wk_X3_say_b85 a0 x1 x2 Q σ0 K hx1 hx2 σ3 v3 v4 v4 0 _ _ _ h hw2 hk5 hg6 hv3 hv4 hv4 ⟨by decide, by decide⟩ (lv_sub hl [0, 1, 2, 3] rfl)
  · have h := ite_f h hc7
    refine z_aload_n (pc := 77) K dX3_say_77 rfl (lv_at hl 0 rfl) ?_
    refine z_get (pc := 78) (t := 3) (k := 5) K hw2 (ob hg6) zq3 (by decide) q316 (fun _ h => h) dX3_say_78 (zval_p (κ := 1) kf_3_5) ?_
    refine lv_iload_n (pc := 81) K.x K.b dX3_say_81 rfl (lv_at hl 2 rfl) ?_
    obtain ⟨hj8, h⟩ := h
    refine z_iald (pc := 82) (t := 3) K hw2 hg6 ⟨by decide, by decide⟩ kf_3_5 kl_3_5 hj8 (by decide) dX3_say_82 ?_
    refine z_iconst (pc := 83) K dX3_say_83 ?_
    refine z_iadd (pc := 84) K dX3_say_84 ?_
    obtain ⟨hr9, h⟩ := h
    exact wk_X3_say_b85 a0 x1 x2 Q σ0 K hx1 hx2 σ3 v3 v4 v4 ((σ3 a0 5 v3) + 1) _ _ _ h hw2 hk5 hg6 hv3 hv4 hv4 hr9 (lv_sub hl [0, 1, 2, 3] rfl)
set_option maxHeartbeats 4000000 in
theorem met_X3_say (X : Cxt) (l : Launch) (σ : St) (a0 : Int) (x1 : Int) (x2 : Int) (ht0 : tg σ a0 = 3) (hx1 : rng x1) (hx2 : rng x2) (Q : St → Prop) (h : wp_X3_say σ a0 x1 x2 Q) : MetT l yX3_say (ws_ yX3_say cX3_say 6 (none)) (zrm 3 0 0) (ZP X σ [jR X a0, jI x1, jI x2]) (ZQ X (qV (fun σ' => Kp ws_X3_say σ σ' ∧ Q σ')) (fun _ _ => False)) 0 0 (zA X) := by
  refine z_start (own := "CombTable$Talk") (lv := [(0, jR X a0), (1, jI x1), (2, jI x2)]) (by decide) rfl (by simp [lv_args, jR_cat, jI_cat, jL_cat]) (by simp [lg_sl, jR_cat, jI_cat, jL_cat]) (fun p e s m below meth c ls K _ _ hw hl => ?_)
  have hk : Kp ws_X3_say σ σ := kp_rf σ
  refine z_aload_n (pc := 0) K dX3_say_0 rfl (lv_at hl 0 rfl) ?_
  refine lv_iload_n (pc := 1) K.x K.b dX3_say_1 rfl (lv_at hl 1 rfl) ?_
  refine lv_iload_n (pc := 2) K.x K.b dX3_say_2 rfl (lv_at hl 2 rfl) ?_
  refine zr_i (pc := 3) (maxL := 4) K hw (met_X3_answered X l σ a0 x1 x2 ht0 hx1 hx2 _ h) (i_V (n := 2) (t := 3) (As := [jI x1, jI x2]) K hw (ob ht0) zq3 (by decide) q919 q921 qs7 (sg_of K q922) rfl rfl dX3_say_3) (locw K q922 q94) ⟨by decide, by decide⟩ hl.1 dX3_say_3 (Nat.le_of_ble_eq_true rfl) ⟨Nat.le_refl _, Nat.le_refl _⟩ (fun r1 _ _ hr2 h hw5 => ?_)
  refine lv_istore_n (pc := 6) (lv' := [(3, jI r1), (0, jR X a0), (1, jI x1), (2, jI x2)]) K.x K.b dX3_say_6 rfl hl (by decide) rfl (fun ls hl => ?_)
  refine z_aload_n (pc := 7) K dX3_say_7 rfl (lv_at hl 1 rfl) ?_
  refine z_get (pc := 8) (t := 3) (k := 8) K hw5 (ob ht0) zq3 (by decide) q321 (fun _ h => h) dX3_say_8 (zval_i kf_3_8) ?_
  refine lv_istore (pc := 11) (lv' := [(4, jI (σ a0 8 0)), (3, jI r1), (0, jR X a0), (1, jI x1), (2, jI x2)]) K.x K.b dX3_say_11 hl (by decide) rfl (fun ls hl => ?_)
  refine z_aload_n (pc := 13) K dX3_say_13 rfl (lv_at hl 2 rfl) ?_
  refine z_get (pc := 14) (t := 3) (k := 1) K hw5 (ob ht0) zq3 (by decide) q304 (fun _ h => h) dX3_say_14 (zval_p (κ := 1) kf_3_1) ?_
  refine lv_iload (pc := 17) K.x K.b dX3_say_17 (lv_at hl 0 rfl) ?_
  refine lv_iload_n (pc := 19) K.x K.b dX3_say_19 rfl (lv_at hl 3 rfl) ?_
  obtain ⟨hj6, h⟩ := h
  refine z_iast (pc := 20) (t := 3) K hw5 ht0 ⟨by decide, by decide⟩ kf_3_1 kl_3_1 hj6 (by decide) hx1 dX3_say_20 (fun _ _ hw7 => ?_)
  obtain ⟨σ8, e9⟩ : ∃ z, z = st σ a0 1 (σ a0 8 0) x1 := ⟨_, rfl⟩
  have h := h σ8 e9
  have hw7 := wc_e e9 hw7
  have hk10 := kp_e e9 hk wo_X3_say hj6.1 ht0 (t := 3) (by decide)
  have hg11 : tg σ8 a0 = 3 := (tg_e e9 (by decide)).trans ht0
  refine z_aload_n (pc := 21) K dX3_say_21 rfl (lv_at hl 2 rfl) ?_
  refine z_get (pc := 22) (t := 3) (k := 2) K hw7 (ob hg11) zq3 (by decide) q307 (fun _ h => h) dX3_say_22 (zval_p (κ := 1) kf_3_2) ?_
  refine lv_iload (pc := 25) K.x K.b dX3_say_25 (lv_at hl 0 rfl) ?_
  refine lv_iload_n (pc := 27) K.x K.b dX3_say_27 rfl (lv_at hl 4 rfl) ?_
  refine z_iast (pc := 28) (t := 3) K hw7 hg11 ⟨by decide, by decide⟩ kf_3_2 kl_3_2 hj6 (by decide) hx2 dX3_say_28 (fun _ _ hw12 => ?_)
  obtain ⟨σ13, e14⟩ : ∃ z, z = st σ8 a0 2 (σ a0 8 0) x2 := ⟨_, rfl⟩
  have h := h σ13 e14
  have hw12 := wc_e e14 hw12
  have hk15 := kp_e e14 hk10 wo_X3_say hj6.1 hg11 (t := 3) (by decide)
  have hg16 : tg σ13 a0 = 3 := (tg_e e14 (by decide)).trans hg11
  refine z_aload_n (pc := 29) K dX3_say_29 rfl (lv_at hl 2 rfl) ?_
  refine z_get (pc := 30) (t := 3) (k := 3) K hw12 (ob hg16) zq3 (by decide) q310 (fun _ h => h) dX3_say_30 (zval_p (κ := 1) kf_3_3) ?_
  refine lv_iload (pc := 33) K.x K.b dX3_say_33 (lv_at hl 0 rfl) ?_
  refine lv_iload_n (pc := 35) K.x K.b dX3_say_35 rfl (lv_at hl 1 rfl) ?_
  refine z_iast (pc := 36) (t := 3) K hw12 hg16 ⟨by decide, by decide⟩ kf_3_3 kl_3_3 hj6 (by decide) hr2 dX3_say_36 (fun _ _ hw17 => ?_)
  obtain ⟨σ18, e19⟩ : ∃ z, z = st σ13 a0 3 (σ a0 8 0) r1 := ⟨_, rfl⟩
  have h := h σ18 e19
  have hw17 := wc_e e19 hw17
  have hk20 := kp_e e19 hk15 wo_X3_say hj6.1 hg16 (t := 3) (by decide)
  have hg21 : tg σ18 a0 = 3 := (tg_e e19 (by decide)).trans hg16
  refine z_aload_n (pc := 37) K dX3_say_37 rfl (lv_at hl 2 rfl) ?_
  refine z_get (pc := 38) (t := 3) (k := 4) K hw17 (ob hg21) zq3 (by decide) q313 (fun _ h => h) dX3_say_38 (zval_p (κ := 1) kf_3_4) ?_
  refine lv_iload (pc := 41) K.x K.b dX3_say_41 (lv_at hl 0 rfl) ?_
  refine lv_iload_n (pc := 43) K.x K.b dX3_say_43 rfl (lv_at hl 1 rfl) ?_
  refine z_iconst (pc := 44) K dX3_say_44 ?_
  refine z_icmp_ne (pc := 45) (tgt := 55) K hr2 ⟨by decide, by decide⟩ dX3_say_45 (by decide) (fun hc22 => ?_) (fun hc22 => ?_)
  · have h := ite_t h hc22
    refine z_aload_n (pc := 48) K dX3_say_48 rfl (lv_at hl 2 rfl) ?_
    refine z_get (pc := 49) (t := 3) (k := 9) K hw17 (ob hg21) zq3 (by decide) q324 (fun _ h => h) dX3_say_49 (zval_i kf_3_9) ?_
    refine z_goto (pc := 52) (tgt := 61) K dX3_say_52 (by decide) ?_
    exact wk_X3_say_b61 a0 x1 x2 Q σ K hx1 hx2 σ18 r1 (σ a0 8 0) (σ a0 8 0) (σ18 a0 9 0) _ _ _ h hw17 hk20 hg21 hr2 (z_rI hw5 (ob (t := 3) ht0) kf_3_8) (z_rI hw5 (ob (t := 3) ht0) kf_3_8) (z_rI hw17 (ob (t := 3) hg21) kf_3_9) (lv_sub hl [2, 4, 1, 0] rfl)
  · have h := ite_f h hc22
    refine z_aload_n (pc := 55) K dX3_say_55 rfl (lv_at hl 2 rfl) ?_
    refine z_get (pc := 56) (t := 3) (k := 4) K hw17 (ob hg21) zq3 (by decide) q313 (fun _ h => h) dX3_say_56 (zval_p (κ := 1) kf_3_4) ?_
    refine lv_iload_n (pc := 59) K.x K.b dX3_say_59 rfl (lv_at hl 1 rfl) ?_
    obtain ⟨hj23, h⟩ := h
    refine z_iald (pc := 60) (t := 3) K hw17 hg21 ⟨by decide, by decide⟩ kf_3_4 kl_3_4 hj23 (by decide) dX3_say_60 ?_
    exact wk_X3_say_b61 a0 x1 x2 Q σ K hx1 hx2 σ18 r1 (σ a0 8 0) (σ a0 8 0) (σ18 a0 4 r1) _ _ _ h hw17 hk20 hg21 hr2 (z_rI hw5 (ob (t := 3) ht0) kf_3_8) (z_rI hw5 (ob (t := 3) ht0) kf_3_8) (z_elI (t := 3) hw17 hg21 ⟨by decide, by decide⟩ kf_3_4 kl_3_4 hj23) (lv_sub hl [2, 4, 1, 0] rfl)
def wp_X1_has (σ : St) (x0 : Int) (x1 : Int) (Q : Int → Prop) : Prop :=
  (if zand (zshr x0 x1) 1 = 1 then
    Q 1
    else
    Q 0)
set_option maxHeartbeats 4000000 in
theorem met_X1_has (X : Cxt) (l : Launch) (σ : St) (x0 : Int) (x1 : Int) (hx0 : rng x0) (hx1 : rng x1) (Q : Int → Prop) (h : wp_X1_has σ x0 x1 Q) : MetT l yX1_has (ws_ yX1_has cX1_has 2 (some .boolean)) (zrm 1 0 0) (ZP X σ [jI x0, jI x1]) (ZQ X (qZ (fun r σ' => σ' = σ ∧ Q r)) (fun _ _ => False)) 0 0 (zA X) := by
  refine z_start (own := "CombTable") (lv := [(0, jI x0), (1, jI x1)]) (by decide) rfl rfl (by simp [lg_sl, jR_cat, jI_cat, jL_cat]) (fun p e s m below meth c ls K _ _ hw hl => ?_)
  refine lv_iload_n (pc := 0) K.x K.b dX1_has_0 rfl (lv_at hl 0 rfl) ?_
  refine lv_iload_n (pc := 1) K.x K.b dX1_has_1 rfl (lv_at hl 1 rfl) ?_
  refine z_ishr (pc := 2) K dX1_has_2 ?_
  refine z_iconst (pc := 3) K dX1_has_3 ?_
  refine z_iand (pc := 4) K dX1_has_4 ?_
  refine z_iconst (pc := 5) K dX1_has_5 ?_
  refine z_icmp_ne (pc := 6) (tgt := 13) K (rng_toInt _) ⟨by decide, by decide⟩ dX1_has_6 (by decide) (fun hc1 => ?_) (fun hc1 => ?_)
  · have h := ite_t h hc1
    refine z_iconst (pc := 9) K dX1_has_9 ?_
    refine z_goto (pc := 10) (tgt := 14) K dX1_has_10 (by decide) ?_
    exact z_zret (pc := 14) K hw ⟨by decide, by decide⟩ ⟨rfl, h⟩ dX1_has_14
  · have h := ite_f h hc1
    refine z_iconst (pc := 13) K dX1_has_13 ?_
    exact z_zret (pc := 14) K hw ⟨by decide, by decide⟩ ⟨rfl, h⟩ dX1_has_14
def wp_X3_kindOf (σ : St) (a0 : Int) (x1 : Int) (Q : Int → Prop) : Prop :=
  (0 ≤ x1 ∧ x1 < 400) ∧ (0 ≤ σ a0 2 x1 ∧ σ a0 2 x1 < 10) ∧ Q (σ (σ a0 0 0) 1 (σ a0 2 x1))
set_option maxHeartbeats 4000000 in
theorem met_X3_kindOf (X : Cxt) (l : Launch) (σ : St) (a0 : Int) (x1 : Int) (ht0 : tg σ a0 = 3) (hx1 : rng x1) (Q : Int → Prop) (h : wp_X3_kindOf σ a0 x1 Q) : MetT l yX3_kindOf (ws_ yX3_kindOf cX3_kindOf 2 (some (.object "CombTable$Kind"))) (zrm 1 0 0) (ZP X σ [jR X a0, jI x1]) (ZQ X (qR X 12 (fun r σ' => σ' = σ ∧ Q r)) (fun _ _ => False)) 0 0 (zA X) := by
  refine z_start (own := "CombTable$Talk") (lv := [(0, jR X a0), (1, jI x1)]) (by decide) rfl (by simp [lv_args, jR_cat, jI_cat, jL_cat]) (by simp [lg_sl, jR_cat, jI_cat, jL_cat]) (fun p e s m below meth c ls K _ _ hw hl => ?_)
  refine z_aload_n (pc := 0) K dX3_kindOf_0 rfl (lv_at hl 0 rfl) ?_
  refine z_get (pc := 1) (t := 3) (k := 0) K hw (ob ht0) zq3 (by decide) q299 (fun _ h => h) dX3_kindOf_1 (zval_r kf_3_0) ?_
  have hg1 : tg σ (σ a0 0 0) = 4 := (z_tg (t := 3) (r := 4) hw ht0 ⟨by decide, by decide⟩ kf_3_0 kn_3_0 kt_3_0 (by decide) (by decide))
  refine z_getN (pc := 4) (t := 4) (k := 1) K hw (ob hg1) zq4 (by decide) q252 (fun _ h => h) dX3_kindOf_4 (zval_p (κ := 6) kf_4_1) ?_
  refine z_aload_n (pc := 7) K dX3_kindOf_7 rfl (lv_at hl 0 rfl) ?_
  refine z_get (pc := 8) (t := 3) (k := 2) K hw (ob ht0) zq3 (by decide) q307 (fun _ h => h) dX3_kindOf_8 (zval_p (κ := 1) kf_3_2) ?_
  refine lv_iload_n (pc := 11) K.x K.b dX3_kindOf_11 rfl (lv_at hl 1 rfl) ?_
  obtain ⟨hj2, h⟩ := h
  refine z_iald (pc := 12) (t := 3) K hw ht0 ⟨by decide, by decide⟩ kf_3_2 kl_3_2 hj2 (by decide) dX3_kindOf_12 ?_
  obtain ⟨hj3, h⟩ := h
  refine z_aald (pc := 13) (t := 4) (κ := 6) K hw hg1 ⟨by decide, by decide⟩ kf_4_1 ⟨by decide, by decide⟩ kl_4_1 hj3 (by decide) dX3_kindOf_13 ?_
  exact z_aret (pc := 14) K hw (z_el (t := 4) (κ := 6) (r := 12) hw hg1 ⟨by decide, by decide⟩ kf_4_1 (by decide) kt_4_1 kl_4_1 hj3) ⟨rfl, h⟩ dX3_kindOf_14
def wp_X3_to (σ : St) (a0 : Int) (x1 : Int) (Q : Int → Prop) : Prop :=
  (0 ≤ x1 ∧ x1 < 400) ∧ (0 ≤ σ a0 3 x1 ∧ σ a0 3 x1 < 400) ∧ Q (σ a0 1 (σ a0 3 x1))
set_option maxHeartbeats 4000000 in
theorem met_X3_to (X : Cxt) (l : Launch) (σ : St) (a0 : Int) (x1 : Int) (ht0 : tg σ a0 = 3) (hx1 : rng x1) (Q : Int → Prop) (h : wp_X3_to σ a0 x1 Q) : MetT l yX3_to (ws_ yX3_to cX3_to 2 (some .int)) (zrm 1 0 0) (ZP X σ [jR X a0, jI x1]) (ZQ X (qI (fun r σ' => σ' = σ ∧ Q r)) (fun _ _ => False)) 0 0 (zA X) := by
  refine z_start (own := "CombTable$Talk") (lv := [(0, jR X a0), (1, jI x1)]) (by decide) rfl (by simp [lv_args, jR_cat, jI_cat, jL_cat]) (by simp [lg_sl, jR_cat, jI_cat, jL_cat]) (fun p e s m below meth c ls K _ _ hw hl => ?_)
  refine z_aload_n (pc := 0) K dX3_to_0 rfl (lv_at hl 0 rfl) ?_
  refine z_get (pc := 1) (t := 3) (k := 1) K hw (ob ht0) zq3 (by decide) q304 (fun _ h => h) dX3_to_1 (zval_p (κ := 1) kf_3_1) ?_
  refine z_aload_n (pc := 4) K dX3_to_4 rfl (lv_at hl 0 rfl) ?_
  refine z_get (pc := 5) (t := 3) (k := 3) K hw (ob ht0) zq3 (by decide) q310 (fun _ h => h) dX3_to_5 (zval_p (κ := 1) kf_3_3) ?_
  refine lv_iload_n (pc := 8) K.x K.b dX3_to_8 rfl (lv_at hl 1 rfl) ?_
  obtain ⟨hj1, h⟩ := h
  refine z_iald (pc := 9) (t := 3) K hw ht0 ⟨by decide, by decide⟩ kf_3_3 kl_3_3 hj1 (by decide) dX3_to_9 ?_
  obtain ⟨hj2, h⟩ := h
  refine z_iald (pc := 10) (t := 3) K hw ht0 ⟨by decide, by decide⟩ kf_3_1 kl_3_1 hj2 (by decide) dX3_to_10 ?_
  exact z_iret (pc := 11) K hw (z_elI (t := 3) hw ht0 ⟨by decide, by decide⟩ kf_3_1 kl_3_1 hj2) ⟨rfl, h⟩ dX3_to_11
def wp_X3_why_b232 (σ : St) (a0 : Int) (x1 : Int) (x2 : Int) (Q : Int → Prop) (s0 : Int) (s1 : Int) : Prop :=
  (if s0 = s1 then
    Q 0
    else
    Q 6)
def wp_X3_why_b147 (σ : St) (a0 : Int) (x1 : Int) (x2 : Int) (Q : Int → Prop) (v4 : Int) : Prop :=
  (0 ≤ v4 ∧ v4 < 400) ∧ (if σ a0 6 v4 = 1 then
    Q 0
    else
    Q 5)
def wp_X3_why_b131 (σ : St) (a0 : Int) (x1 : Int) (x2 : Int) (Q : Int → Prop) (v3 : Int) (v4 : Int) : Prop :=
  (if σ v3 2 0 = 2 then
    (wp_X3_why_b147 σ a0 x1 x2 Q v4)
    else
    (if σ v3 2 0 = 3 then
      (wp_X3_why_b147 σ a0 x1 x2 Q v4)
      else
      (if σ v3 2 0 < 4 then
        Q 0
        else
        (0 ≤ v4 ∧ v4 < 400) ∧ (if σ a0 6 v4 = 4 then
          wp_X3_kindOf σ a0 v4 (fun r6 => r6 ≠ -1 ∧ rng ((σ a0 8 0) - v4) ∧ (if σ r6 3 0 < (σ a0 8 0) - v4 then
            Q 5
            else
            (if σ v3 2 0 = 6 then
              wp_X3_to σ a0 v4 (fun r16 => (wp_X3_why_b232 σ a0 x1 x2 Q x1 r16))
              else
              (wp_X3_why_b232 σ a0 x1 x2 Q x1 (σ a0 1 v4)))))
          else
          Q 5))))
def wp_X3_why_b34 (σ : St) (a0 : Int) (x1 : Int) (x2 : Int) (Q : Int → Prop) : Prop :=
  (0 ≤ x2 ∧ x2 < 10) ∧ wp_X3_answered σ a0 x1 x2 (fun r3 => (if r3 = (-1) then
    (σ (σ a0 0 0) 1 x2) ≠ -1 ∧ (if σ (σ (σ a0 0 0) 1 x2) 1 0 = 0 then
      Q 2
      else
      (if 1 < σ (σ (σ a0 0 0) 1 x2) 2 0 then
        Q 5
        else
        Q 0))
    else
    (σ (σ a0 0 0) 1 x2) ≠ -1 ∧ (0 ≤ r3 ∧ r3 < 400) ∧ wp_X1_has σ (σ (σ (σ a0 0 0) 1 x2) 4 0) (σ a0 2 r3) (fun r16 => (if r16 = 0 then
      Q 3
      else
      (if σ a0 1 r3 = x1 then
        (if σ (σ (σ a0 0 0) 1 x2) 2 0 = 4 then
          (wp_X3_why_b131 σ a0 x1 x2 Q (σ (σ a0 0 0) 1 x2) r3)
          else
          (if σ (σ (σ a0 0 0) 1 x2) 2 0 = 5 then
            (wp_X3_why_b131 σ a0 x1 x2 Q (σ (σ a0 0 0) 1 x2) r3)
            else
            Q 4))
        else
        (wp_X3_why_b131 σ a0 x1 x2 Q (σ (σ a0 0 0) 1 x2) r3))))))
def wp_X3_why (σ : St) (a0 : Int) (x1 : Int) (x2 : Int) (Q : Int → Prop) : Prop :=
  (if 0 < σ a0 8 0 then
    (0 ≤ (σ a0 8 0) - 1 ∧ (σ a0 8 0) - 1 < 400) ∧ (if σ a0 1 ((σ a0 8 0) - 1) = x1 then
      (if σ (σ a0 0 0) 8 0 = 0 then
        Q 1
        else
        (wp_X3_why_b34 σ a0 x1 x2 Q))
      else
      (wp_X3_why_b34 σ a0 x1 x2 Q))
    else
    (wp_X3_why_b34 σ a0 x1 x2 Q))
set_option maxHeartbeats 4000000 in
theorem wk_X3_why_b232 {X : Cxt} {p : Program} {l : Launch} {e : Env} {s : State} {m : MethodId} {args : Array Value} {below : List Frame} {meth : Method} {c : Code} (σ : St) (a0 : Int) (x1 : Int) (x2 : Int) (Q : Int → Prop) (K : MCx X p s m args meth c cX3_why 5 "CombTable$Talk" (some .int)) (hx1 : rng x1) (hx2 : rng x2) : ∀ (s0 : Int) (s1 : Int) (H : Heap) (locs : List Loc) (ls : Array Slot), wp_X3_why_b232 σ a0 x1 x2 Q s0 s1 → Wc X σ s.heap H locs → rng s0 → rng s1 → lv_has ls 5 [] → W p l e (zrm 3 0 0) s m args below meth c H locs 0 0 (MQT below (ZQ X (qI (fun r σ' => σ' = σ ∧ Q r)) (fun _ _ => False)) args s 0 0 (zA X)) (F0 m 232 ls [jI s1, jI s0]) := by
  intro s0 s1 H locs ls h hw hs0 hs1 hl
  refine z_icmp_ne (pc := 232) (tgt := 239) K hs0 hs1 dX3_why_232 (by decide) (fun hc1 => ?_) (fun hc1 => ?_)
  · have h := ite_t h hc1
    refine z_iconst (pc := 235) K dX3_why_235 ?_
    refine z_goto (pc := 236) (tgt := 241) K dX3_why_236 (by decide) ?_
    exact z_iret (pc := 241) K hw ⟨by decide, by decide⟩ ⟨rfl, h⟩ dX3_why_241
  · have h := ite_f h hc1
    refine z_bipush (pc := 239) K dX3_why_239 (by decide) ?_
    exact z_iret (pc := 241) K hw ⟨by decide, by decide⟩ ⟨rfl, h⟩ dX3_why_241
set_option maxHeartbeats 4000000 in
theorem wk_X3_why_b147 {X : Cxt} {p : Program} {l : Launch} {e : Env} {s : State} {m : MethodId} {args : Array Value} {below : List Frame} {meth : Method} {c : Code} (σ : St) (a0 : Int) (x1 : Int) (x2 : Int) (Q : Int → Prop) (K : MCx X p s m args meth c cX3_why 5 "CombTable$Talk" (some .int)) (hx1 : rng x1) (hx2 : rng x2) : ∀ (v4 : Int) (H : Heap) (locs : List Loc) (ls : Array Slot), wp_X3_why_b147 σ a0 x1 x2 Q v4 → Wc X σ s.heap H locs → tg σ a0 = 3 → rng v4 → lv_has ls 5 [(0, jR X a0), (4, jI v4)] → W p l e (zrm 3 0 0) s m args below meth c H locs 0 0 (MQT below (ZQ X (qI (fun r σ' => σ' = σ ∧ Q r)) (fun _ _ => False)) args s 0 0 (zA X)) (F0 m 147 ls []) := by
  intro v4 H locs ls h hw ht0 hv4 hl
  refine z_aload_n (pc := 147) K dX3_why_147 rfl (lv_at hl 0 rfl) ?_
  refine z_get (pc := 148) (t := 3) (k := 6) K hw (ob ht0) zq3 (by decide) q319 (fun _ h => h) dX3_why_148 (zval_p (κ := 1) kf_3_6) ?_
  refine lv_iload (pc := 151) K.x K.b dX3_why_151 (lv_at hl 1 rfl) ?_
  obtain ⟨hj1, h⟩ := h
  refine z_iald (pc := 153) (t := 3) K hw ht0 ⟨by decide, by decide⟩ kf_3_6 kl_3_6 hj1 (by decide) dX3_why_153 ?_
  refine z_iconst (pc := 154) K dX3_why_154 ?_
  refine z_icmp_ne (pc := 155) (tgt := 162) K (z_elI (t := 3) hw ht0 ⟨by decide, by decide⟩ kf_3_6 kl_3_6 hj1) ⟨by decide, by decide⟩ dX3_why_155 (by decide) (fun hc2 => ?_) (fun hc2 => ?_)
  · have h := ite_t h hc2
    refine z_iconst (pc := 158) K dX3_why_158 ?_
    refine z_goto (pc := 159) (tgt := 163) K dX3_why_159 (by decide) ?_
    exact z_iret (pc := 163) K hw ⟨by decide, by decide⟩ ⟨rfl, h⟩ dX3_why_163
  · have h := ite_f h hc2
    refine z_iconst (pc := 162) K dX3_why_162 ?_
    exact z_iret (pc := 163) K hw ⟨by decide, by decide⟩ ⟨rfl, h⟩ dX3_why_163
set_option maxHeartbeats 4000000 in
theorem wk_X3_why_b131 {X : Cxt} {p : Program} {l : Launch} {e : Env} {s : State} {m : MethodId} {args : Array Value} {below : List Frame} {meth : Method} {c : Code} (σ : St) (a0 : Int) (x1 : Int) (x2 : Int) (Q : Int → Prop) (K : MCx X p s m args meth c cX3_why 5 "CombTable$Talk" (some .int)) (hx1 : rng x1) (hx2 : rng x2) : ∀ (v3 : Int) (v4 : Int) (H : Heap) (locs : List Loc) (ls : Array Slot), wp_X3_why_b131 σ a0 x1 x2 Q v3 v4 → Wc X σ s.heap H locs → tg σ a0 = 3 → tg σ v3 = 12 → rng v4 → lv_has ls 5 [(0, jR X a0), (1, jI x1), (3, jR X v3), (4, jI v4)] → W p l e (zrm 3 0 0) s m args below meth c H locs 0 0 (MQT below (ZQ X (qI (fun r σ' => σ' = σ ∧ Q r)) (fun _ _ => False)) args s 0 0 (zA X)) (F0 m 131 ls []) := by
  intro v3 v4 H locs ls h hw ht0 htv3 hv4 hl
  refine z_aload_n (pc := 131) K dX3_why_131 rfl (lv_at hl 2 rfl) ?_
  refine z_getN (pc := 132) (t := 12) (k := 2) K hw (ob htv3) zq12 (by decide) q833 (fun _ h => h) dX3_why_132 (zval_i kf_12_2) ?_
  refine z_iconst (pc := 135) K dX3_why_135 ?_
  refine z_icmp_eq (pc := 136) (tgt := 147) K (z_rI hw (ob (t := 12) htv3) kf_12_2) ⟨by decide, by decide⟩ dX3_why_136 (by decide) (fun hc1 => ?_) (fun hc1 => ?_)
  · have h := ite_t h hc1
    exact wk_X3_why_b147 σ a0 x1 x2 Q K hx1 hx2 v4 _ _ _ h hw ht0 hv4 (lv_sub hl [0, 3] rfl)
  · have h := ite_f h hc1
    refine z_aload_n (pc := 139) K dX3_why_139 rfl (lv_at hl 2 rfl) ?_
    refine z_getN (pc := 140) (t := 12) (k := 2) K hw (ob htv3) zq12 (by decide) q833 (fun _ h => h) dX3_why_140 (zval_i kf_12_2) ?_
    refine z_iconst (pc := 143) K dX3_why_143 ?_
    refine z_icmp_ne (pc := 144) (tgt := 164) K (z_rI hw (ob (t := 12) htv3) kf_12_2) ⟨by decide, by decide⟩ dX3_why_144 (by decide) (fun hc2 => ?_) (fun hc2 => ?_)
    · have h := ite_t h hc2
      exact wk_X3_why_b147 σ a0 x1 x2 Q K hx1 hx2 v4 _ _ _ h hw ht0 hv4 (lv_sub hl [0, 3] rfl)
    · have h := ite_f h hc2
      refine z_aload_n (pc := 164) K dX3_why_164 rfl (lv_at hl 2 rfl) ?_
      refine z_getN (pc := 165) (t := 12) (k := 2) K hw (ob htv3) zq12 (by decide) q833 (fun _ h => h) dX3_why_165 (zval_i kf_12_2) ?_
      refine z_iconst (pc := 168) K dX3_why_168 ?_
      refine z_icmp_ge (pc := 169) (tgt := 174) K (z_rI hw (ob (t := 12) htv3) kf_12_2) ⟨by decide, by decide⟩ dX3_why_169 (by decide) (fun hc3 => ?_) (fun hc3 => ?_)
      · have h := ite_t h hc3
        refine z_iconst (pc := 172) K dX3_why_172 ?_
        exact z_iret (pc := 173) K hw ⟨by decide, by decide⟩ ⟨rfl, h⟩ dX3_why_173
      · have h := ite_f h hc3
        refine z_aload_n (pc := 174) K dX3_why_174 rfl (lv_at hl 0 rfl) ?_
        refine z_get (pc := 175) (t := 3) (k := 6) K hw (ob ht0) zq3 (by decide) q319 (fun _ h => h) dX3_why_175 (zval_p (κ := 1) kf_3_6) ?_
        refine lv_iload (pc := 178) K.x K.b dX3_why_178 (lv_at hl 3 rfl) ?_
        obtain ⟨hj4, h⟩ := h
        refine z_iald (pc := 180) (t := 3) K hw ht0 ⟨by decide, by decide⟩ kf_3_6 kl_3_6 hj4 (by decide) dX3_why_180 ?_
        refine z_iconst (pc := 181) K dX3_why_181 ?_
        refine z_icmp_ne (pc := 182) (tgt := 204) K (z_elI (t := 3) hw ht0 ⟨by decide, by decide⟩ kf_3_6 kl_3_6 hj4) ⟨by decide, by decide⟩ dX3_why_182 (by decide) (fun hc5 => ?_) (fun hc5 => ?_)
        · have h := ite_t h hc5
          refine z_aload_n (pc := 185) K dX3_why_185 rfl (lv_at hl 0 rfl) ?_
          refine z_get (pc := 186) (t := 3) (k := 8) K hw (ob ht0) zq3 (by decide) q321 (fun _ h => h) dX3_why_186 (zval_i kf_3_8) ?_
          refine lv_iload (pc := 189) K.x K.b dX3_why_189 (lv_at hl 3 rfl) ?_
          refine z_isub (pc := 191) K dX3_why_191 ?_
          refine z_aload_n (pc := 192) K dX3_why_192 rfl (lv_at hl 0 rfl) ?_
          refine lv_iload (pc := 193) K.x K.b dX3_why_193 (lv_at hl 3 rfl) ?_
          refine zr_r (pc := 195) (maxL := 2) K hw (met_X3_kindOf X l σ a0 v4 ht0 hv4 _ h) (i_V (n := 1) (t := 3) (As := [jI v4]) K hw (ob ht0) zq3 (by decide) q928 q929 q930 (sg_of K q931) rfl rfl dX3_why_195) (locw K q931 q94) ⟨by decide, by decide⟩ hl.1 dX3_why_195 (Nat.le_of_ble_eq_true rfl) ⟨Nat.le_refl _, Nat.le_refl _⟩ (fun r6 _ _ hr7 h hw10 => ?_)
          obtain ⟨hn12, h⟩ := h
          have hg11 : tg σ r6 = 12 := okR_nn hn12 (by decide) (by decide) hr7
          refine z_getN (pc := 198) (t := 12) (k := 3) K hw10 (ob hg11) zq12 (by decide) q836 (fun _ h => h) dX3_why_198 (zval_i kf_12_3) ?_
          obtain ⟨hr14, h⟩ := h
          refine z_icmp_le (pc := 201) (tgt := 206) K hr14 (z_rI hw10 (ob (t := 12) hg11) kf_12_3) dX3_why_201 (by decide) (fun hc13 => ?_) (fun hc13 => ?_)
          · have h := ite_t h hc13
            refine z_iconst (pc := 204) K dX3_why_204 ?_
            exact z_iret (pc := 205) K hw10 ⟨by decide, by decide⟩ ⟨rfl, h⟩ dX3_why_205
          · have h := ite_f h hc13
            refine lv_iload_n (pc := 206) K.x K.b dX3_why_206 rfl (lv_at hl 1 rfl) ?_
            refine z_aload_n (pc := 207) K dX3_why_207 rfl (lv_at hl 2 rfl) ?_
            refine z_getN (pc := 208) (t := 12) (k := 2) K hw10 (ob htv3) zq12 (by decide) q833 (fun _ h => h) dX3_why_208 (zval_i kf_12_2) ?_
            refine z_bipush (pc := 211) K dX3_why_211 (by decide) ?_
            refine z_icmp_ne (pc := 213) (tgt := 225) K (z_rI hw10 (ob (t := 12) htv3) kf_12_2) ⟨by decide, by decide⟩ dX3_why_213 (by decide) (fun hc15 => ?_) (fun hc15 => ?_)
            · have h := ite_t h hc15
              refine z_aload_n (pc := 216) K dX3_why_216 rfl (lv_at hl 0 rfl) ?_
              refine lv_iload (pc := 217) K.x K.b dX3_why_217 (lv_at hl 3 rfl) ?_
              refine zr_i (pc := 219) (maxL := 2) K hw10 (met_X3_to X l σ a0 v4 ht0 hv4 _ h) (i_V (n := 1) (t := 3) (As := [jI v4]) K hw10 (ob ht0) zq3 (by decide) q932 q933 q934 (sg_of K q935) rfl rfl dX3_why_219) (locw K q935 q94) ⟨by decide, by decide⟩ hl.1 dX3_why_219 (Nat.le_of_ble_eq_true rfl) ⟨Nat.le_refl _, Nat.le_refl _⟩ (fun r16 _ _ hr17 h hw20 => ?_)
              refine z_goto (pc := 222) (tgt := 232) K dX3_why_222 (by decide) ?_
              exact wk_X3_why_b232 σ a0 x1 x2 Q K hx1 hx2 x1 r16 _ _ _ h hw20 hx1 hr17 (lv_sub hl [] rfl)
            · have h := ite_f h hc15
              refine z_aload_n (pc := 225) K dX3_why_225 rfl (lv_at hl 0 rfl) ?_
              refine z_get (pc := 226) (t := 3) (k := 1) K hw10 (ob ht0) zq3 (by decide) q304 (fun _ h => h) dX3_why_226 (zval_p (κ := 1) kf_3_1) ?_
              refine lv_iload (pc := 229) K.x K.b dX3_why_229 (lv_at hl 3 rfl) ?_
              refine z_iald (pc := 231) (t := 3) K hw10 ht0 ⟨by decide, by decide⟩ kf_3_1 kl_3_1 hj4 (by decide) dX3_why_231 ?_
              exact wk_X3_why_b232 σ a0 x1 x2 Q K hx1 hx2 x1 (σ a0 1 v4) _ _ _ h hw10 hx1 (z_elI (t := 3) hw10 ht0 ⟨by decide, by decide⟩ kf_3_1 kl_3_1 hj4) (lv_sub hl [] rfl)
        · have h := ite_f h hc5
          refine z_iconst (pc := 204) K dX3_why_204 ?_
          exact z_iret (pc := 205) K hw ⟨by decide, by decide⟩ ⟨rfl, h⟩ dX3_why_205
set_option maxHeartbeats 4000000 in
theorem wk_X3_why_b34 {X : Cxt} {p : Program} {l : Launch} {e : Env} {s : State} {m : MethodId} {args : Array Value} {below : List Frame} {meth : Method} {c : Code} (σ : St) (a0 : Int) (x1 : Int) (x2 : Int) (Q : Int → Prop) (K : MCx X p s m args meth c cX3_why 5 "CombTable$Talk" (some .int)) (hx1 : rng x1) (hx2 : rng x2) : ∀ (H : Heap) (locs : List Loc) (ls : Array Slot), wp_X3_why_b34 σ a0 x1 x2 Q → Wc X σ s.heap H locs → tg σ a0 = 3 → lv_has ls 5 [(0, jR X a0), (1, jI x1), (2, jI x2)] → W p l e (zrm 3 0 0) s m args below meth c H locs 0 0 (MQT below (ZQ X (qI (fun r σ' => σ' = σ ∧ Q r)) (fun _ _ => False)) args s 0 0 (zA X)) (F0 m 34 ls []) := by
  intro H locs ls h hw ht0 hl
  refine z_aload_n (pc := 34) K dX3_why_34 rfl (lv_at hl 0 rfl) ?_
  refine z_get (pc := 35) (t := 3) (k := 0) K hw (ob ht0) zq3 (by decide) q299 (fun _ h => h) dX3_why_35 (zval_r kf_3_0) ?_
  have hg1 : tg σ (σ a0 0 0) = 4 := (z_tg (t := 3) (r := 4) hw ht0 ⟨by decide, by decide⟩ kf_3_0 kn_3_0 kt_3_0 (by decide) (by decide))
  refine z_getN (pc := 38) (t := 4) (k := 1) K hw (ob hg1) zq4 (by decide) q252 (fun _ h => h) dX3_why_38 (zval_p (κ := 6) kf_4_1) ?_
  refine lv_iload_n (pc := 41) K.x K.b dX3_why_41 rfl (lv_at hl 2 rfl) ?_
  obtain ⟨hj2, h⟩ := h
  refine z_aald (pc := 42) (t := 4) (κ := 6) K hw hg1 ⟨by decide, by decide⟩ kf_4_1 ⟨by decide, by decide⟩ kl_4_1 hj2 (by decide) dX3_why_42 ?_
  refine z_astore_n (pc := 43) (lv' := [(3, jR X (σ (σ a0 0 0) 1 x2)), (0, jR X a0), (1, jI x1), (2, jI x2)]) K dX3_why_43 rfl hl (by decide) rfl (fun ls hl => ?_)
  refine z_aload_n (pc := 44) K dX3_why_44 rfl (lv_at hl 1 rfl) ?_
  refine lv_iload_n (pc := 45) K.x K.b dX3_why_45 rfl (lv_at hl 2 rfl) ?_
  refine lv_iload_n (pc := 46) K.x K.b dX3_why_46 rfl (lv_at hl 3 rfl) ?_
  refine zr_i (pc := 47) (maxL := 4) K hw (met_X3_answered X l σ a0 x1 x2 ht0 hx1 hx2 _ h) (i_V (n := 2) (t := 3) (As := [jI x1, jI x2]) K hw (ob ht0) zq3 (by decide) q919 q921 qs7 (sg_of K q922) rfl rfl dX3_why_47) (locw K q922 q94) ⟨by decide, by decide⟩ hl.1 dX3_why_47 (Nat.le_of_ble_eq_true rfl) ⟨Nat.le_refl _, Nat.le_refl _⟩ (fun r3 _ _ hr4 h hw7 => ?_)
  refine lv_istore (pc := 50) (lv' := [(4, jI r3), (3, jR X (σ (σ a0 0 0) 1 x2)), (0, jR X a0), (1, jI x1), (2, jI x2)]) K.x K.b dX3_why_50 hl (by decide) (by simp [jR_cat]) (fun ls hl => ?_)
  refine lv_iload (pc := 52) K.x K.b dX3_why_52 (lv_at hl 0 rfl) ?_
  refine z_iconst (pc := 54) K dX3_why_54 ?_
  refine z_icmp_ne (pc := 55) (tgt := 83) K hr4 ⟨by decide, by decide⟩ dX3_why_55 (by decide) (fun hc8 => ?_) (fun hc8 => ?_)
  · have h := ite_t h hc8
    refine z_aload_n (pc := 58) K dX3_why_58 rfl (lv_at hl 1 rfl) ?_
    obtain ⟨hn10, h⟩ := h
    have hg9 : tg σ (σ (σ a0 0 0) 1 x2) = 12 := okR_nn hn10 (by decide) (by decide) (z_el (t := 4) (κ := 6) (r := 12) hw hg1 ⟨by decide, by decide⟩ kf_4_1 (by decide) kt_4_1 kl_4_1 hj2)
    refine z_getN (pc := 59) (t := 12) (k := 1) K hw7 (ob hg9) zq12 (by decide) q830 (fun _ h => h) dX3_why_59 (zval_i kf_12_1) ?_
    refine z_if_ne (pc := 62) (tgt := 69) K (z_rI hw7 (ob (t := 12) hg9) kf_12_1) dX3_why_62 (by decide) (fun hc11 => ?_) (fun hc11 => ?_)
    · have h := ite_t h hc11
      refine z_iconst (pc := 65) K dX3_why_65 ?_
      refine z_goto (pc := 66) (tgt := 82) K dX3_why_66 (by decide) ?_
      exact z_iret (pc := 82) K hw7 ⟨by decide, by decide⟩ ⟨rfl, h⟩ dX3_why_82
    · have h := ite_f h hc11
      refine z_aload_n (pc := 69) K dX3_why_69 rfl (lv_at hl 1 rfl) ?_
      refine z_getN (pc := 70) (t := 12) (k := 2) K hw7 (ob hg9) zq12 (by decide) q833 (fun _ h => h) dX3_why_70 (zval_i kf_12_2) ?_
      refine z_iconst (pc := 73) K dX3_why_73 ?_
      refine z_icmp_le (pc := 74) (tgt := 81) K (z_rI hw7 (ob (t := 12) hg9) kf_12_2) ⟨by decide, by decide⟩ dX3_why_74 (by decide) (fun hc12 => ?_) (fun hc12 => ?_)
      · have h := ite_t h hc12
        refine z_iconst (pc := 77) K dX3_why_77 ?_
        refine z_goto (pc := 78) (tgt := 82) K dX3_why_78 (by decide) ?_
        exact z_iret (pc := 82) K hw7 ⟨by decide, by decide⟩ ⟨rfl, h⟩ dX3_why_82
      · have h := ite_f h hc12
        refine z_iconst (pc := 81) K dX3_why_81 ?_
        exact z_iret (pc := 82) K hw7 ⟨by decide, by decide⟩ ⟨rfl, h⟩ dX3_why_82
  · have h := ite_f h hc8
    refine z_aload_n (pc := 83) K dX3_why_83 rfl (lv_at hl 1 rfl) ?_
    obtain ⟨hn14, h⟩ := h
    have hg13 : tg σ (σ (σ a0 0 0) 1 x2) = 12 := okR_nn hn14 (by decide) (by decide) (z_el (t := 4) (κ := 6) (r := 12) hw hg1 ⟨by decide, by decide⟩ kf_4_1 (by decide) kt_4_1 kl_4_1 hj2)
    refine z_getN (pc := 84) (t := 12) (k := 4) K hw7 (ob hg13) zq12 (by decide) q839 (fun _ h => h) dX3_why_84 (zval_i kf_12_4) ?_
    refine z_aload_n (pc := 87) K dX3_why_87 rfl (lv_at hl 2 rfl) ?_
    refine z_get (pc := 88) (t := 3) (k := 2) K hw7 (ob ht0) zq3 (by decide) q307 (fun _ h => h) dX3_why_88 (zval_p (κ := 1) kf_3_2) ?_
    refine lv_iload (pc := 91) K.x K.b dX3_why_91 (lv_at hl 0 rfl) ?_
    obtain ⟨hj15, h⟩ := h
    refine z_iald (pc := 93) (t := 3) K hw7 ht0 ⟨by decide, by decide⟩ kf_3_2 kl_3_2 hj15 (by decide) dX3_why_93 ?_
    refine zr_z (pc := 94) (maxL := 2) K hw7 (met_X1_has X l σ (σ (σ (σ a0 0 0) 1 x2) 4 0) (σ a0 2 r3) (z_rI hw7 (ob (t := 12) hg13) kf_12_4) (z_elI (t := 3) hw7 ht0 ⟨by decide, by decide⟩ kf_3_2 kl_3_2 hj15) _ h) (i_SN (n := 2) (As := [jI (σ (σ (σ a0 0 0) 1 x2) 4 0), jI (σ a0 2 r3)]) K (by decide) q927 q866 q90 (sg_of K q867) rfl rfl dX3_why_94) (locw K q867 q90) ⟨by decide, by decide⟩ hl.1 dX3_why_94 (Nat.le_of_ble_eq_true rfl) ⟨Nat.le_refl _, Nat.le_refl _⟩ (fun r16 _ _ hr17 h hw20 => ?_)
    refine z_if_ne (pc := 97) (tgt := 102) K (b01r hr17) dX3_why_97 (by decide) (fun hc21 => ?_) (fun hc21 => ?_)
    · have h := ite_t h hc21
      refine z_iconst (pc := 100) K dX3_why_100 ?_
      exact z_iret (pc := 101) K hw20 ⟨by decide, by decide⟩ ⟨rfl, h⟩ dX3_why_101
    · have h := ite_f h hc21
      refine z_aload_n (pc := 102) K dX3_why_102 rfl (lv_at hl 2 rfl) ?_
      refine z_get (pc := 103) (t := 3) (k := 1) K hw20 (ob ht0) zq3 (by decide) q304 (fun _ h => h) dX3_why_103 (zval_p (κ := 1) kf_3_1) ?_
      refine lv_iload (pc := 106) K.x K.b dX3_why_106 (lv_at hl 0 rfl) ?_
      refine z_iald (pc := 108) (t := 3) K hw20 ht0 ⟨by decide, by decide⟩ kf_3_1 kl_3_1 hj15 (by decide) dX3_why_108 ?_
      refine lv_iload_n (pc := 109) K.x K.b dX3_why_109 rfl (lv_at hl 3 rfl) ?_
      refine z_icmp_ne (pc := 110) (tgt := 131) K (z_elI (t := 3) hw20 ht0 ⟨by decide, by decide⟩ kf_3_1 kl_3_1 hj15) hx1 dX3_why_110 (by decide) (fun hc22 => ?_) (fun hc22 => ?_)
      · have h := ite_t h hc22
        refine z_aload_n (pc := 113) K dX3_why_113 rfl (lv_at hl 1 rfl) ?_
        refine z_getN (pc := 114) (t := 12) (k := 2) K hw20 (ob hg13) zq12 (by decide) q833 (fun _ h => h) dX3_why_114 (zval_i kf_12_2) ?_
        refine z_iconst (pc := 117) K dX3_why_117 ?_
        refine z_icmp_eq (pc := 118) (tgt := 131) K (z_rI hw20 (ob (t := 12) hg13) kf_12_2) ⟨by decide, by decide⟩ dX3_why_118 (by decide) (fun hc23 => ?_) (fun hc23 => ?_)
        · have h := ite_t h hc23
          exact wk_X3_why_b131 σ a0 x1 x2 Q K hx1 hx2 (σ (σ a0 0 0) 1 x2) r3 _ _ _ h hw20 ht0 hg13 hr4 (lv_sub hl [2, 3, 1, 0] rfl)
        · have h := ite_f h hc23
          refine z_aload_n (pc := 121) K dX3_why_121 rfl (lv_at hl 1 rfl) ?_
          refine z_getN (pc := 122) (t := 12) (k := 2) K hw20 (ob hg13) zq12 (by decide) q833 (fun _ h => h) dX3_why_122 (zval_i kf_12_2) ?_
          refine z_iconst (pc := 125) K dX3_why_125 ?_
          refine z_icmp_eq (pc := 126) (tgt := 131) K (z_rI hw20 (ob (t := 12) hg13) kf_12_2) ⟨by decide, by decide⟩ dX3_why_126 (by decide) (fun hc24 => ?_) (fun hc24 => ?_)
          · have h := ite_t h hc24
            exact wk_X3_why_b131 σ a0 x1 x2 Q K hx1 hx2 (σ (σ a0 0 0) 1 x2) r3 _ _ _ h hw20 ht0 hg13 hr4 (lv_sub hl [2, 3, 1, 0] rfl)
          · have h := ite_f h hc24
            refine z_iconst (pc := 129) K dX3_why_129 ?_
            exact z_iret (pc := 130) K hw20 ⟨by decide, by decide⟩ ⟨rfl, h⟩ dX3_why_130
      · have h := ite_f h hc22
        exact wk_X3_why_b131 σ a0 x1 x2 Q K hx1 hx2 (σ (σ a0 0 0) 1 x2) r3 _ _ _ h hw20 ht0 hg13 hr4 (lv_sub hl [2, 3, 1, 0] rfl)
set_option maxHeartbeats 4000000 in
theorem met_X3_why (X : Cxt) (l : Launch) (σ : St) (a0 : Int) (x1 : Int) (x2 : Int) (ht0 : tg σ a0 = 3) (hx1 : rng x1) (hx2 : rng x2) (Q : Int → Prop) (h : wp_X3_why σ a0 x1 x2 Q) : MetT l yX3_why (ws_ yX3_why cX3_why 5 (some .int)) (zrm 3 0 0) (ZP X σ [jR X a0, jI x1, jI x2]) (ZQ X (qI (fun r σ' => σ' = σ ∧ Q r)) (fun _ _ => False)) 0 0 (zA X) := by
  refine z_start (own := "CombTable$Talk") (lv := [(0, jR X a0), (1, jI x1), (2, jI x2)]) (by decide) rfl (by simp [lv_args, jR_cat, jI_cat, jL_cat]) (by simp [lg_sl, jR_cat, jI_cat, jL_cat]) (fun p e s m below meth c ls K _ _ hw hl => ?_)
  refine z_aload_n (pc := 0) K dX3_why_0 rfl (lv_at hl 0 rfl) ?_
  refine z_get (pc := 1) (t := 3) (k := 8) K hw (ob ht0) zq3 (by decide) q321 (fun _ h => h) dX3_why_1 (zval_i kf_3_8) ?_
  refine z_if_le (pc := 4) (tgt := 34) K (z_rI hw (ob (t := 3) ht0) kf_3_8) dX3_why_4 (by decide) (fun hc1 => ?_) (fun hc1 => ?_)
  · have h := ite_t h hc1
    refine z_aload_n (pc := 7) K dX3_why_7 rfl (lv_at hl 0 rfl) ?_
    refine z_get (pc := 8) (t := 3) (k := 1) K hw (ob ht0) zq3 (by decide) q304 (fun _ h => h) dX3_why_8 (zval_p (κ := 1) kf_3_1) ?_
    refine z_aload_n (pc := 11) K dX3_why_11 rfl (lv_at hl 0 rfl) ?_
    refine z_get (pc := 12) (t := 3) (k := 8) K hw (ob ht0) zq3 (by decide) q321 (fun _ h => h) dX3_why_12 (zval_i kf_3_8) ?_
    refine z_iconst (pc := 15) K dX3_why_15 ?_
    refine z_isub (pc := 16) K dX3_why_16 ?_
    obtain ⟨hj2, h⟩ := h
    refine z_iald (pc := 17) (t := 3) K hw ht0 ⟨by decide, by decide⟩ kf_3_1 kl_3_1 hj2 (by decide) dX3_why_17 ?_
    refine lv_iload_n (pc := 18) K.x K.b dX3_why_18 rfl (lv_at hl 1 rfl) ?_
    refine z_icmp_ne (pc := 19) (tgt := 34) K (z_elI (t := 3) hw ht0 ⟨by decide, by decide⟩ kf_3_1 kl_3_1 hj2) hx1 dX3_why_19 (by decide) (fun hc3 => ?_) (fun hc3 => ?_)
    · have h := ite_t h hc3
      refine z_aload_n (pc := 22) K dX3_why_22 rfl (lv_at hl 0 rfl) ?_
      refine z_get (pc := 23) (t := 3) (k := 0) K hw (ob ht0) zq3 (by decide) q299 (fun _ h => h) dX3_why_23 (zval_r kf_3_0) ?_
      have hg4 : tg σ (σ a0 0 0) = 4 := (z_tg (t := 3) (r := 4) hw ht0 ⟨by decide, by decide⟩ kf_3_0 kn_3_0 kt_3_0 (by decide) (by decide))
      refine z_getN (pc := 26) (t := 4) (k := 8) K hw (ob hg4) zq4 (by decide) q277 (fun _ h => h) dX3_why_26 (zval_z kf_4_8) ?_
      refine z_if_ne (pc := 29) (tgt := 34) K (b01r (z_rZ hw (ob (t := 4) hg4) kf_4_8)) dX3_why_29 (by decide) (fun hc5 => ?_) (fun hc5 => ?_)
      · have h := ite_t h hc5
        refine z_iconst (pc := 32) K dX3_why_32 ?_
        exact z_iret (pc := 33) K hw ⟨by decide, by decide⟩ ⟨rfl, h⟩ dX3_why_33
      · have h := ite_f h hc5
        exact wk_X3_why_b34 σ a0 x1 x2 Q K hx1 hx2 _ _ _ h hw ht0 (lv_sub hl [0, 1, 2] rfl)
    · have h := ite_f h hc3
      exact wk_X3_why_b34 σ a0 x1 x2 Q K hx1 hx2 _ _ _ h hw ht0 (lv_sub hl [0, 1, 2] rfl)
  · have h := ite_f h hc1
    exact wk_X3_why_b34 σ a0 x1 x2 Q K hx1 hx2 _ _ _ h hw ht0 (lv_sub hl [0, 1, 2] rfl)
def ws_X1_choices : List (Int × Nat) := [(3, 1), (3, 2), (3, 3), (3, 4), (3, 5), (3, 6), (3, 7), (3, 8), (3, 9)]
theorem wo_X1_choices : wsOk ws_X1_choices = true := rfl
def lp_X1_choices_21 (a0 : Int) (x1 : Int) (Q : Int → St → Prop) (σ0 : St) (L4 : St → Int → Int → Prop) : Nat → St → Int → Int → Int → Prop
  | 0 => fun _ _ _ _ => False
  | n + 1 => fun σ v2 v3 v4 => 
    Kp ws_X1_choices σ0 σ → (if v4 < σ (σ (σ a0 8 0) 0 0) 4 0 then
      wp_X3_why σ (σ a0 8 0) v3 v4 (fun r4 => (if 0 < r4 then
        rng (v4 + 1) ∧ (lp_X1_choices_21 a0 x1 Q σ0 L4 n σ v2 v3 (v4 + 1))
        else
        (if v2 = x1 then
          wp_X3_say σ (σ a0 8 0) v3 v4 (fun σ15 => Kp ws_X3_say σ σ15 → Q v2 σ15)
          else
          rng (v2 + 1) ∧ rng (v4 + 1) ∧ (lp_X1_choices_21 a0 x1 Q σ0 L4 n σ (v2 + 1) v3 (v4 + 1)))))
      else
      rng (v3 + 1) ∧ (L4 σ v2 (v3 + 1)))
def lp_X1_choices_4 (a0 : Int) (x1 : Int) (Q : Int → St → Prop) (σ0 : St) : Nat → St → Int → Int → Prop
  | 0 => fun _ _ _ => False
  | n + 1 => fun σ v2 v3 => 
    Kp ws_X1_choices σ0 σ → (if v3 < σ (σ (σ a0 8 0) 0 0) 3 0 then
      (∃ kk, lp_X1_choices_21 a0 x1 Q σ0 (lp_X1_choices_4 a0 x1 Q σ0 n) kk σ v2 v3 0)
      else
      Q v2 σ)
def wp_X1_choices (σ : St) (a0 : Int) (x1 : Int) (Q : Int → St → Prop) : Prop :=
  (∃ kk, lp_X1_choices_4 a0 x1 Q σ kk σ 0 0)
set_option maxHeartbeats 4000000 in
theorem wk_X1_choices_21 {X : Cxt} {p : Program} {l : Launch} {e : Env} {s : State} {m : MethodId} {args : Array Value} {below : List Frame} {meth : Method} {c : Code} (a0 : Int) (x1 : Int) (Q : Int → St → Prop) (σ0 : St) (K : MCx X p s m args meth c cX1_choices 5 "CombTable" (some .int)) (hx1 : rng x1) (L4 : St → Int → Int → Prop) (hL4 : ∀ (σ : St) (v2 : Int) (v3 : Int) (H : Heap) (locs : List Loc) (ls : Array Slot), L4 σ v2 v3 → Wc X σ s.heap H locs → Kp ws_X1_choices σ0 σ → tg σ a0 = 1 → rng v2 → rng v3 → lv_has ls 5 [(0, jR X a0), (1, jI x1), (2, jI v2), (3, jI v3)] → W p l e (zrm 4 0 0) s m args below meth c H locs 0 0 (MQT below (ZQ X (qI (fun r σ' => Kp ws_X1_choices σ0 σ' ∧ Q r σ')) (fun _ _ => False)) args s 0 0 (zA X)) (F0 m 4 ls [])) : ∀ (n : Nat), ∀ (σ : St) (v2 : Int) (v3 : Int) (v4 : Int) (H : Heap) (locs : List Loc) (ls : Array Slot), lp_X1_choices_21 a0 x1 Q σ0 L4 n σ v2 v3 v4 → Wc X σ s.heap H locs → Kp ws_X1_choices σ0 σ → tg σ a0 = 1 → rng v2 → rng v3 → rng v4 → lv_has ls 5 [(0, jR X a0), (1, jI x1), (2, jI v2), (3, jI v3), (4, jI v4)] → W p l e (zrm 4 0 0) s m args below meth c H locs 0 0 (MQT below (ZQ X (qI (fun r σ' => Kp ws_X1_choices σ0 σ' ∧ Q r σ')) (fun _ _ => False)) args s 0 0 (zA X)) (F0 m 21 ls []) := by
  intro n
  induction n with
  | zero => intro σ v2 v3 v4 H locs ls h; exact h.elim
  | succ n ih =>
    intro σ v2 v3 v4 H locs ls h hw hk ht0 hv2 hv3 hv4 hl
    have h := h hk
    refine lv_iload (pc := 21) K.x K.b dX1_choices_21 (lv_at hl 4 rfl) ?_
    refine z_aload_n (pc := 23) K dX1_choices_23 rfl (lv_at hl 0 rfl) ?_
    refine z_get (pc := 24) (t := 1) (k := 8) K hw (ob ht0) zq1 (by decide) q524 (fun _ h => h) dX1_choices_24 (zval_r kf_1_8) ?_
    have hg1 : tg σ (σ a0 8 0) = 3 := (z_tg (t := 1) (r := 3) hw ht0 ⟨by decide, by decide⟩ kf_1_8 kn_1_8 kt_1_8 (by decide) (by decide))
    refine z_getN (pc := 27) (t := 3) (k := 0) K hw (ob hg1) zq3 (by decide) q303 (fun _ h => h) dX1_choices_27 (zval_r kf_3_0) ?_
    have hg2 : tg σ (σ (σ a0 8 0) 0 0) = 4 := (z_tg (t := 3) (r := 4) hw hg1 ⟨by decide, by decide⟩ kf_3_0 kn_3_0 kt_3_0 (by decide) (by decide))
    refine z_getN (pc := 30) (t := 4) (k := 4) K hw (ob hg2) zq4 (by decide) q267 (fun _ h => h) dX1_choices_30 (zval_i kf_4_4) ?_
    refine z_icmp_ge (pc := 33) (tgt := 78) K hv4 (z_rI hw (ob (t := 4) hg2) kf_4_4) dX1_choices_33 (by decide) (fun hc3 => ?_) (fun hc3 => ?_)
    · have h := ite_t h hc3
      refine z_aload_n (pc := 36) K dX1_choices_36 rfl (lv_at hl 0 rfl) ?_
      refine z_get (pc := 37) (t := 1) (k := 8) K hw (ob ht0) zq1 (by decide) q524 (fun _ h => h) dX1_choices_37 (zval_r kf_1_8) ?_
      refine lv_iload_n (pc := 40) K.x K.b dX1_choices_40 rfl (lv_at hl 3 rfl) ?_
      refine lv_iload (pc := 41) K.x K.b dX1_choices_41 (lv_at hl 4 rfl) ?_
      refine zr_i (pc := 43) (maxL := 5) K hw (met_X3_why X l σ (σ a0 8 0) v3 v4 hg1 hv3 hv4 _ h) (i_V (n := 2) (t := 3) (As := [jI v3, jI v4]) K hw (ob hg1) zq3 (by decide) q944 q916 q917 (sg_of K q918) rfl rfl dX1_choices_43) (locw K q918 q94) ⟨by decide, by decide⟩ hl.1 dX1_choices_43 (Nat.le_of_ble_eq_true rfl) ⟨Nat.le_refl _, Nat.le_refl _⟩ (fun r4 _ _ hr5 h hw8 => ?_)
      refine z_if_le (pc := 46) (tgt := 52) K hr5 dX1_choices_46 (by decide) (fun hc9 => ?_) (fun hc9 => ?_)
      · have h := ite_t h hc9
        refine z_goto (pc := 49) (tgt := 72) K dX1_choices_49 (by decide) ?_
        refine z_iinc (pc := 72) (k := 4) (lv' := [(4, jI (v4 + 1)), (0, jR X a0), (1, jI x1), (2, jI v2), (3, jI v3)]) K dX1_choices_72 hl rfl (by decide) rfl (fun ls hl => ?_)
        refine z_goto (pc := 75) (tgt := 21) K dX1_choices_75 (by decide) ?_
        obtain ⟨hr10, h⟩ := h
        exact ih σ v2 v3 (v4 + 1) _ _ _ h hw8 hk ht0 hv2 hv3 hr10 (lv_sub hl [1, 2, 3, 4, 0] rfl)
      · have h := ite_f h hc9
        refine lv_iload_n (pc := 52) K.x K.b dX1_choices_52 rfl (lv_at hl 2 rfl) ?_
        refine lv_iload_n (pc := 53) K.x K.b dX1_choices_53 rfl (lv_at hl 1 rfl) ?_
        refine z_icmp_ne (pc := 54) (tgt := 69) K hv2 hx1 dX1_choices_54 (by decide) (fun hc11 => ?_) (fun hc11 => ?_)
        · have h := ite_t h hc11
          refine z_aload_n (pc := 57) K dX1_choices_57 rfl (lv_at hl 0 rfl) ?_
          refine z_get (pc := 58) (t := 1) (k := 8) K hw8 (ob ht0) zq1 (by decide) q524 (fun _ h => h) dX1_choices_58 (zval_r kf_1_8) ?_
          refine lv_iload_n (pc := 61) K.x K.b dX1_choices_61 rfl (lv_at hl 3 rfl) ?_
          refine lv_iload (pc := 62) K.x K.b dX1_choices_62 (lv_at hl 4 rfl) ?_
          refine zc_v (pc := 64) (maxL := 6) K hw8 (met_X3_say X l σ (σ a0 8 0) v3 v4 hg1 hv3 hv4 _ h) (i_V (n := 2) (t := 3) (As := [jI v3, jI v4]) K hw8 (ob hg1) zq3 (by decide) q1151 q937 q938 (sg_of K q939) rfl rfl dX1_choices_64) (locw K q939 q94) ⟨by decide, by decide⟩ hl.1 dX1_choices_64 (Nat.le_of_ble_eq_true rfl) ⟨Nat.le_refl _, Nat.le_refl _⟩ (fun σ15 _ _ hq14 hw16 => ?_)
          obtain ⟨hk17, h⟩ := hq14
          have h := h hk17
          have hk18 := kp_trans wo_X1_choices hk hk17 (fun _ q => q) (by decide)
          have hg19 : tg σ15 a0 = 1 := kp_tg hk17 wo_X3_say ht0 (by decide)
          refine lv_iload_n (pc := 67) K.x K.b dX1_choices_67 rfl (lv_at hl 2 rfl) ?_
          exact z_iret (pc := 68) K hw16 hv2 ⟨hk18, h⟩ dX1_choices_68
        · have h := ite_f h hc11
          refine z_iinc (pc := 69) (k := 2) (lv' := [(2, jI (v2 + 1)), (0, jR X a0), (1, jI x1), (3, jI v3), (4, jI v4)]) K dX1_choices_69 hl rfl (by decide) rfl (fun ls hl => ?_)
          refine z_iinc (pc := 72) (k := 4) (lv' := [(4, jI (v4 + 1)), (2, jI (v2 + 1)), (0, jR X a0), (1, jI x1), (3, jI v3)]) K dX1_choices_72 hl rfl (by decide) rfl (fun ls hl => ?_)
          refine z_goto (pc := 75) (tgt := 21) K dX1_choices_75 (by decide) ?_
          obtain ⟨hr20, h⟩ := h
          obtain ⟨hr21, h⟩ := h
          exact ih σ (v2 + 1) v3 (v4 + 1) _ _ _ h hw8 hk ht0 hr20 hv3 hr21 (lv_sub hl [2, 3, 1, 4, 0] rfl)
    · have h := ite_f h hc3
      refine z_iinc (pc := 78) (k := 3) (lv' := [(3, jI (v3 + 1)), (0, jR X a0), (1, jI x1), (2, jI v2), (4, jI v4)]) K dX1_choices_78 hl rfl (by decide) rfl (fun ls hl => ?_)
      refine z_goto (pc := 81) (tgt := 4) K dX1_choices_81 (by decide) ?_
      obtain ⟨hr22, h⟩ := h
      exact hL4 σ v2 (v3 + 1) _ _ _ h hw hk ht0 hv2 hr22 (lv_sub hl [1, 2, 3, 0] rfl)
set_option maxHeartbeats 4000000 in
theorem wk_X1_choices_4 {X : Cxt} {p : Program} {l : Launch} {e : Env} {s : State} {m : MethodId} {args : Array Value} {below : List Frame} {meth : Method} {c : Code} (a0 : Int) (x1 : Int) (Q : Int → St → Prop) (σ0 : St) (K : MCx X p s m args meth c cX1_choices 5 "CombTable" (some .int)) (hx1 : rng x1) : ∀ (n : Nat), ∀ (σ : St) (v2 : Int) (v3 : Int) (H : Heap) (locs : List Loc) (ls : Array Slot), lp_X1_choices_4 a0 x1 Q σ0 n σ v2 v3 → Wc X σ s.heap H locs → Kp ws_X1_choices σ0 σ → tg σ a0 = 1 → rng v2 → rng v3 → lv_has ls 5 [(0, jR X a0), (1, jI x1), (2, jI v2), (3, jI v3)] → W p l e (zrm 4 0 0) s m args below meth c H locs 0 0 (MQT below (ZQ X (qI (fun r σ' => Kp ws_X1_choices σ0 σ' ∧ Q r σ')) (fun _ _ => False)) args s 0 0 (zA X)) (F0 m 4 ls []) := by
  intro n
  induction n with
  | zero => intro σ v2 v3 H locs ls h; exact h.elim
  | succ n ih =>
    intro σ v2 v3 H locs ls h hw hk ht0 hv2 hv3 hl
    have h := h hk
    refine lv_iload_n (pc := 4) K.x K.b dX1_choices_4 rfl (lv_at hl 3 rfl) ?_
    refine z_aload_n (pc := 5) K dX1_choices_5 rfl (lv_at hl 0 rfl) ?_
    refine z_get (pc := 6) (t := 1) (k := 8) K hw (ob ht0) zq1 (by decide) q524 (fun _ h => h) dX1_choices_6 (zval_r kf_1_8) ?_
    have hg1 : tg σ (σ a0 8 0) = 3 := (z_tg (t := 1) (r := 3) hw ht0 ⟨by decide, by decide⟩ kf_1_8 kn_1_8 kt_1_8 (by decide) (by decide))
    refine z_getN (pc := 9) (t := 3) (k := 0) K hw (ob hg1) zq3 (by decide) q303 (fun _ h => h) dX1_choices_9 (zval_r kf_3_0) ?_
    have hg2 : tg σ (σ (σ a0 8 0) 0 0) = 4 := (z_tg (t := 3) (r := 4) hw hg1 ⟨by decide, by decide⟩ kf_3_0 kn_3_0 kt_3_0 (by decide) (by decide))
    refine z_getN (pc := 12) (t := 4) (k := 3) K hw (ob hg2) zq4 (by decide) q261 (fun _ h => h) dX1_choices_12 (zval_i kf_4_3) ?_
    refine z_icmp_ge (pc := 15) (tgt := 84) K hv3 (z_rI hw (ob (t := 4) hg2) kf_4_3) dX1_choices_15 (by decide) (fun hc3 => ?_) (fun hc3 => ?_)
    · have h := ite_t h hc3
      refine z_iconst (pc := 18) K dX1_choices_18 ?_
      refine lv_istore (pc := 19) (lv' := [(4, jI 0), (0, jR X a0), (1, jI x1), (2, jI v2), (3, jI v3)]) K.x K.b dX1_choices_19 hl (by decide) rfl (fun ls hl => ?_)
      obtain ⟨n4, h⟩ := h
      exact wk_X1_choices_21 a0 x1 Q σ0 K hx1 (lp_X1_choices_4 a0 x1 Q σ0 n) ih n4 σ v2 v3 0 _ _ _ h hw hk ht0 hv2 hv3 ⟨by decide, by decide⟩ (lv_sub hl [1, 2, 3, 4, 0] rfl)
    · have h := ite_f h hc3
      refine lv_iload_n (pc := 84) K.x K.b dX1_choices_84 rfl (lv_at hl 2 rfl) ?_
      exact z_iret (pc := 85) K hw hv2 ⟨hk, h⟩ dX1_choices_85
set_option maxHeartbeats 4000000 in
theorem met_X1_choices (X : Cxt) (l : Launch) (σ : St) (a0 : Int) (x1 : Int) (ht0 : tg σ a0 = 1) (hx1 : rng x1) (Q : Int → St → Prop) (h : wp_X1_choices σ a0 x1 Q) : MetT l yX1_choices (ws_ yX1_choices cX1_choices 5 (some .int)) (zrm 4 0 0) (ZP X σ [jR X a0, jI x1]) (ZQ X (qI (fun r σ' => Kp ws_X1_choices σ σ' ∧ Q r σ')) (fun _ _ => False)) 0 0 (zA X) := by
  refine z_start (own := "CombTable") (lv := [(0, jR X a0), (1, jI x1)]) (by decide) rfl (by simp [lv_args, jR_cat, jI_cat, jL_cat]) (by simp [lg_sl, jR_cat, jI_cat, jL_cat]) (fun p e s m below meth c ls K _ _ hw hl => ?_)
  have hk : Kp ws_X1_choices σ σ := kp_rf σ
  refine z_iconst (pc := 0) K dX1_choices_0 ?_
  refine lv_istore_n (pc := 1) (lv' := [(2, jI 0), (0, jR X a0), (1, jI x1)]) K.x K.b dX1_choices_1 rfl hl (by decide) rfl (fun ls hl => ?_)
  refine z_iconst (pc := 2) K dX1_choices_2 ?_
  refine lv_istore_n (pc := 3) (lv' := [(3, jI 0), (2, jI 0), (0, jR X a0), (1, jI x1)]) K.x K.b dX1_choices_3 rfl hl (by decide) rfl (fun ls hl => ?_)
  obtain ⟨n1, h⟩ := h
  exact wk_X1_choices_4 a0 x1 Q σ K hx1 n1 σ 0 0 _ _ _ h hw hk ht0 ⟨by decide, by decide⟩ ⟨by decide, by decide⟩ (lv_sub hl [2, 3, 1, 0] rfl)
def wp_X1_count (σ : St) (a0 : Int) (x1 : Int) (Q : Int → Prop) : Prop :=
  (if x1 = 0 then
    Q (σ (σ (σ a0 8 0) 0 0) 3 0)
    else
    (if x1 = 1 then
      Q (σ (σ (σ a0 8 0) 0 0) 4 0)
      else
      (if x1 = 2 then
        Q (σ (σ (σ a0 8 0) 0 0) 5 0)
        else
        (if x1 = 3 then
          Q (σ (σ (σ a0 8 0) 0 0) 6 0)
          else
          (if x1 = 4 then
            (if σ (σ (σ a0 8 0) 0 0) 7 0 = 0 then
              Q 0
              else
              Q 1)
            else
            (if x1 = 5 then
              (if σ (σ (σ a0 8 0) 0 0) 8 0 = 0 then
                Q 0
                else
                Q 1)
              else
              (if x1 = 6 then
                Q (σ (σ a0 8 0) 8 0)
                else
                (if x1 = 7 then
                  Q (σ (σ a0 11 0) 2 0)
                  else
                  (if x1 = 8 then
                    Q (σ a0 1 0)
                    else
                    Q (-1))))))))))
set_option maxHeartbeats 4000000 in
theorem met_X1_count (X : Cxt) (l : Launch) (σ : St) (a0 : Int) (x1 : Int) (ht0 : tg σ a0 = 1) (hx1 : rng x1) (Q : Int → Prop) (h : wp_X1_count σ a0 x1 Q) : MetT l yX1_count (ws_ yX1_count cX1_count 2 (some .int)) (zrm 1 0 0) (ZP X σ [jR X a0, jI x1]) (ZQ X (qI (fun r σ' => σ' = σ ∧ Q r)) (fun _ _ => False)) 0 0 (zA X) := by
  refine z_start (own := "CombTable") (lv := [(0, jR X a0), (1, jI x1)]) (by decide) rfl (by simp [lv_args, jR_cat, jI_cat, jL_cat]) (by simp [lg_sl, jR_cat, jI_cat, jL_cat]) (fun p e s m below meth c ls K _ _ hw hl => ?_)
  refine lv_iload_n (pc := 0) K.x K.b dX1_count_0 rfl (lv_at hl 1 rfl) ?_
  by_cases hc1 : x1 = 0
  · have h := ite_t h hc1
    refine lv_tableIn (pc := 1) (tgt := 52) K.x K.b dX1_count_1 (by rw [rng_ofInt hx1]; omega) (by rw [rng_ofInt hx1]; omega) (off := 51) (by rw [rng_ofInt hx1, hc1]; rfl) (by decide) ?_
    refine z_aload_n (pc := 52) K dX1_count_52 rfl (lv_at hl 0 rfl) ?_
    refine z_get (pc := 53) (t := 1) (k := 8) K hw (ob ht0) zq1 (by decide) q524 (fun _ h => h) dX1_count_53 (zval_r kf_1_8) ?_
    have hg2 : tg σ (σ a0 8 0) = 3 := (z_tg (t := 1) (r := 3) hw ht0 ⟨by decide, by decide⟩ kf_1_8 kn_1_8 kt_1_8 (by decide) (by decide))
    refine z_getN (pc := 56) (t := 3) (k := 0) K hw (ob hg2) zq3 (by decide) q303 (fun _ h => h) dX1_count_56 (zval_r kf_3_0) ?_
    have hg3 : tg σ (σ (σ a0 8 0) 0 0) = 4 := (z_tg (t := 3) (r := 4) hw hg2 ⟨by decide, by decide⟩ kf_3_0 kn_3_0 kt_3_0 (by decide) (by decide))
    refine z_getN (pc := 59) (t := 4) (k := 3) K hw (ob hg3) zq4 (by decide) q261 (fun _ h => h) dX1_count_59 (zval_i kf_4_3) ?_
    exact z_iret (pc := 62) K hw (z_rI hw (ob (t := 4) hg3) kf_4_3) ⟨rfl, h⟩ dX1_count_62
  · have h := ite_f h hc1
    by_cases hc4 : x1 = 1
    · have h := ite_t h hc4
      refine lv_tableIn (pc := 1) (tgt := 63) K.x K.b dX1_count_1 (by rw [rng_ofInt hx1]; omega) (by rw [rng_ofInt hx1]; omega) (off := 62) (by rw [rng_ofInt hx1, hc4]; rfl) (by decide) ?_
      refine z_aload_n (pc := 63) K dX1_count_63 rfl (lv_at hl 0 rfl) ?_
      refine z_get (pc := 64) (t := 1) (k := 8) K hw (ob ht0) zq1 (by decide) q524 (fun _ h => h) dX1_count_64 (zval_r kf_1_8) ?_
      have hg5 : tg σ (σ a0 8 0) = 3 := (z_tg (t := 1) (r := 3) hw ht0 ⟨by decide, by decide⟩ kf_1_8 kn_1_8 kt_1_8 (by decide) (by decide))
      refine z_getN (pc := 67) (t := 3) (k := 0) K hw (ob hg5) zq3 (by decide) q303 (fun _ h => h) dX1_count_67 (zval_r kf_3_0) ?_
      have hg6 : tg σ (σ (σ a0 8 0) 0 0) = 4 := (z_tg (t := 3) (r := 4) hw hg5 ⟨by decide, by decide⟩ kf_3_0 kn_3_0 kt_3_0 (by decide) (by decide))
      refine z_getN (pc := 70) (t := 4) (k := 4) K hw (ob hg6) zq4 (by decide) q267 (fun _ h => h) dX1_count_70 (zval_i kf_4_4) ?_
      exact z_iret (pc := 73) K hw (z_rI hw (ob (t := 4) hg6) kf_4_4) ⟨rfl, h⟩ dX1_count_73
    · have h := ite_f h hc4
      by_cases hc7 : x1 = 2
      · have h := ite_t h hc7
        refine lv_tableIn (pc := 1) (tgt := 74) K.x K.b dX1_count_1 (by rw [rng_ofInt hx1]; omega) (by rw [rng_ofInt hx1]; omega) (off := 73) (by rw [rng_ofInt hx1, hc7]; rfl) (by decide) ?_
        refine z_aload_n (pc := 74) K dX1_count_74 rfl (lv_at hl 0 rfl) ?_
        refine z_get (pc := 75) (t := 1) (k := 8) K hw (ob ht0) zq1 (by decide) q524 (fun _ h => h) dX1_count_75 (zval_r kf_1_8) ?_
        have hg8 : tg σ (σ a0 8 0) = 3 := (z_tg (t := 1) (r := 3) hw ht0 ⟨by decide, by decide⟩ kf_1_8 kn_1_8 kt_1_8 (by decide) (by decide))
        refine z_getN (pc := 78) (t := 3) (k := 0) K hw (ob hg8) zq3 (by decide) q303 (fun _ h => h) dX1_count_78 (zval_r kf_3_0) ?_
        have hg9 : tg σ (σ (σ a0 8 0) 0 0) = 4 := (z_tg (t := 3) (r := 4) hw hg8 ⟨by decide, by decide⟩ kf_3_0 kn_3_0 kt_3_0 (by decide) (by decide))
        refine z_getN (pc := 81) (t := 4) (k := 5) K hw (ob hg9) zq4 (by decide) q269 (fun _ h => h) dX1_count_81 (zval_i kf_4_5) ?_
        exact z_iret (pc := 84) K hw (z_rI hw (ob (t := 4) hg9) kf_4_5) ⟨rfl, h⟩ dX1_count_84
      · have h := ite_f h hc7
        by_cases hc10 : x1 = 3
        · have h := ite_t h hc10
          refine lv_tableIn (pc := 1) (tgt := 85) K.x K.b dX1_count_1 (by rw [rng_ofInt hx1]; omega) (by rw [rng_ofInt hx1]; omega) (off := 84) (by rw [rng_ofInt hx1, hc10]; rfl) (by decide) ?_
          refine z_aload_n (pc := 85) K dX1_count_85 rfl (lv_at hl 0 rfl) ?_
          refine z_get (pc := 86) (t := 1) (k := 8) K hw (ob ht0) zq1 (by decide) q524 (fun _ h => h) dX1_count_86 (zval_r kf_1_8) ?_
          have hg11 : tg σ (σ a0 8 0) = 3 := (z_tg (t := 1) (r := 3) hw ht0 ⟨by decide, by decide⟩ kf_1_8 kn_1_8 kt_1_8 (by decide) (by decide))
          refine z_getN (pc := 89) (t := 3) (k := 0) K hw (ob hg11) zq3 (by decide) q303 (fun _ h => h) dX1_count_89 (zval_r kf_3_0) ?_
          have hg12 : tg σ (σ (σ a0 8 0) 0 0) = 4 := (z_tg (t := 3) (r := 4) hw hg11 ⟨by decide, by decide⟩ kf_3_0 kn_3_0 kt_3_0 (by decide) (by decide))
          refine z_getN (pc := 92) (t := 4) (k := 6) K hw (ob hg12) zq4 (by decide) q272 (fun _ h => h) dX1_count_92 (zval_i kf_4_6) ?_
          exact z_iret (pc := 95) K hw (z_rI hw (ob (t := 4) hg12) kf_4_6) ⟨rfl, h⟩ dX1_count_95
        · have h := ite_f h hc10
          by_cases hc13 : x1 = 4
          · have h := ite_t h hc13
            refine lv_tableIn (pc := 1) (tgt := 96) K.x K.b dX1_count_1 (by rw [rng_ofInt hx1]; omega) (by rw [rng_ofInt hx1]; omega) (off := 95) (by rw [rng_ofInt hx1, hc13]; rfl) (by decide) ?_
            refine z_aload_n (pc := 96) K dX1_count_96 rfl (lv_at hl 0 rfl) ?_
            refine z_get (pc := 97) (t := 1) (k := 8) K hw (ob ht0) zq1 (by decide) q524 (fun _ h => h) dX1_count_97 (zval_r kf_1_8) ?_
            have hg14 : tg σ (σ a0 8 0) = 3 := (z_tg (t := 1) (r := 3) hw ht0 ⟨by decide, by decide⟩ kf_1_8 kn_1_8 kt_1_8 (by decide) (by decide))
            refine z_getN (pc := 100) (t := 3) (k := 0) K hw (ob hg14) zq3 (by decide) q303 (fun _ h => h) dX1_count_100 (zval_r kf_3_0) ?_
            have hg15 : tg σ (σ (σ a0 8 0) 0 0) = 4 := (z_tg (t := 3) (r := 4) hw hg14 ⟨by decide, by decide⟩ kf_3_0 kn_3_0 kt_3_0 (by decide) (by decide))
            refine z_getN (pc := 103) (t := 4) (k := 7) K hw (ob hg15) zq4 (by decide) q275 (fun _ h => h) dX1_count_103 (zval_z kf_4_7) ?_
            refine z_if_eq (pc := 106) (tgt := 113) K (b01r (z_rZ hw (ob (t := 4) hg15) kf_4_7)) dX1_count_106 (by decide) (fun hc16 => ?_) (fun hc16 => ?_)
            · have h := ite_t h hc16
              refine z_iconst (pc := 113) K dX1_count_113 ?_
              exact z_iret (pc := 114) K hw ⟨by decide, by decide⟩ ⟨rfl, h⟩ dX1_count_114
            · have h := ite_f h hc16
              refine z_iconst (pc := 109) K dX1_count_109 ?_
              refine z_goto (pc := 110) (tgt := 114) K dX1_count_110 (by decide) ?_
              exact z_iret (pc := 114) K hw ⟨by decide, by decide⟩ ⟨rfl, h⟩ dX1_count_114
          · have h := ite_f h hc13
            by_cases hc17 : x1 = 5
            · have h := ite_t h hc17
              refine lv_tableIn (pc := 1) (tgt := 115) K.x K.b dX1_count_1 (by rw [rng_ofInt hx1]; omega) (by rw [rng_ofInt hx1]; omega) (off := 114) (by rw [rng_ofInt hx1, hc17]; rfl) (by decide) ?_
              refine z_aload_n (pc := 115) K dX1_count_115 rfl (lv_at hl 0 rfl) ?_
              refine z_get (pc := 116) (t := 1) (k := 8) K hw (ob ht0) zq1 (by decide) q524 (fun _ h => h) dX1_count_116 (zval_r kf_1_8) ?_
              have hg18 : tg σ (σ a0 8 0) = 3 := (z_tg (t := 1) (r := 3) hw ht0 ⟨by decide, by decide⟩ kf_1_8 kn_1_8 kt_1_8 (by decide) (by decide))
              refine z_getN (pc := 119) (t := 3) (k := 0) K hw (ob hg18) zq3 (by decide) q303 (fun _ h => h) dX1_count_119 (zval_r kf_3_0) ?_
              have hg19 : tg σ (σ (σ a0 8 0) 0 0) = 4 := (z_tg (t := 3) (r := 4) hw hg18 ⟨by decide, by decide⟩ kf_3_0 kn_3_0 kt_3_0 (by decide) (by decide))
              refine z_getN (pc := 122) (t := 4) (k := 8) K hw (ob hg19) zq4 (by decide) q278 (fun _ h => h) dX1_count_122 (zval_z kf_4_8) ?_
              refine z_if_eq (pc := 125) (tgt := 132) K (b01r (z_rZ hw (ob (t := 4) hg19) kf_4_8)) dX1_count_125 (by decide) (fun hc20 => ?_) (fun hc20 => ?_)
              · have h := ite_t h hc20
                refine z_iconst (pc := 132) K dX1_count_132 ?_
                exact z_iret (pc := 133) K hw ⟨by decide, by decide⟩ ⟨rfl, h⟩ dX1_count_133
              · have h := ite_f h hc20
                refine z_iconst (pc := 128) K dX1_count_128 ?_
                refine z_goto (pc := 129) (tgt := 133) K dX1_count_129 (by decide) ?_
                exact z_iret (pc := 133) K hw ⟨by decide, by decide⟩ ⟨rfl, h⟩ dX1_count_133
            · have h := ite_f h hc17
              by_cases hc21 : x1 = 6
              · have h := ite_t h hc21
                refine lv_tableIn (pc := 1) (tgt := 134) K.x K.b dX1_count_1 (by rw [rng_ofInt hx1]; omega) (by rw [rng_ofInt hx1]; omega) (off := 133) (by rw [rng_ofInt hx1, hc21]; rfl) (by decide) ?_
                refine z_aload_n (pc := 134) K dX1_count_134 rfl (lv_at hl 0 rfl) ?_
                refine z_get (pc := 135) (t := 1) (k := 8) K hw (ob ht0) zq1 (by decide) q524 (fun _ h => h) dX1_count_135 (zval_r kf_1_8) ?_
                have hg22 : tg σ (σ a0 8 0) = 3 := (z_tg (t := 1) (r := 3) hw ht0 ⟨by decide, by decide⟩ kf_1_8 kn_1_8 kt_1_8 (by decide) (by decide))
                refine z_getN (pc := 138) (t := 3) (k := 8) K hw (ob hg22) zq3 (by decide) q323 (fun _ h => h) dX1_count_138 (zval_i kf_3_8) ?_
                exact z_iret (pc := 141) K hw (z_rI hw (ob (t := 3) hg22) kf_3_8) ⟨rfl, h⟩ dX1_count_141
              · have h := ite_f h hc21
                by_cases hc23 : x1 = 7
                · have h := ite_t h hc23
                  refine lv_tableIn (pc := 1) (tgt := 142) K.x K.b dX1_count_1 (by rw [rng_ofInt hx1]; omega) (by rw [rng_ofInt hx1]; omega) (off := 141) (by rw [rng_ofInt hx1, hc23]; rfl) (by decide) ?_
                  refine z_aload_n (pc := 142) K dX1_count_142 rfl (lv_at hl 0 rfl) ?_
                  refine z_get (pc := 143) (t := 1) (k := 11) K hw (ob ht0) zq1 (by decide) q529 (fun _ h => h) dX1_count_143 (zval_r kf_1_11) ?_
                  have hg24 : tg σ (σ a0 11 0) = 5 := (z_tg (t := 1) (r := 5) hw ht0 ⟨by decide, by decide⟩ kf_1_11 kn_1_11 kt_1_11 (by decide) (by decide))
                  refine z_getN (pc := 146) (t := 5) (k := 2) K hw (ob hg24) zq5 (by decide) q361 (fun _ h => h) dX1_count_146 (zval_i kf_5_2) ?_
                  exact z_iret (pc := 149) K hw (z_rI hw (ob (t := 5) hg24) kf_5_2) ⟨rfl, h⟩ dX1_count_149
                · have h := ite_f h hc23
                  by_cases hc25 : x1 = 8
                  · have h := ite_t h hc25
                    refine lv_tableIn (pc := 1) (tgt := 150) K.x K.b dX1_count_1 (by rw [rng_ofInt hx1]; omega) (by rw [rng_ofInt hx1]; omega) (off := 149) (by rw [rng_ofInt hx1, hc25]; rfl) (by decide) ?_
                    refine z_aload_n (pc := 150) K dX1_count_150 rfl (lv_at hl 0 rfl) ?_
                    refine z_get (pc := 151) (t := 1) (k := 1) K hw (ob ht0) zq1 (by decide) q511 (fun _ h => h) dX1_count_151 (zval_i kf_1_1) ?_
                    exact z_iret (pc := 154) K hw (z_rI hw (ob (t := 1) ht0) kf_1_1) ⟨rfl, h⟩ dX1_count_154
                  · have h := ite_f h hc25
                    refine lv_tableOut (pc := 1) (tgt := 155) K.x K.b dX1_count_1 (by rw [rng_ofInt hx1]; omega) (by decide) ?_
                    refine z_iconst (pc := 155) K dX1_count_155 ?_
                    exact z_iret (pc := 156) K hw ⟨by decide, by decide⟩ ⟨rfl, h⟩ dX1_count_156
def ws_X1_draw : List (Int × Nat) := [(1, 29)]
theorem wo_X1_draw : wsOk ws_X1_draw = true := rfl
def wp_X1_draw (σ : St) (a0 : Int) (x1 : Int) (Q : Int → St → Prop) : Prop :=
  ∀ σ2 : St, σ2 = st σ a0 29 0 (wrap (((σ a0 29 0) * 1103515245) + 12345)) → x1 ≠ 0 ∧ x1 ≠ -1 ∧ rng ((zushr (σ2 a0 29 0) 8).tmod x1) ∧ Q ((zushr (σ2 a0 29 0) 8).tmod x1) σ2
set_option maxHeartbeats 4000000 in
theorem met_X1_draw (X : Cxt) (l : Launch) (σ : St) (a0 : Int) (x1 : Int) (ht0 : tg σ a0 = 1) (hx1 : rng x1) (Q : Int → St → Prop) (h : wp_X1_draw σ a0 x1 Q) : MetT l yX1_draw (ws_ yX1_draw cX1_draw 2 (some .int)) (zrm 1 0 0) (ZP X σ [jR X a0, jI x1]) (ZQ X (qI (fun r σ' => Kp ws_X1_draw σ σ' ∧ Q r σ')) (fun _ _ => False)) 0 0 (zA X) := by
  refine z_start (own := "CombTable") (lv := [(0, jR X a0), (1, jI x1)]) (by decide) rfl (by simp [lv_args, jR_cat, jI_cat, jL_cat]) (by simp [lg_sl, jR_cat, jI_cat, jL_cat]) (fun p e s m below meth c ls K _ _ hw hl => ?_)
  have hk : Kp ws_X1_draw σ σ := kp_rf σ
  refine z_aload_n (pc := 0) K dX1_draw_0 rfl (lv_at hl 0 rfl) ?_
  refine z_aload_n (pc := 1) K dX1_draw_1 rfl (lv_at hl 0 rfl) ?_
  refine z_get (pc := 2) (t := 1) (k := 29) K hw (ob ht0) zq1 (by decide) q547 (fun _ h => h) dX1_draw_2 (zval_i kf_1_29) ?_
  refine z_ldcw (pc := 5) (z := 1103515245) K q1156 (by decide) dX1_draw_5 ?_
  refine z_imul (pc := 8) K dX1_draw_8 ?_
  refine z_sipush (pc := 9) K dX1_draw_9 (by decide) ?_
  refine z_iadd (pc := 12) K dX1_draw_12 ?_
  rw [← jI_wrap (((σ a0 29 0) * 1103515245) + 12345)]
  refine z_puti (pc := 13) (t := 1) 29 K hw (ob ht0) zq1 (by decide) kf_1_29 zt_1_29 (rng_wrap _) q547 (fun _ h => h) rfl dX1_draw_13 (fun _ _ hw1 => ?_)
  obtain ⟨σ2, e3⟩ : ∃ z, z = st σ a0 29 0 (wrap (((σ a0 29 0) * 1103515245) + 12345)) := ⟨_, rfl⟩
  have h := h σ2 e3
  have hw1 := wc_e e3 hw1
  have hk4 := kp_e e3 hk wo_X1_draw (by decide) ht0 (t := 1) (by decide)
  have hg5 : tg σ2 a0 = 1 := (tg_e e3 (by decide)).trans ht0
  refine z_aload_n (pc := 16) K dX1_draw_16 rfl (lv_at hl 0 rfl) ?_
  refine z_get (pc := 17) (t := 1) (k := 29) K hw1 (ob hg5) zq1 (by decide) q547 (fun _ h => h) dX1_draw_17 (zval_i kf_1_29) ?_
  refine z_bipush (pc := 20) K dX1_draw_20 (by decide) ?_
  refine z_iushr (pc := 22) K dX1_draw_22 ?_
  refine lv_iload_n (pc := 23) K.x K.b dX1_draw_23 rfl (lv_at hl 1 rfl) ?_
  obtain ⟨hd6, hd7, h⟩ := h
  refine z_irem (pc := 24) K (rng_toInt _) hx1 hd6 hd7 dX1_draw_24 ?_
  obtain ⟨hr8, h⟩ := h
  exact z_iret (pc := 25) K hw1 hr8 ⟨hk4, h⟩ dX1_draw_25
def wp_X1_isIn (σ : St) (x0 : Int) (x1 : Int) (x2 : Int) (Q : Int → Prop) : Prop :=
  (if x1 ≤ x0 then
    (if x0 ≤ x2 then
      Q 1
      else
      Q 0)
    else
    Q 0)
set_option maxHeartbeats 4000000 in
theorem met_X1_isIn (X : Cxt) (l : Launch) (σ : St) (x0 : Int) (x1 : Int) (x2 : Int) (hx0 : rng x0) (hx1 : rng x1) (hx2 : rng x2) (Q : Int → Prop) (h : wp_X1_isIn σ x0 x1 x2 Q) : MetT l yX1_isIn (ws_ yX1_isIn cX1_isIn 3 (some .boolean)) (zrm 1 0 0) (ZP X σ [jI x0, jI x1, jI x2]) (ZQ X (qZ (fun r σ' => σ' = σ ∧ Q r)) (fun _ _ => False)) 0 0 (zA X) := by
  refine z_start (own := "CombTable") (lv := [(0, jI x0), (1, jI x1), (2, jI x2)]) (by decide) rfl rfl (by simp [lg_sl, jR_cat, jI_cat, jL_cat]) (fun p e s m below meth c ls K _ _ hw hl => ?_)
  refine lv_iload_n (pc := 0) K.x K.b dX1_isIn_0 rfl (lv_at hl 0 rfl) ?_
  refine lv_iload_n (pc := 1) K.x K.b dX1_isIn_1 rfl (lv_at hl 1 rfl) ?_
  refine z_icmp_lt (pc := 2) (tgt := 14) K hx0 hx1 dX1_isIn_2 (by decide) (fun hc1 => ?_) (fun hc1 => ?_)
  · have h := ite_t h hc1
    refine lv_iload_n (pc := 5) K.x K.b dX1_isIn_5 rfl (lv_at hl 0 rfl) ?_
    refine lv_iload_n (pc := 6) K.x K.b dX1_isIn_6 rfl (lv_at hl 2 rfl) ?_
    refine z_icmp_gt (pc := 7) (tgt := 14) K hx0 hx2 dX1_isIn_7 (by decide) (fun hc2 => ?_) (fun hc2 => ?_)
    · have h := ite_t h hc2
      refine z_iconst (pc := 10) K dX1_isIn_10 ?_
      refine z_goto (pc := 11) (tgt := 15) K dX1_isIn_11 (by decide) ?_
      exact z_zret (pc := 15) K hw ⟨by decide, by decide⟩ ⟨rfl, h⟩ dX1_isIn_15
    · have h := ite_f h hc2
      refine z_iconst (pc := 14) K dX1_isIn_14 ?_
      exact z_zret (pc := 15) K hw ⟨by decide, by decide⟩ ⟨rfl, h⟩ dX1_isIn_15
  · have h := ite_f h hc1
    refine z_iconst (pc := 14) K dX1_isIn_14 ?_
    exact z_zret (pc := 15) K hw ⟨by decide, by decide⟩ ⟨rfl, h⟩ dX1_isIn_15
def ws_X1_drawn : List (Int × Nat) := [(1, 29), (3, 1), (3, 2), (3, 3), (3, 4), (3, 5), (3, 6), (3, 7), (3, 8), (3, 9)]
theorem wo_X1_drawn : wsOk ws_X1_drawn = true := rfl
def wp_X1_drawn_b47 (a0 : Int) (x1 : Int) (x2 : Int) (Q : Int → St → Prop) (σ0 : St) (L20 : St → Int → Prop) (σ : St) (v3 : Int) (s0 : Int) : Prop :=
  (if s0 = 0 then
    Q v3 σ
    else
    wp_X1_draw σ a0 s0 (fun r2 σ5 => Kp ws_X1_draw σ σ5 → wp_X1_choices σ5 a0 r2 (fun r10 σ13 => Kp ws_X1_choices σ5 σ13 → rng (v3 + 1) ∧ (L20 σ13 (v3 + 1)))))
def lp_X1_drawn_20 (a0 : Int) (x1 : Int) (x2 : Int) (Q : Int → St → Prop) (σ0 : St) : Nat → St → Int → Prop
  | 0 => fun _ _ => False
  | n + 1 => fun σ v3 => 
    Kp ws_X1_drawn σ0 σ → (if v3 < x1 then
      (if σ (σ a0 8 0) 8 0 = 400 then
        (wp_X1_drawn_b47 a0 x1 x2 Q σ0 (lp_X1_drawn_20 a0 x1 x2 Q σ0 n) σ v3 0)
        else
        wp_X1_choices σ a0 (-1) (fun r4 σ7 => Kp ws_X1_choices σ σ7 → (wp_X1_drawn_b47 a0 x1 x2 Q σ0 (lp_X1_drawn_20 a0 x1 x2 Q σ0 n) σ7 v3 r4)))
      else
      Q x1 σ)
def wp_X1_drawn (σ : St) (a0 : Int) (x1 : Int) (x2 : Int) (Q : Int → St → Prop) : Prop :=
  wp_X1_isIn σ x1 1 400 (fun r1 => (if r1 = 0 then
    Q (-1) σ
    else
    ∀ σ8 : St, σ8 = st σ a0 29 0 x2 → (∃ kk, lp_X1_drawn_20 a0 x1 x2 Q σ kk σ8 0)))
set_option maxHeartbeats 4000000 in
theorem wk_X1_drawn_b47 {X : Cxt} {p : Program} {l : Launch} {e : Env} {s : State} {m : MethodId} {args : Array Value} {below : List Frame} {meth : Method} {c : Code} (a0 : Int) (x1 : Int) (x2 : Int) (Q : Int → St → Prop) (σ0 : St) (K : MCx X p s m args meth c cX1_drawn 5 "CombTable" (some .int)) (hx1 : rng x1) (hx2 : rng x2) (L20 : St → Int → Prop) (hL20 : ∀ (σ : St) (v3 : Int) (H : Heap) (locs : List Loc) (ls : Array Slot), L20 σ v3 → Wc X σ s.heap H locs → Kp ws_X1_drawn σ0 σ → tg σ a0 = 1 → rng v3 → lv_has ls 5 [(0, jR X a0), (1, jI x1), (3, jI v3)] → W p l e (zrm 5 0 0) s m args below meth c H locs 0 0 (MQT below (ZQ X (qI (fun r σ' => Kp ws_X1_drawn σ0 σ' ∧ Q r σ')) (fun _ _ => False)) args s 0 0 (zA X)) (F0 m 20 ls [])) : ∀ (σ : St) (v3 : Int) (s0 : Int) (H : Heap) (locs : List Loc) (ls : Array Slot), wp_X1_drawn_b47 a0 x1 x2 Q σ0 L20 σ v3 s0 → Wc X σ s.heap H locs → Kp ws_X1_drawn σ0 σ → tg σ a0 = 1 → rng v3 → rng s0 → lv_has ls 5 [(0, jR X a0), (1, jI x1), (3, jI v3)] → W p l e (zrm 5 0 0) s m args below meth c H locs 0 0 (MQT below (ZQ X (qI (fun r σ' => Kp ws_X1_drawn σ0 σ' ∧ Q r σ')) (fun _ _ => False)) args s 0 0 (zA X)) (F0 m 47 ls [jI s0]) := by
  intro σ v3 s0 H locs ls h hw hk ht0 hv3 hs0 hl
  refine lv_istore (pc := 47) (lv' := [(4, jI s0), (0, jR X a0), (1, jI x1), (3, jI v3)]) K.x K.b dX1_drawn_47 hl (by decide) rfl (fun ls hl => ?_)
  refine lv_iload (pc := 49) K.x K.b dX1_drawn_49 (lv_at hl 0 rfl) ?_
  refine z_if_ne (pc := 51) (tgt := 56) K hs0 dX1_drawn_51 (by decide) (fun hc1 => ?_) (fun hc1 => ?_)
  · have h := ite_t h hc1
    refine lv_iload_n (pc := 54) K.x K.b dX1_drawn_54 rfl (lv_at hl 3 rfl) ?_
    exact z_iret (pc := 55) K hw hv3 ⟨hk, h⟩ dX1_drawn_55
  · have h := ite_f h hc1
    refine z_aload_n (pc := 56) K dX1_drawn_56 rfl (lv_at hl 1 rfl) ?_
    refine z_aload_n (pc := 57) K dX1_drawn_57 rfl (lv_at hl 1 rfl) ?_
    refine lv_iload (pc := 58) K.x K.b dX1_drawn_58 (lv_at hl 0 rfl) ?_
    refine zc_i (pc := 60) (maxL := 2) K hw (met_X1_draw X l σ a0 s0 ht0 hs0 _ h) (i_V (n := 1) (t := 1) (As := [jI s0]) K hw (ob ht0) zq1 (by decide) q1152 q1154 qs16 (sg_of K q1155) rfl rfl dX1_drawn_60) (locw K q1155 q90) ⟨by decide, by decide⟩ hl.1 dX1_drawn_60 (Nat.le_of_ble_eq_true rfl) ⟨Nat.le_refl _, Nat.le_refl _⟩ (fun r2 σ5 _ _ hr3 hq4 hw6 => ?_)
    obtain ⟨hk7, h⟩ := hq4
    have h := h hk7
    have hk8 := kp_trans wo_X1_drawn hk hk7 (fun _ q => q) (by decide)
    have hg9 : tg σ5 a0 = 1 := kp_tg hk7 wo_X1_draw ht0 (by decide)
    refine zc_i (pc := 63) (maxL := 5) K hw6 (met_X1_choices X l σ5 a0 r2 hg9 hr3 _ h) (i_V (n := 1) (t := 1) (As := [jI r2]) K hw6 (ob hg9) zq1 (by decide) q1147 q1149 qs15 (sg_of K q1150) rfl rfl dX1_drawn_63) (locw K q1150 q90) ⟨by decide, by decide⟩ hl.1 dX1_drawn_63 (Nat.le_of_ble_eq_true rfl) ⟨Nat.le_refl _, Nat.le_refl _⟩ (fun r10 σ13 _ _ hr11 hq12 hw14 => ?_)
    obtain ⟨hk15, h⟩ := hq12
    have h := h hk15
    have hk16 := kp_trans wo_X1_drawn hk8 hk15 (fun _ q => q) (by decide)
    have hg17 : tg σ13 a0 = 1 := kp_tg hk15 wo_X1_choices hg9 (by decide)
    refine lv_pop (pc := 66) K.x K.b dX1_drawn_66 rfl ?_
    refine z_iinc (pc := 67) (k := 3) (lv' := [(3, jI (v3 + 1)), (4, jI s0), (0, jR X a0), (1, jI x1)]) K dX1_drawn_67 hl rfl (by decide) rfl (fun ls hl => ?_)
    refine z_goto (pc := 70) (tgt := 20) K dX1_drawn_70 (by decide) ?_
    obtain ⟨hr18, h⟩ := h
    exact hL20 σ13 (v3 + 1) _ _ _ h hw14 hk16 hg17 hr18 (lv_sub hl [2, 3, 0] rfl)
set_option maxHeartbeats 4000000 in
theorem wk_X1_drawn_20 {X : Cxt} {p : Program} {l : Launch} {e : Env} {s : State} {m : MethodId} {args : Array Value} {below : List Frame} {meth : Method} {c : Code} (a0 : Int) (x1 : Int) (x2 : Int) (Q : Int → St → Prop) (σ0 : St) (K : MCx X p s m args meth c cX1_drawn 5 "CombTable" (some .int)) (hx1 : rng x1) (hx2 : rng x2) : ∀ (n : Nat), ∀ (σ : St) (v3 : Int) (H : Heap) (locs : List Loc) (ls : Array Slot), lp_X1_drawn_20 a0 x1 x2 Q σ0 n σ v3 → Wc X σ s.heap H locs → Kp ws_X1_drawn σ0 σ → tg σ a0 = 1 → rng v3 → lv_has ls 5 [(0, jR X a0), (1, jI x1), (3, jI v3)] → W p l e (zrm 5 0 0) s m args below meth c H locs 0 0 (MQT below (ZQ X (qI (fun r σ' => Kp ws_X1_drawn σ0 σ' ∧ Q r σ')) (fun _ _ => False)) args s 0 0 (zA X)) (F0 m 20 ls []) := by
  intro n
  induction n with
  | zero => intro σ v3 H locs ls h; exact h.elim
  | succ n ih =>
    intro σ v3 H locs ls h hw hk ht0 hv3 hl
    have h := h hk
    refine lv_iload_n (pc := 20) K.x K.b dX1_drawn_20 rfl (lv_at hl 2 rfl) ?_
    refine lv_iload_n (pc := 21) K.x K.b dX1_drawn_21 rfl (lv_at hl 1 rfl) ?_
    refine z_icmp_ge (pc := 22) (tgt := 73) K hv3 hx1 dX1_drawn_22 (by decide) (fun hc1 => ?_) (fun hc1 => ?_)
    · have h := ite_t h hc1
      refine z_aload_n (pc := 25) K dX1_drawn_25 rfl (lv_at hl 0 rfl) ?_
      refine z_get (pc := 26) (t := 1) (k := 8) K hw (ob ht0) zq1 (by decide) q524 (fun _ h => h) dX1_drawn_26 (zval_r kf_1_8) ?_
      have hg2 : tg σ (σ a0 8 0) = 3 := (z_tg (t := 1) (r := 3) hw ht0 ⟨by decide, by decide⟩ kf_1_8 kn_1_8 kt_1_8 (by decide) (by decide))
      refine z_getN (pc := 29) (t := 3) (k := 8) K hw (ob hg2) zq3 (by decide) q323 (fun _ h => h) dX1_drawn_29 (zval_i kf_3_8) ?_
      refine z_sipush (pc := 32) K dX1_drawn_32 (by decide) ?_
      refine z_icmp_ne (pc := 35) (tgt := 42) K (z_rI hw (ob (t := 3) hg2) kf_3_8) ⟨by decide, by decide⟩ dX1_drawn_35 (by decide) (fun hc3 => ?_) (fun hc3 => ?_)
      · have h := ite_t h hc3
        refine z_iconst (pc := 38) K dX1_drawn_38 ?_
        refine z_goto (pc := 39) (tgt := 47) K dX1_drawn_39 (by decide) ?_
        exact wk_X1_drawn_b47 a0 x1 x2 Q σ0 K hx1 hx2 (lp_X1_drawn_20 a0 x1 x2 Q σ0 n) ih σ v3 0 _ _ _ h hw hk ht0 hv3 ⟨by decide, by decide⟩ (lv_sub hl [0, 1, 2] rfl)
      · have h := ite_f h hc3
        refine z_aload_n (pc := 42) K dX1_drawn_42 rfl (lv_at hl 0 rfl) ?_
        refine z_iconst (pc := 43) K dX1_drawn_43 ?_
        refine zc_i (pc := 44) (maxL := 5) K hw (met_X1_choices X l σ a0 (-1) ht0 ⟨by decide, by decide⟩ _ h) (i_V (n := 1) (t := 1) (As := [jI (-1)]) K hw (ob ht0) zq1 (by decide) q1147 q1149 qs15 (sg_of K q1150) rfl rfl dX1_drawn_44) (locw K q1150 q90) ⟨by decide, by decide⟩ hl.1 dX1_drawn_44 (Nat.le_of_ble_eq_true rfl) ⟨Nat.le_refl _, Nat.le_refl _⟩ (fun r4 σ7 _ _ hr5 hq6 hw8 => ?_)
        obtain ⟨hk9, h⟩ := hq6
        have h := h hk9
        have hk10 := kp_trans wo_X1_drawn hk hk9 (fun _ q => q) (by decide)
        have hg11 : tg σ7 a0 = 1 := kp_tg hk9 wo_X1_choices ht0 (by decide)
        exact wk_X1_drawn_b47 a0 x1 x2 Q σ0 K hx1 hx2 (lp_X1_drawn_20 a0 x1 x2 Q σ0 n) ih σ7 v3 r4 _ _ _ h hw8 hk10 hg11 hv3 hr5 (lv_sub hl [0, 1, 2] rfl)
    · have h := ite_f h hc1
      refine lv_iload_n (pc := 73) K.x K.b dX1_drawn_73 rfl (lv_at hl 1 rfl) ?_
      exact z_iret (pc := 74) K hw hx1 ⟨hk, h⟩ dX1_drawn_74
set_option maxHeartbeats 4000000 in
theorem met_X1_drawn (X : Cxt) (l : Launch) (σ : St) (a0 : Int) (x1 : Int) (x2 : Int) (ht0 : tg σ a0 = 1) (hx1 : rng x1) (hx2 : rng x2) (Q : Int → St → Prop) (h : wp_X1_drawn σ a0 x1 x2 Q) : MetT l yX1_drawn (ws_ yX1_drawn cX1_drawn 5 (some .int)) (zrm 5 0 0) (ZP X σ [jR X a0, jI x1, jI x2]) (ZQ X (qI (fun r σ' => Kp ws_X1_drawn σ σ' ∧ Q r σ')) (fun _ _ => False)) 0 0 (zA X) := by
  refine z_start (own := "CombTable") (lv := [(0, jR X a0), (1, jI x1), (2, jI x2)]) (by decide) rfl (by simp [lv_args, jR_cat, jI_cat, jL_cat]) (by simp [lg_sl, jR_cat, jI_cat, jL_cat]) (fun p e s m below meth c ls K _ _ hw hl => ?_)
  have hk : Kp ws_X1_drawn σ σ := kp_rf σ
  refine lv_iload_n (pc := 0) K.x K.b dX1_drawn_0 rfl (lv_at hl 1 rfl) ?_
  refine z_iconst (pc := 1) K dX1_drawn_1 ?_
  refine z_sipush (pc := 2) K dX1_drawn_2 (by decide) ?_
  refine zr_z (pc := 5) (maxL := 3) K hw (met_X1_isIn X l σ x1 1 400 hx1 ⟨by decide, by decide⟩ ⟨by decide, by decide⟩ _ h) (i_S (n := 3) (As := [jI x1, jI 1, jI 400]) K (by decide) q1010 q682 q90 (sg_of K q683) rfl rfl dX1_drawn_5) (locw K q683 q90) ⟨by decide, by decide⟩ hl.1 dX1_drawn_5 (Nat.le_of_ble_eq_true rfl) ⟨Nat.le_refl _, Nat.le_refl _⟩ (fun r1 _ _ hr2 h hw5 => ?_)
  refine z_if_ne (pc := 8) (tgt := 13) K (b01r hr2) dX1_drawn_8 (by decide) (fun hc6 => ?_) (fun hc6 => ?_)
  · have h := ite_t h hc6
    refine z_iconst (pc := 11) K dX1_drawn_11 ?_
    exact z_iret (pc := 12) K hw5 ⟨by decide, by decide⟩ ⟨hk, h⟩ dX1_drawn_12
  · have h := ite_f h hc6
    refine z_aload_n (pc := 13) K dX1_drawn_13 rfl (lv_at hl 0 rfl) ?_
    refine lv_iload_n (pc := 14) K.x K.b dX1_drawn_14 rfl (lv_at hl 2 rfl) ?_
    refine z_puti (pc := 15) (t := 1) 29 K hw5 (ob ht0) zq1 (by decide) kf_1_29 zt_1_29 hx2 q547 (fun _ h => h) rfl dX1_drawn_15 (fun _ _ hw7 => ?_)
    obtain ⟨σ8, e9⟩ : ∃ z, z = st σ a0 29 0 x2 := ⟨_, rfl⟩
    have h := h σ8 e9
    have hw7 := wc_e e9 hw7
    have hk10 := kp_e e9 hk wo_X1_drawn (by decide) ht0 (t := 1) (by decide)
    have hg11 : tg σ8 a0 = 1 := (tg_e e9 (by decide)).trans ht0
    refine z_iconst (pc := 18) K dX1_drawn_18 ?_
    refine lv_istore_n (pc := 19) (lv' := [(3, jI 0), (0, jR X a0), (1, jI x1), (2, jI x2)]) K.x K.b dX1_drawn_19 rfl hl (by decide) rfl (fun ls hl => ?_)
    obtain ⟨n12, h⟩ := h
    exact wk_X1_drawn_20 a0 x1 x2 Q σ K hx1 hx2 n12 σ8 0 _ _ _ h hw7 hk10 hg11 ⟨by decide, by decide⟩ (lv_sub hl [1, 2, 0] rfl)
def ws_X1_end : List (Int × Nat) := [(1, 1)]
theorem wo_X1_end : wsOk ws_X1_end = true := rfl
def wp_X1_end (σ : St) (a0 : Int) (x1 : Int) (Q : Int → St → Prop) : Prop :=
  (if 0 ≤ x1 then
    (if σ a0 1 0 < x1 then
      Q 0 σ
      else
      ∀ σ4 : St, σ4 = st σ a0 1 0 x1 → Q 1 σ4)
    else
    Q 0 σ)
set_option maxHeartbeats 4000000 in
theorem met_X1_end (X : Cxt) (l : Launch) (σ : St) (a0 : Int) (x1 : Int) (ht0 : tg σ a0 = 1) (hx1 : rng x1) (Q : Int → St → Prop) (h : wp_X1_end σ a0 x1 Q) : MetT l yX1_end (ws_ yX1_end cX1_end 2 (some .boolean)) (zrm 1 0 0) (ZP X σ [jR X a0, jI x1]) (ZQ X (qZ (fun r σ' => Kp ws_X1_end σ σ' ∧ Q r σ')) (fun _ _ => False)) 0 0 (zA X) := by
  refine z_start (own := "CombTable") (lv := [(0, jR X a0), (1, jI x1)]) (by decide) rfl (by simp [lv_args, jR_cat, jI_cat, jL_cat]) (by simp [lg_sl, jR_cat, jI_cat, jL_cat]) (fun p e s m below meth c ls K _ _ hw hl => ?_)
  have hk : Kp ws_X1_end σ σ := kp_rf σ
  refine lv_iload_n (pc := 0) K.x K.b dX1_end_0 rfl (lv_at hl 1 rfl) ?_
  refine z_if_lt (pc := 1) (tgt := 12) K hx1 dX1_end_1 (by decide) (fun hc1 => ?_) (fun hc1 => ?_)
  · have h := ite_t h hc1
    refine lv_iload_n (pc := 4) K.x K.b dX1_end_4 rfl (lv_at hl 1 rfl) ?_
    refine z_aload_n (pc := 5) K dX1_end_5 rfl (lv_at hl 0 rfl) ?_
    refine z_get (pc := 6) (t := 1) (k := 1) K hw (ob ht0) zq1 (by decide) q511 (fun _ h => h) dX1_end_6 (zval_i kf_1_1) ?_
    refine z_icmp_le (pc := 9) (tgt := 14) K hx1 (z_rI hw (ob (t := 1) ht0) kf_1_1) dX1_end_9 (by decide) (fun hc2 => ?_) (fun hc2 => ?_)
    · have h := ite_t h hc2
      refine z_iconst (pc := 12) K dX1_end_12 ?_
      exact z_zret (pc := 13) K hw ⟨by decide, by decide⟩ ⟨hk, h⟩ dX1_end_13
    · have h := ite_f h hc2
      refine z_aload_n (pc := 14) K dX1_end_14 rfl (lv_at hl 0 rfl) ?_
      refine lv_iload_n (pc := 15) K.x K.b dX1_end_15 rfl (lv_at hl 1 rfl) ?_
      refine z_puti (pc := 16) (t := 1) 1 K hw (ob ht0) zq1 (by decide) kf_1_1 zt_1_1 hx1 q511 (fun _ h => h) rfl dX1_end_16 (fun _ _ hw3 => ?_)
      obtain ⟨σ4, e5⟩ : ∃ z, z = st σ a0 1 0 x1 := ⟨_, rfl⟩
      have h := h σ4 e5
      have hw3 := wc_e e5 hw3
      have hk6 := kp_e e5 hk wo_X1_end (by decide) ht0 (t := 1) (by decide)
      have hg7 : tg σ4 a0 = 1 := (tg_e e5 (by decide)).trans ht0
      refine z_iconst (pc := 19) K dX1_end_19 ?_
      exact z_zret (pc := 20) K hw3 ⟨by decide, by decide⟩ ⟨hk6, h⟩ dX1_end_20
  · have h := ite_f h hc1
    refine z_iconst (pc := 12) K dX1_end_12 ?_
    exact z_zret (pc := 13) K hw ⟨by decide, by decide⟩ ⟨hk, h⟩ dX1_end_13
def wp_X1_fault (σ : St) (a0 : Int) (Q : Int → Prop) : Prop :=
  Q (σ a0 17 0)
set_option maxHeartbeats 4000000 in
theorem met_X1_fault (X : Cxt) (l : Launch) (σ : St) (a0 : Int) (ht0 : tg σ a0 = 1) (Q : Int → Prop) (h : wp_X1_fault σ a0 Q) : MetT l yX1_fault (ws_ yX1_fault cX1_fault 1 (some .int)) (zrm 1 0 0) (ZP X σ [jR X a0]) (ZQ X (qI (fun r σ' => σ' = σ ∧ Q r)) (fun _ _ => False)) 0 0 (zA X) := by
  refine z_start (own := "CombTable") (lv := [(0, jR X a0)]) (by decide) rfl (by simp [lv_args, jR_cat, jI_cat, jL_cat]) (by simp [lg_sl, jR_cat, jI_cat, jL_cat]) (fun p e s m below meth c ls K _ _ hw hl => ?_)
  refine z_aload_n (pc := 0) K dX1_fault_0 rfl (lv_at hl 0 rfl) ?_
  refine z_get (pc := 1) (t := 1) (k := 17) K hw (ob ht0) zq1 (by decide) q535 (fun _ h => h) dX1_fault_1 (zval_i kf_1_17) ?_
  exact z_iret (pc := 4) K hw (z_rI hw (ob (t := 1) ht0) kf_1_17) ⟨rfl, h⟩ dX1_fault_4
def ws_X1_four : List (Int × Nat) := [(1, 0), (1, 1)]
theorem wo_X1_four : wsOk ws_X1_four = true := rfl
def lp_X1_four_3 (a0 : Int) (x1 : Int) (Q : St → Prop) (σ0 : St) : Nat → St → Int → Prop
  | 0 => fun _ _ => False
  | n + 1 => fun σ v2 => 
    Kp ws_X1_four σ0 σ → (if 0 ≤ v2 then
      (0 ≤ σ a0 1 0 ∧ σ a0 1 0 < 940) ∧ ∀ σ4 : St, σ4 = st σ a0 0 (σ a0 1 0) (zi2b (zshr x1 v2)) → rng ((σ4 a0 1 0) + 1) ∧ ∀ σ10 : St, σ10 = st σ4 a0 1 0 ((σ4 a0 1 0) + 1) → rng (v2 + (-8)) ∧ (lp_X1_four_3 a0 x1 Q σ0 n σ10 (v2 + (-8)))
      else
      Q σ)
def wp_X1_four (σ : St) (a0 : Int) (x1 : Int) (Q : St → Prop) : Prop :=
  (∃ kk, lp_X1_four_3 a0 x1 Q σ kk σ 24)
set_option maxHeartbeats 4000000 in
theorem wk_X1_four_3 {X : Cxt} {p : Program} {l : Launch} {e : Env} {s : State} {m : MethodId} {args : Array Value} {below : List Frame} {meth : Method} {c : Code} (a0 : Int) (x1 : Int) (Q : St → Prop) (σ0 : St) (K : MCx X p s m args meth c cX1_four 3 "CombTable" (none)) (hx1 : rng x1) : ∀ (n : Nat), ∀ (σ : St) (v2 : Int) (H : Heap) (locs : List Loc) (ls : Array Slot), lp_X1_four_3 a0 x1 Q σ0 n σ v2 → Wc X σ s.heap H locs → Kp ws_X1_four σ0 σ → tg σ a0 = 1 → rng v2 → lv_has ls 3 [(0, jR X a0), (1, jI x1), (2, jI v2)] → W p l e (zrm 1 0 0) s m args below meth c H locs 0 0 (MQT below (ZQ X (qV (fun σ' => Kp ws_X1_four σ0 σ' ∧ Q σ')) (fun _ _ => False)) args s 0 0 (zA X)) (F0 m 3 ls []) := by
  intro n
  induction n with
  | zero => intro σ v2 H locs ls h; exact h.elim
  | succ n ih =>
    intro σ v2 H locs ls h hw hk ht0 hv2 hl
    have h := h hk
    refine lv_iload_n (pc := 3) K.x K.b dX1_four_3 rfl (lv_at hl 2 rfl) ?_
    refine z_if_lt (pc := 4) (tgt := 36) K hv2 dX1_four_4 (by decide) (fun hc1 => ?_) (fun hc1 => ?_)
    · have h := ite_t h hc1
      refine z_aload_n (pc := 7) K dX1_four_7 rfl (lv_at hl 0 rfl) ?_
      refine z_get (pc := 8) (t := 1) (k := 0) K hw (ob ht0) zq1 (by decide) q509 (fun _ h => h) dX1_four_8 (zval_p (κ := 0) kf_1_0) ?_
      refine z_aload_n (pc := 11) K dX1_four_11 rfl (lv_at hl 0 rfl) ?_
      refine z_get (pc := 12) (t := 1) (k := 1) K hw (ob ht0) zq1 (by decide) q511 (fun _ h => h) dX1_four_12 (zval_i kf_1_1) ?_
      refine lv_iload_n (pc := 15) K.x K.b dX1_four_15 rfl (lv_at hl 1 rfl) ?_
      refine lv_iload_n (pc := 16) K.x K.b dX1_four_16 rfl (lv_at hl 2 rfl) ?_
      refine z_ishr (pc := 17) K dX1_four_17 ?_
      refine z_i2b (pc := 18) K dX1_four_18 ?_
      obtain ⟨hj2, h⟩ := h
      refine z_bast (pc := 19) (t := 1) K hw ht0 ⟨by decide, by decide⟩ kf_1_0 kl_1_0 hj2 (by decide) (zi2b_b _) dX1_four_19 (fun _ _ hw3 => ?_)
      obtain ⟨σ4, e5⟩ : ∃ z, z = st σ a0 0 (σ a0 1 0) (zi2b (zshr x1 v2)) := ⟨_, rfl⟩
      have h := h σ4 e5
      have hw3 := wc_e e5 hw3
      have hk6 := kp_e e5 hk wo_X1_four hj2.1 ht0 (t := 1) (by decide)
      have hg7 : tg σ4 a0 = 1 := (tg_e e5 (by decide)).trans ht0
      refine z_aload_n (pc := 20) K dX1_four_20 rfl (lv_at hl 0 rfl) ?_
      refine lv_dup (pc := 21) K.x K.b dX1_four_21 (jR_cat _ _) ?_
      refine z_get (pc := 22) (t := 1) (k := 1) K hw3 (ob hg7) zq1 (by decide) q511 (fun _ h => h) dX1_four_22 (zval_i kf_1_1) ?_
      refine z_iconst (pc := 25) K dX1_four_25 ?_
      refine z_iadd (pc := 26) K dX1_four_26 ?_
      obtain ⟨hr8, h⟩ := h
      refine z_puti (pc := 27) (t := 1) 1 K hw3 (ob hg7) zq1 (by decide) kf_1_1 zt_1_1 hr8 q511 (fun _ h => h) rfl dX1_four_27 (fun _ _ hw9 => ?_)
      obtain ⟨σ10, e11⟩ : ∃ z, z = st σ4 a0 1 0 ((σ4 a0 1 0) + 1) := ⟨_, rfl⟩
      have h := h σ10 e11
      have hw9 := wc_e e11 hw9
      have hk12 := kp_e e11 hk6 wo_X1_four (by decide) hg7 (t := 1) (by decide)
      have hg13 : tg σ10 a0 = 1 := (tg_e e11 (by decide)).trans hg7
      refine z_iinc (pc := 30) (k := 2) (lv' := [(2, jI (v2 + (-8))), (0, jR X a0), (1, jI x1)]) K dX1_four_30 hl rfl (by decide) rfl (fun ls hl => ?_)
      refine z_goto (pc := 33) (tgt := 3) K dX1_four_33 (by decide) ?_
      obtain ⟨hr14, h⟩ := h
      exact ih σ10 (v2 + (-8)) _ _ _ h hw9 hk12 hg13 hr14 (lv_sub hl [1, 2, 0] rfl)
    · have h := ite_f h hc1
      exact z_vret (pc := 36) K hw ⟨hk, h⟩ dX1_four_36
set_option maxHeartbeats 4000000 in
theorem met_X1_four (X : Cxt) (l : Launch) (σ : St) (a0 : Int) (x1 : Int) (ht0 : tg σ a0 = 1) (hx1 : rng x1) (Q : St → Prop) (h : wp_X1_four σ a0 x1 Q) : MetT l yX1_four (ws_ yX1_four cX1_four 3 (none)) (zrm 1 0 0) (ZP X σ [jR X a0, jI x1]) (ZQ X (qV (fun σ' => Kp ws_X1_four σ σ' ∧ Q σ')) (fun _ _ => False)) 0 0 (zA X) := by
  refine z_start (own := "CombTable") (lv := [(0, jR X a0), (1, jI x1)]) (by decide) rfl (by simp [lv_args, jR_cat, jI_cat, jL_cat]) (by simp [lg_sl, jR_cat, jI_cat, jL_cat]) (fun p e s m below meth c ls K _ _ hw hl => ?_)
  have hk : Kp ws_X1_four σ σ := kp_rf σ
  refine z_bipush (pc := 0) K dX1_four_0 (by decide) ?_
  refine lv_istore_n (pc := 2) (lv' := [(2, jI 24), (0, jR X a0), (1, jI x1)]) K.x K.b dX1_four_2 rfl hl (by decide) rfl (fun ls hl => ?_)
  obtain ⟨n1, h⟩ := h
  exact wk_X1_four_3 a0 x1 Q σ K hx1 n1 σ 24 _ _ _ h hw hk ht0 ⟨by decide, by decide⟩ (lv_sub hl [1, 2, 0] rfl)
def ws_X1_feed : List (Int × Nat) := [(1, 0), (1, 1)]
theorem wo_X1_feed : wsOk ws_X1_feed = true := rfl
def wp_X1_feed (σ : St) (a0 : Int) (x1 : Int) (x2 : Int) (x3 : Int) (x4 : Int) (x5 : Int) (Q : Int → St → Prop) : Prop :=
  rng ((σ a0 1 0) + 20) ∧ (if 940 < (σ a0 1 0) + 20 then
    Q (-1) σ
    else
    wp_X1_four σ a0 x1 (fun σ6 => Kp ws_X1_four σ σ6 → wp_X1_four σ6 a0 x2 (fun σ14 => Kp ws_X1_four σ6 σ14 → wp_X1_four σ14 a0 x3 (fun σ22 => Kp ws_X1_four σ14 σ22 → wp_X1_four σ22 a0 x4 (fun σ30 => Kp ws_X1_four σ22 σ30 → wp_X1_four σ30 a0 x5 (fun σ38 => Kp ws_X1_four σ30 σ38 → Q (σ38 a0 1 0) σ38))))))
set_option maxHeartbeats 4000000 in
theorem met_X1_feed (X : Cxt) (l : Launch) (σ : St) (a0 : Int) (x1 : Int) (x2 : Int) (x3 : Int) (x4 : Int) (x5 : Int) (ht0 : tg σ a0 = 1) (hx1 : rng x1) (hx2 : rng x2) (hx3 : rng x3) (hx4 : rng x4) (hx5 : rng x5) (Q : Int → St → Prop) (h : wp_X1_feed σ a0 x1 x2 x3 x4 x5 Q) : MetT l yX1_feed (ws_ yX1_feed cX1_feed 6 (some .int)) (zrm 2 0 0) (ZP X σ [jR X a0, jI x1, jI x2, jI x3, jI x4, jI x5]) (ZQ X (qI (fun r σ' => Kp ws_X1_feed σ σ' ∧ Q r σ')) (fun _ _ => False)) 0 0 (zA X) := by
  refine z_start (own := "CombTable") (lv := [(0, jR X a0), (1, jI x1), (2, jI x2), (3, jI x3), (4, jI x4), (5, jI x5)]) (by decide) rfl (by simp [lv_args, jR_cat, jI_cat, jL_cat]) (by simp [lg_sl, jR_cat, jI_cat, jL_cat]) (fun p e s m below meth c ls K _ _ hw hl => ?_)
  have hk : Kp ws_X1_feed σ σ := kp_rf σ
  refine z_aload_n (pc := 0) K dX1_feed_0 rfl (lv_at hl 0 rfl) ?_
  refine z_get (pc := 1) (t := 1) (k := 1) K hw (ob ht0) zq1 (by decide) q511 (fun _ h => h) dX1_feed_1 (zval_i kf_1_1) ?_
  refine z_bipush (pc := 4) K dX1_feed_4 (by decide) ?_
  refine z_iadd (pc := 6) K dX1_feed_6 ?_
  refine z_sipush (pc := 7) K dX1_feed_7 (by decide) ?_
  obtain ⟨hr2, h⟩ := h
  refine z_icmp_le (pc := 10) (tgt := 15) K hr2 ⟨by decide, by decide⟩ dX1_feed_10 (by decide) (fun hc1 => ?_) (fun hc1 => ?_)
  · have h := ite_t h hc1
    refine z_iconst (pc := 13) K dX1_feed_13 ?_
    exact z_iret (pc := 14) K hw ⟨by decide, by decide⟩ ⟨hk, h⟩ dX1_feed_14
  · have h := ite_f h hc1
    refine z_aload_n (pc := 15) K dX1_feed_15 rfl (lv_at hl 0 rfl) ?_
    refine lv_iload_n (pc := 16) K.x K.b dX1_feed_16 rfl (lv_at hl 1 rfl) ?_
    refine zc_v (pc := 17) (maxL := 3) K hw (met_X1_four X l σ a0 x1 ht0 hx1 _ h) (i_V (n := 1) (t := 1) (As := [jI x1]) K hw (ob ht0) zq1 (by decide) q637 q639 qs1 (sg_of K q640) rfl rfl dX1_feed_17) (locw K q640 q90) ⟨by decide, by decide⟩ hl.1 dX1_feed_17 (Nat.le_of_ble_eq_true rfl) ⟨Nat.le_refl _, Nat.le_refl _⟩ (fun σ6 _ _ hq5 hw7 => ?_)
    obtain ⟨hk8, h⟩ := hq5
    have h := h hk8
    have hk9 := kp_trans wo_X1_feed hk hk8 (fun _ q => q) (by decide)
    have hg10 : tg σ6 a0 = 1 := kp_tg hk8 wo_X1_four ht0 (by decide)
    refine z_aload_n (pc := 20) K dX1_feed_20 rfl (lv_at hl 0 rfl) ?_
    refine lv_iload_n (pc := 21) K.x K.b dX1_feed_21 rfl (lv_at hl 2 rfl) ?_
    refine zc_v (pc := 22) (maxL := 3) K hw7 (met_X1_four X l σ6 a0 x2 hg10 hx2 _ h) (i_V (n := 1) (t := 1) (As := [jI x2]) K hw7 (ob hg10) zq1 (by decide) q637 q639 qs1 (sg_of K q640) rfl rfl dX1_feed_22) (locw K q640 q90) ⟨by decide, by decide⟩ hl.1 dX1_feed_22 (Nat.le_of_ble_eq_true rfl) ⟨Nat.le_refl _, Nat.le_refl _⟩ (fun σ14 _ _ hq13 hw15 => ?_)
    obtain ⟨hk16, h⟩ := hq13
    have h := h hk16
    have hk17 := kp_trans wo_X1_feed hk9 hk16 (fun _ q => q) (by decide)
    have hg18 : tg σ14 a0 = 1 := kp_tg hk16 wo_X1_four hg10 (by decide)
    refine z_aload_n (pc := 25) K dX1_feed_25 rfl (lv_at hl 0 rfl) ?_
    refine lv_iload_n (pc := 26) K.x K.b dX1_feed_26 rfl (lv_at hl 3 rfl) ?_
    refine zc_v (pc := 27) (maxL := 3) K hw15 (met_X1_four X l σ14 a0 x3 hg18 hx3 _ h) (i_V (n := 1) (t := 1) (As := [jI x3]) K hw15 (ob hg18) zq1 (by decide) q637 q639 qs1 (sg_of K q640) rfl rfl dX1_feed_27) (locw K q640 q90) ⟨by decide, by decide⟩ hl.1 dX1_feed_27 (Nat.le_of_ble_eq_true rfl) ⟨Nat.le_refl _, Nat.le_refl _⟩ (fun σ22 _ _ hq21 hw23 => ?_)
    obtain ⟨hk24, h⟩ := hq21
    have h := h hk24
    have hk25 := kp_trans wo_X1_feed hk17 hk24 (fun _ q => q) (by decide)
    have hg26 : tg σ22 a0 = 1 := kp_tg hk24 wo_X1_four hg18 (by decide)
    refine z_aload_n (pc := 30) K dX1_feed_30 rfl (lv_at hl 0 rfl) ?_
    refine lv_iload (pc := 31) K.x K.b dX1_feed_31 (lv_at hl 4 rfl) ?_
    refine zc_v (pc := 33) (maxL := 3) K hw23 (met_X1_four X l σ22 a0 x4 hg26 hx4 _ h) (i_V (n := 1) (t := 1) (As := [jI x4]) K hw23 (ob hg26) zq1 (by decide) q637 q639 qs1 (sg_of K q640) rfl rfl dX1_feed_33) (locw K q640 q90) ⟨by decide, by decide⟩ hl.1 dX1_feed_33 (Nat.le_of_ble_eq_true rfl) ⟨Nat.le_refl _, Nat.le_refl _⟩ (fun σ30 _ _ hq29 hw31 => ?_)
    obtain ⟨hk32, h⟩ := hq29
    have h := h hk32
    have hk33 := kp_trans wo_X1_feed hk25 hk32 (fun _ q => q) (by decide)
    have hg34 : tg σ30 a0 = 1 := kp_tg hk32 wo_X1_four hg26 (by decide)
    refine z_aload_n (pc := 36) K dX1_feed_36 rfl (lv_at hl 0 rfl) ?_
    refine lv_iload (pc := 37) K.x K.b dX1_feed_37 (lv_at hl 5 rfl) ?_
    refine zc_v (pc := 39) (maxL := 3) K hw31 (met_X1_four X l σ30 a0 x5 hg34 hx5 _ h) (i_V (n := 1) (t := 1) (As := [jI x5]) K hw31 (ob hg34) zq1 (by decide) q637 q639 qs1 (sg_of K q640) rfl rfl dX1_feed_39) (locw K q640 q90) ⟨by decide, by decide⟩ hl.1 dX1_feed_39 (Nat.le_of_ble_eq_true rfl) ⟨Nat.le_refl _, Nat.le_refl _⟩ (fun σ38 _ _ hq37 hw39 => ?_)
    obtain ⟨hk40, h⟩ := hq37
    have h := h hk40
    have hk41 := kp_trans wo_X1_feed hk33 hk40 (fun _ q => q) (by decide)
    have hg42 : tg σ38 a0 = 1 := kp_tg hk40 wo_X1_four hg34 (by decide)
    refine z_aload_n (pc := 42) K dX1_feed_42 rfl (lv_at hl 0 rfl) ?_
    refine z_get (pc := 43) (t := 1) (k := 1) K hw39 (ob hg42) zq1 (by decide) q511 (fun _ h => h) dX1_feed_43 (zval_i kf_1_1) ?_
    exact z_iret (pc := 46) K hw39 (z_rI hw39 (ob (t := 1) hg42) kf_1_1) ⟨hk41, h⟩ dX1_feed_46
def wp_X1_found (σ : St) (a0 : Int) (x1 : Int) (Q : Int → Prop) : Prop :=
  rng ((σ a0 31 0) - 1) ∧ wp_X1_isIn σ x1 0 ((σ a0 31 0) - 1) (fun r2 => (if r2 = 0 then
    Q (-1)
    else
    (0 ≤ x1 ∧ x1 < 8) ∧ Q (σ a0 30 x1)))
set_option maxHeartbeats 4000000 in
theorem met_X1_found (X : Cxt) (l : Launch) (σ : St) (a0 : Int) (x1 : Int) (ht0 : tg σ a0 = 1) (hx1 : rng x1) (Q : Int → Prop) (h : wp_X1_found σ a0 x1 Q) : MetT l yX1_found (ws_ yX1_found cX1_found 2 (some .int)) (zrm 2 0 0) (ZP X σ [jR X a0, jI x1]) (ZQ X (qI (fun r σ' => σ' = σ ∧ Q r)) (fun _ _ => False)) 0 0 (zA X) := by
  refine z_start (own := "CombTable") (lv := [(0, jR X a0), (1, jI x1)]) (by decide) rfl (by simp [lv_args, jR_cat, jI_cat, jL_cat]) (by simp [lg_sl, jR_cat, jI_cat, jL_cat]) (fun p e s m below meth c ls K _ _ hw hl => ?_)
  refine lv_iload_n (pc := 0) K.x K.b dX1_found_0 rfl (lv_at hl 1 rfl) ?_
  refine z_iconst (pc := 1) K dX1_found_1 ?_
  refine z_aload_n (pc := 2) K dX1_found_2 rfl (lv_at hl 0 rfl) ?_
  refine z_get (pc := 3) (t := 1) (k := 31) K hw (ob ht0) zq1 (by decide) q549 (fun _ h => h) dX1_found_3 (zval_i kf_1_31) ?_
  refine z_iconst (pc := 6) K dX1_found_6 ?_
  refine z_isub (pc := 7) K dX1_found_7 ?_
  obtain ⟨hr1, h⟩ := h
  refine zr_z (pc := 8) (maxL := 3) K hw (met_X1_isIn X l σ x1 0 ((σ a0 31 0) - 1) hx1 ⟨by decide, by decide⟩ hr1 _ h) (i_S (n := 3) (As := [jI x1, jI 0, jI ((σ a0 31 0) - 1)]) K (by decide) q1010 q682 q90 (sg_of K q683) rfl rfl dX1_found_8) (locw K q683 q90) ⟨by decide, by decide⟩ hl.1 dX1_found_8 (Nat.le_of_ble_eq_true rfl) ⟨Nat.le_refl _, Nat.le_refl _⟩ (fun r2 _ _ hr3 h hw6 => ?_)
  refine z_if_eq (pc := 11) (tgt := 23) K (b01r hr3) dX1_found_11 (by decide) (fun hc7 => ?_) (fun hc7 => ?_)
  · have h := ite_t h hc7
    refine z_iconst (pc := 23) K dX1_found_23 ?_
    exact z_iret (pc := 24) K hw6 ⟨by decide, by decide⟩ ⟨rfl, h⟩ dX1_found_24
  · have h := ite_f h hc7
    refine z_aload_n (pc := 14) K dX1_found_14 rfl (lv_at hl 0 rfl) ?_
    refine z_get (pc := 15) (t := 1) (k := 30) K hw6 (ob ht0) zq1 (by decide) q548 (fun _ h => h) dX1_found_15 (zval_p (κ := 1) kf_1_30) ?_
    refine lv_iload_n (pc := 18) K.x K.b dX1_found_18 rfl (lv_at hl 1 rfl) ?_
    obtain ⟨hj8, h⟩ := h
    refine z_iald (pc := 19) (t := 1) K hw6 ht0 ⟨by decide, by decide⟩ kf_1_30 kl_1_30 hj8 (by decide) dX1_found_19 ?_
    refine z_goto (pc := 20) (tgt := 24) K dX1_found_20 (by decide) ?_
    exact z_iret (pc := 24) K hw6 (z_elI (t := 1) hw6 ht0 ⟨by decide, by decide⟩ kf_1_30 kl_1_30 hj8) ⟨rfl, h⟩ dX1_found_24
def wp_X1_isFar_b29 (σ : St) (x0 : Int) (x1 : Int) (x2 : Int) (Q : Int → Prop) (v3 : Int) : Prop :=
  (if x2 < v3 then
    Q 1
    else
    Q 0)
def lp_X1_isFar_5 (σ : St) (x0 : Int) (x1 : Int) (x2 : Int) (Q : Int → Prop) : Nat → Int → Int → Prop
  | 0 => fun _ _ => False
  | n + 1 => fun v3 v5 => 
    (if v5 < x1 then
      (if v3 ≤ x2 then
        rngL (v3 * x0) ∧ rng (v5 + 1) ∧ (lp_X1_isFar_5 σ x0 x1 x2 Q n (v3 * x0) (v5 + 1))
        else
        (wp_X1_isFar_b29 σ x0 x1 x2 Q v3))
      else
      (wp_X1_isFar_b29 σ x0 x1 x2 Q v3))
def wp_X1_isFar (σ : St) (x0 : Int) (x1 : Int) (x2 : Int) (Q : Int → Prop) : Prop :=
  (∃ kk, lp_X1_isFar_5 σ x0 x1 x2 Q kk 1 0)
set_option maxHeartbeats 4000000 in
theorem wk_X1_isFar_b29 {X : Cxt} {p : Program} {l : Launch} {e : Env} {s : State} {m : MethodId} {args : Array Value} {below : List Frame} {meth : Method} {c : Code} (σ : St) (x0 : Int) (x1 : Int) (x2 : Int) (Q : Int → Prop) (K : MCx X p s m args meth c cX1_isFar 6 "CombTable" (some .boolean)) (hx0 : rng x0) (hx1 : rng x1) (hx2 : rng x2) : ∀ (v3 : Int) (H : Heap) (locs : List Loc) (ls : Array Slot), wp_X1_isFar_b29 σ x0 x1 x2 Q v3 → Wc X σ s.heap H locs → rngL v3 → lv_has ls 6 [(2, jI x2), (3, jL v3)] → W p l e (zrm 1 0 0) s m args below meth c H locs 0 0 (MQT below (ZQ X (qZ (fun r σ' => σ' = σ ∧ Q r)) (fun _ _ => False)) args s 0 0 (zA X)) (F0 m 29 ls []) := by
  intro v3 H locs ls h hw hv3 hl
  refine lv_lload_n (pc := 29) K.x K.b dX1_isFar_29 rfl (lv_at hl 1 rfl) ?_
  refine lv_iload_n (pc := 30) K.x K.b dX1_isFar_30 rfl (lv_at hl 0 rfl) ?_
  refine z_i2l (pc := 31) K hx2 dX1_isFar_31 ?_
  refine z_lcmp (pc := 32) K hv3 (rng_L hx2) dX1_isFar_32 ?_
  refine z_if_le (pc := 33) (tgt := 40) K (rng_zcmp _ _) dX1_isFar_33 (by decide) (fun hc1 => ?_) (fun hc1 => ?_)
  · have hc1 := zcmp_gt.mp hc1
    have h := ite_t h hc1
    refine z_iconst (pc := 36) K dX1_isFar_36 ?_
    refine z_goto (pc := 37) (tgt := 41) K dX1_isFar_37 (by decide) ?_
    exact z_zret (pc := 41) K hw ⟨by decide, by decide⟩ ⟨rfl, h⟩ dX1_isFar_41
  · have hc1 := fun q => hc1 (zcmp_gt.mpr q)
    have h := ite_f h hc1
    refine z_iconst (pc := 40) K dX1_isFar_40 ?_
    exact z_zret (pc := 41) K hw ⟨by decide, by decide⟩ ⟨rfl, h⟩ dX1_isFar_41
set_option maxHeartbeats 4000000 in
theorem wk_X1_isFar_5 {X : Cxt} {p : Program} {l : Launch} {e : Env} {s : State} {m : MethodId} {args : Array Value} {below : List Frame} {meth : Method} {c : Code} (σ : St) (x0 : Int) (x1 : Int) (x2 : Int) (Q : Int → Prop) (K : MCx X p s m args meth c cX1_isFar 6 "CombTable" (some .boolean)) (hx0 : rng x0) (hx1 : rng x1) (hx2 : rng x2) : ∀ (n : Nat), ∀ (v3 : Int) (v5 : Int) (H : Heap) (locs : List Loc) (ls : Array Slot), lp_X1_isFar_5 σ x0 x1 x2 Q n v3 v5 → Wc X σ s.heap H locs → rngL v3 → rng v5 → lv_has ls 6 [(0, jI x0), (1, jI x1), (2, jI x2), (3, jL v3), (5, jI v5)] → W p l e (zrm 1 0 0) s m args below meth c H locs 0 0 (MQT below (ZQ X (qZ (fun r σ' => σ' = σ ∧ Q r)) (fun _ _ => False)) args s 0 0 (zA X)) (F0 m 5 ls []) := by
  intro n
  induction n with
  | zero => intro v3 v5 H locs ls h; exact h.elim
  | succ n ih =>
    intro v3 v5 H locs ls h hw hv3 hv5 hl
    refine lv_iload (pc := 5) K.x K.b dX1_isFar_5 (lv_at hl 4 rfl) ?_
    refine lv_iload_n (pc := 7) K.x K.b dX1_isFar_7 rfl (lv_at hl 1 rfl) ?_
    refine z_icmp_ge (pc := 8) (tgt := 29) K hv5 hx1 dX1_isFar_8 (by decide) (fun hc1 => ?_) (fun hc1 => ?_)
    · have h := ite_t h hc1
      refine lv_lload_n (pc := 11) K.x K.b dX1_isFar_11 rfl (lv_at hl 3 rfl) ?_
      refine lv_iload_n (pc := 12) K.x K.b dX1_isFar_12 rfl (lv_at hl 2 rfl) ?_
      refine z_i2l (pc := 13) K hx2 dX1_isFar_13 ?_
      refine z_lcmp (pc := 14) K hv3 (rng_L hx2) dX1_isFar_14 ?_
      refine z_if_gt (pc := 15) (tgt := 29) K (rng_zcmp _ _) dX1_isFar_15 (by decide) (fun hc2 => ?_) (fun hc2 => ?_)
      · have hc2 := zcmp_le.mp hc2
        have h := ite_t h hc2
        refine lv_lload_n (pc := 18) K.x K.b dX1_isFar_18 rfl (lv_at hl 3 rfl) ?_
        refine lv_iload_n (pc := 19) K.x K.b dX1_isFar_19 rfl (lv_at hl 0 rfl) ?_
        refine z_i2l (pc := 20) K hx0 dX1_isFar_20 ?_
        refine z_lmul (pc := 21) K dX1_isFar_21 ?_
        refine lv_lstore_n (pc := 22) (lv' := [(3, jL (v3 * x0)), (0, jI x0), (1, jI x1), (2, jI x2), (5, jI v5)]) K.x K.b dX1_isFar_22 rfl hl (by decide) rfl (fun ls hl => ?_)
        refine z_iinc (pc := 23) (k := 4) (lv' := [(5, jI (v5 + 1)), (3, jL (v3 * x0)), (0, jI x0), (1, jI x1), (2, jI x2)]) K dX1_isFar_23 hl rfl (by decide) rfl (fun ls hl => ?_)
        refine z_goto (pc := 26) (tgt := 5) K dX1_isFar_26 (by decide) ?_
        obtain ⟨hr3, h⟩ := h
        obtain ⟨hr4, h⟩ := h
        exact ih (v3 * x0) (v5 + 1) _ _ _ h hw hr3 hr4 (lv_sub hl [2, 3, 4, 1, 0] rfl)
      · have hc2 := fun q => hc2 (zcmp_le.mpr q)
        have h := ite_f h hc2
        exact wk_X1_isFar_b29 σ x0 x1 x2 Q K hx0 hx1 hx2 v3 _ _ _ h hw hv3 (lv_sub hl [2, 3] rfl)
    · have h := ite_f h hc1
      exact wk_X1_isFar_b29 σ x0 x1 x2 Q K hx0 hx1 hx2 v3 _ _ _ h hw hv3 (lv_sub hl [2, 3] rfl)
set_option maxHeartbeats 4000000 in
theorem met_X1_isFar (X : Cxt) (l : Launch) (σ : St) (x0 : Int) (x1 : Int) (x2 : Int) (hx0 : rng x0) (hx1 : rng x1) (hx2 : rng x2) (Q : Int → Prop) (h : wp_X1_isFar σ x0 x1 x2 Q) : MetT l yX1_isFar (ws_ yX1_isFar cX1_isFar 6 (some .boolean)) (zrm 1 0 0) (ZP X σ [jI x0, jI x1, jI x2]) (ZQ X (qZ (fun r σ' => σ' = σ ∧ Q r)) (fun _ _ => False)) 0 0 (zA X) := by
  refine z_start (own := "CombTable") (lv := [(0, jI x0), (1, jI x1), (2, jI x2)]) (by decide) rfl rfl (by simp [lg_sl, jR_cat, jI_cat, jL_cat]) (fun p e s m below meth c ls K _ _ hw hl => ?_)
  refine z_lconst (pc := 0) (z := 1) K dX1_isFar_0 (by decide) ?_
  refine lv_lstore_n (pc := 1) (lv' := [(3, jL 1), (0, jI x0), (1, jI x1), (2, jI x2)]) K.x K.b dX1_isFar_1 rfl hl (by decide) rfl (fun ls hl => ?_)
  refine z_iconst (pc := 2) K dX1_isFar_2 ?_
  refine lv_istore (pc := 3) (lv' := [(5, jI 0), (3, jL 1), (0, jI x0), (1, jI x1), (2, jI x2)]) K.x K.b dX1_isFar_3 hl (by decide) rfl (fun ls hl => ?_)
  obtain ⟨n1, h⟩ := h
  exact wk_X1_isFar_5 σ x0 x1 x2 Q K hx0 hx1 hx2 n1 1 0 _ _ _ h hw ⟨by decide, by decide⟩ ⟨by decide, by decide⟩ (lv_sub hl [2, 3, 4, 1, 0] rfl)
def wp_X3_stateOf (σ : St) (a0 : Int) (x1 : Int) (Q : Int → Prop) : Prop :=
  (0 ≤ x1 ∧ x1 < 400) ∧ (if σ a0 6 x1 = 4 then
    wp_X3_kindOf σ a0 x1 (fun r3 => r3 ≠ -1 ∧ rng (((σ a0 8 0) - 1) - x1) ∧ (if σ r3 3 0 < ((σ a0 8 0) - 1) - x1 then
      Q 8
      else
      Q (σ a0 6 x1)))
    else
    Q (σ a0 6 x1))
set_option maxHeartbeats 4000000 in
theorem met_X3_stateOf (X : Cxt) (l : Launch) (σ : St) (a0 : Int) (x1 : Int) (ht0 : tg σ a0 = 3) (hx1 : rng x1) (Q : Int → Prop) (h : wp_X3_stateOf σ a0 x1 Q) : MetT l yX3_stateOf (ws_ yX3_stateOf cX3_stateOf 2 (some .int)) (zrm 2 0 0) (ZP X σ [jR X a0, jI x1]) (ZQ X (qI (fun r σ' => σ' = σ ∧ Q r)) (fun _ _ => False)) 0 0 (zA X) := by
  refine z_start (own := "CombTable$Talk") (lv := [(0, jR X a0), (1, jI x1)]) (by decide) rfl (by simp [lv_args, jR_cat, jI_cat, jL_cat]) (by simp [lg_sl, jR_cat, jI_cat, jL_cat]) (fun p e s m below meth c ls K _ _ hw hl => ?_)
  refine z_aload_n (pc := 0) K dX3_stateOf_0 rfl (lv_at hl 0 rfl) ?_
  refine z_get (pc := 1) (t := 3) (k := 6) K hw (ob ht0) zq3 (by decide) q319 (fun _ h => h) dX3_stateOf_1 (zval_p (κ := 1) kf_3_6) ?_
  refine lv_iload_n (pc := 4) K.x K.b dX3_stateOf_4 rfl (lv_at hl 1 rfl) ?_
  obtain ⟨hj1, h⟩ := h
  refine z_iald (pc := 5) (t := 3) K hw ht0 ⟨by decide, by decide⟩ kf_3_6 kl_3_6 hj1 (by decide) dX3_stateOf_5 ?_
  refine z_iconst (pc := 6) K dX3_stateOf_6 ?_
  refine z_icmp_ne (pc := 7) (tgt := 34) K (z_elI (t := 3) hw ht0 ⟨by decide, by decide⟩ kf_3_6 kl_3_6 hj1) ⟨by decide, by decide⟩ dX3_stateOf_7 (by decide) (fun hc2 => ?_) (fun hc2 => ?_)
  · have h := ite_t h hc2
    refine z_aload_n (pc := 10) K dX3_stateOf_10 rfl (lv_at hl 0 rfl) ?_
    refine z_get (pc := 11) (t := 3) (k := 8) K hw (ob ht0) zq3 (by decide) q321 (fun _ h => h) dX3_stateOf_11 (zval_i kf_3_8) ?_
    refine z_iconst (pc := 14) K dX3_stateOf_14 ?_
    refine z_isub (pc := 15) K dX3_stateOf_15 ?_
    refine lv_iload_n (pc := 16) K.x K.b dX3_stateOf_16 rfl (lv_at hl 1 rfl) ?_
    refine z_isub (pc := 17) K dX3_stateOf_17 ?_
    refine z_aload_n (pc := 18) K dX3_stateOf_18 rfl (lv_at hl 0 rfl) ?_
    refine lv_iload_n (pc := 19) K.x K.b dX3_stateOf_19 rfl (lv_at hl 1 rfl) ?_
    refine zr_r (pc := 20) (maxL := 2) K hw (met_X3_kindOf X l σ a0 x1 ht0 hx1 _ h) (i_V (n := 1) (t := 3) (As := [jI x1]) K hw (ob ht0) zq3 (by decide) q928 q929 q930 (sg_of K q931) rfl rfl dX3_stateOf_20) (locw K q931 q94) ⟨by decide, by decide⟩ hl.1 dX3_stateOf_20 (Nat.le_of_ble_eq_true rfl) ⟨Nat.le_refl _, Nat.le_refl _⟩ (fun r3 _ _ hr4 h hw7 => ?_)
    obtain ⟨hn9, h⟩ := h
    have hg8 : tg σ r3 = 12 := okR_nn hn9 (by decide) (by decide) hr4
    refine z_getN (pc := 23) (t := 12) (k := 3) K hw7 (ob hg8) zq12 (by decide) q836 (fun _ h => h) dX3_stateOf_23 (zval_i kf_12_3) ?_
    obtain ⟨hr11, h⟩ := h
    refine z_icmp_le (pc := 26) (tgt := 34) K hr11 (z_rI hw7 (ob (t := 12) hg8) kf_12_3) dX3_stateOf_26 (by decide) (fun hc10 => ?_) (fun hc10 => ?_)
    · have h := ite_t h hc10
      refine z_bipush (pc := 29) K dX3_stateOf_29 (by decide) ?_
      refine z_goto (pc := 31) (tgt := 40) K dX3_stateOf_31 (by decide) ?_
      exact z_iret (pc := 40) K hw7 ⟨by decide, by decide⟩ ⟨rfl, h⟩ dX3_stateOf_40
    · have h := ite_f h hc10
      refine z_aload_n (pc := 34) K dX3_stateOf_34 rfl (lv_at hl 0 rfl) ?_
      refine z_get (pc := 35) (t := 3) (k := 6) K hw7 (ob ht0) zq3 (by decide) q319 (fun _ h => h) dX3_stateOf_35 (zval_p (κ := 1) kf_3_6) ?_
      refine lv_iload_n (pc := 38) K.x K.b dX3_stateOf_38 rfl (lv_at hl 1 rfl) ?_
      refine z_iald (pc := 39) (t := 3) K hw7 ht0 ⟨by decide, by decide⟩ kf_3_6 kl_3_6 hj1 (by decide) dX3_stateOf_39 ?_
      exact z_iret (pc := 40) K hw7 (z_elI (t := 3) hw7 ht0 ⟨by decide, by decide⟩ kf_3_6 kl_3_6 hj1) ⟨rfl, h⟩ dX3_stateOf_40
  · have h := ite_f h hc2
    refine z_aload_n (pc := 34) K dX3_stateOf_34 rfl (lv_at hl 0 rfl) ?_
    refine z_get (pc := 35) (t := 3) (k := 6) K hw (ob ht0) zq3 (by decide) q319 (fun _ h => h) dX3_stateOf_35 (zval_p (κ := 1) kf_3_6) ?_
    refine lv_iload_n (pc := 38) K.x K.b dX3_stateOf_38 rfl (lv_at hl 1 rfl) ?_
    refine z_iald (pc := 39) (t := 3) K hw ht0 ⟨by decide, by decide⟩ kf_3_6 kl_3_6 hj1 (by decide) dX3_stateOf_39 ?_
    exact z_iret (pc := 40) K hw (z_elI (t := 3) hw ht0 ⟨by decide, by decide⟩ kf_3_6 kl_3_6 hj1) ⟨rfl, h⟩ dX3_stateOf_40
def ws_X3_tries : List (Int × Nat) := [(3, 1), (3, 2), (3, 3), (3, 4), (3, 5), (3, 6), (3, 7), (3, 8), (3, 9)]
theorem wo_X3_tries : wsOk ws_X3_tries = true := rfl
def wp_X3_tries (σ : St) (a0 : Int) (x1 : Int) (x2 : Int) (Q : Int → St → Prop) : Prop :=
  wp_X3_why σ a0 x1 x2 (fun r1 => (if r1 = 0 then
    wp_X3_say σ a0 x1 x2 (fun σ10 => Kp ws_X3_say σ σ10 → Q r1 σ10)
    else
    Q r1 σ))
set_option maxHeartbeats 4000000 in
theorem met_X3_tries (X : Cxt) (l : Launch) (σ : St) (a0 : Int) (x1 : Int) (x2 : Int) (ht0 : tg σ a0 = 3) (hx1 : rng x1) (hx2 : rng x2) (Q : Int → St → Prop) (h : wp_X3_tries σ a0 x1 x2 Q) : MetT l yX3_tries (ws_ yX3_tries cX3_tries 4 (some .int)) (zrm 4 0 0) (ZP X σ [jR X a0, jI x1, jI x2]) (ZQ X (qI (fun r σ' => Kp ws_X3_tries σ σ' ∧ Q r σ')) (fun _ _ => False)) 0 0 (zA X) := by
  refine z_start (own := "CombTable$Talk") (lv := [(0, jR X a0), (1, jI x1), (2, jI x2)]) (by decide) rfl (by simp [lv_args, jR_cat, jI_cat, jL_cat]) (by simp [lg_sl, jR_cat, jI_cat, jL_cat]) (fun p e s m below meth c ls K _ _ hw hl => ?_)
  have hk : Kp ws_X3_tries σ σ := kp_rf σ
  refine z_aload_n (pc := 0) K dX3_tries_0 rfl (lv_at hl 0 rfl) ?_
  refine lv_iload_n (pc := 1) K.x K.b dX3_tries_1 rfl (lv_at hl 1 rfl) ?_
  refine lv_iload_n (pc := 2) K.x K.b dX3_tries_2 rfl (lv_at hl 2 rfl) ?_
  refine zr_i (pc := 3) (maxL := 5) K hw (met_X3_why X l σ a0 x1 x2 ht0 hx1 hx2 _ h) (i_V (n := 2) (t := 3) (As := [jI x1, jI x2]) K hw (ob ht0) zq3 (by decide) q915 q916 q917 (sg_of K q918) rfl rfl dX3_tries_3) (locw K q918 q94) ⟨by decide, by decide⟩ hl.1 dX3_tries_3 (Nat.le_of_ble_eq_true rfl) ⟨Nat.le_refl _, Nat.le_refl _⟩ (fun r1 _ _ hr2 h hw5 => ?_)
  refine lv_istore_n (pc := 6) (lv' := [(3, jI r1), (0, jR X a0), (1, jI x1), (2, jI x2)]) K.x K.b dX3_tries_6 rfl hl (by decide) rfl (fun ls hl => ?_)
  refine lv_iload_n (pc := 7) K.x K.b dX3_tries_7 rfl (lv_at hl 0 rfl) ?_
  refine z_if_ne (pc := 8) (tgt := 17) K hr2 dX3_tries_8 (by decide) (fun hc6 => ?_) (fun hc6 => ?_)
  · have h := ite_t h hc6
    refine z_aload_n (pc := 11) K dX3_tries_11 rfl (lv_at hl 1 rfl) ?_
    refine lv_iload_n (pc := 12) K.x K.b dX3_tries_12 rfl (lv_at hl 2 rfl) ?_
    refine lv_iload_n (pc := 13) K.x K.b dX3_tries_13 rfl (lv_at hl 3 rfl) ?_
    refine zc_v (pc := 14) (maxL := 6) K hw5 (met_X3_say X l σ a0 x1 x2 ht0 hx1 hx2 _ h) (i_V (n := 2) (t := 3) (As := [jI x1, jI x2]) K hw5 (ob ht0) zq3 (by decide) q936 q937 q938 (sg_of K q939) rfl rfl dX3_tries_14) (locw K q939 q94) ⟨by decide, by decide⟩ hl.1 dX3_tries_14 (Nat.le_of_ble_eq_true rfl) ⟨Nat.le_refl _, Nat.le_refl _⟩ (fun σ10 _ _ hq9 hw11 => ?_)
    obtain ⟨hk12, h⟩ := hq9
    have h := h hk12
    have hk13 := kp_trans wo_X3_tries hk hk12 (fun _ q => q) (by decide)
    have hg14 : tg σ10 a0 = 3 := kp_tg hk12 wo_X3_say ht0 (by decide)
    refine lv_iload_n (pc := 17) K.x K.b dX3_tries_17 rfl (lv_at hl 0 rfl) ?_
    exact z_iret (pc := 18) K hw11 hr2 ⟨hk13, h⟩ dX3_tries_18
  · have h := ite_f h hc6
    refine lv_iload_n (pc := 17) K.x K.b dX3_tries_17 rfl (lv_at hl 0 rfl) ?_
    exact z_iret (pc := 18) K hw5 hr2 ⟨hk, h⟩ dX3_tries_18
def ws_X3_undo : List (Int × Nat) := [(3, 6), (3, 8), (3, 9)]
theorem wo_X3_undo : wsOk ws_X3_undo = true := rfl
def wp_X3_undo (σ : St) (a0 : Int) (Q : St → Prop) : Prop :=
  rng ((σ a0 8 0) - 1) ∧ ∀ σ3 : St, σ3 = st σ a0 8 0 ((σ a0 8 0) - 1) → (0 ≤ σ3 a0 8 0 ∧ σ3 a0 8 0 < 400) ∧ (if σ3 a0 3 (σ3 a0 8 0) = (-1) then
    rng ((σ3 a0 9 0) - 1) ∧ ∀ σ11 : St, σ11 = st σ3 a0 9 0 ((σ3 a0 9 0) - 1) → Q σ11
    else
    (0 ≤ σ3 a0 3 (σ3 a0 8 0) ∧ σ3 a0 3 (σ3 a0 8 0) < 400) ∧ ∀ σ17 : St, σ17 = st σ3 a0 6 (σ3 a0 3 (σ3 a0 8 0)) (σ3 a0 7 (σ3 a0 8 0)) → Q σ17)
set_option maxHeartbeats 4000000 in
theorem met_X3_undo (X : Cxt) (l : Launch) (σ : St) (a0 : Int) (ht0 : tg σ a0 = 3) (Q : St → Prop) (h : wp_X3_undo σ a0 Q) : MetT l yX3_undo (ws_ yX3_undo cX3_undo 2 (none)) (zrm 1 0 0) (ZP X σ [jR X a0]) (ZQ X (qV (fun σ' => Kp ws_X3_undo σ σ' ∧ Q σ')) (fun _ _ => False)) 0 0 (zA X) := by
  refine z_start (own := "CombTable$Talk") (lv := [(0, jR X a0)]) (by decide) rfl (by simp [lv_args, jR_cat, jI_cat, jL_cat]) (by simp [lg_sl, jR_cat, jI_cat, jL_cat]) (fun p e s m below meth c ls K _ _ hw hl => ?_)
  have hk : Kp ws_X3_undo σ σ := kp_rf σ
  refine z_aload_n (pc := 0) K dX3_undo_0 rfl (lv_at hl 0 rfl) ?_
  refine lv_dup (pc := 1) K.x K.b dX3_undo_1 (jR_cat _ _) ?_
  refine z_get (pc := 2) (t := 3) (k := 8) K hw (ob ht0) zq3 (by decide) q321 (fun _ h => h) dX3_undo_2 (zval_i kf_3_8) ?_
  refine z_iconst (pc := 5) K dX3_undo_5 ?_
  refine z_isub (pc := 6) K dX3_undo_6 ?_
  obtain ⟨hr1, h⟩ := h
  refine z_puti (pc := 7) (t := 3) 8 K hw (ob ht0) zq3 (by decide) kf_3_8 zt_3_8 hr1 q321 (fun _ h => h) rfl dX3_undo_7 (fun _ _ hw2 => ?_)
  obtain ⟨σ3, e4⟩ : ∃ z, z = st σ a0 8 0 ((σ a0 8 0) - 1) := ⟨_, rfl⟩
  have h := h σ3 e4
  have hw2 := wc_e e4 hw2
  have hk5 := kp_e e4 hk wo_X3_undo (by decide) ht0 (t := 3) (by decide)
  have hg6 : tg σ3 a0 = 3 := (tg_e e4 (by decide)).trans ht0
  refine z_aload_n (pc := 10) K dX3_undo_10 rfl (lv_at hl 0 rfl) ?_
  refine z_get (pc := 11) (t := 3) (k := 3) K hw2 (ob hg6) zq3 (by decide) q310 (fun _ h => h) dX3_undo_11 (zval_p (κ := 1) kf_3_3) ?_
  refine z_aload_n (pc := 14) K dX3_undo_14 rfl (lv_at hl 0 rfl) ?_
  refine z_get (pc := 15) (t := 3) (k := 8) K hw2 (ob hg6) zq3 (by decide) q321 (fun _ h => h) dX3_undo_15 (zval_i kf_3_8) ?_
  obtain ⟨hj7, h⟩ := h
  refine z_iald (pc := 18) (t := 3) K hw2 hg6 ⟨by decide, by decide⟩ kf_3_3 kl_3_3 hj7 (by decide) dX3_undo_18 ?_
  refine lv_istore_n (pc := 19) (lv' := [(1, jI (σ3 a0 3 (σ3 a0 8 0))), (0, jR X a0)]) K.x K.b dX3_undo_19 rfl hl (by decide) (by simp [jR_cat]) (fun ls hl => ?_)
  refine lv_iload_n (pc := 20) K.x K.b dX3_undo_20 rfl (lv_at hl 0 rfl) ?_
  refine z_iconst (pc := 21) K dX3_undo_21 ?_
  refine z_icmp_ne (pc := 22) (tgt := 38) K (z_elI (t := 3) hw2 hg6 ⟨by decide, by decide⟩ kf_3_3 kl_3_3 hj7) ⟨by decide, by decide⟩ dX3_undo_22 (by decide) (fun hc8 => ?_) (fun hc8 => ?_)
  · have h := ite_t h hc8
    refine z_aload_n (pc := 25) K dX3_undo_25 rfl (lv_at hl 1 rfl) ?_
    refine lv_dup (pc := 26) K.x K.b dX3_undo_26 (jR_cat _ _) ?_
    refine z_get (pc := 27) (t := 3) (k := 9) K hw2 (ob hg6) zq3 (by decide) q324 (fun _ h => h) dX3_undo_27 (zval_i kf_3_9) ?_
    refine z_iconst (pc := 30) K dX3_undo_30 ?_
    refine z_isub (pc := 31) K dX3_undo_31 ?_
    obtain ⟨hr9, h⟩ := h
    refine z_puti (pc := 32) (t := 3) 9 K hw2 (ob hg6) zq3 (by decide) kf_3_9 zt_3_9 hr9 q324 (fun _ h => h) rfl dX3_undo_32 (fun _ _ hw10 => ?_)
    obtain ⟨σ11, e12⟩ : ∃ z, z = st σ3 a0 9 0 ((σ3 a0 9 0) - 1) := ⟨_, rfl⟩
    have h := h σ11 e12
    have hw10 := wc_e e12 hw10
    have hk13 := kp_e e12 hk5 wo_X3_undo (by decide) hg6 (t := 3) (by decide)
    have hg14 : tg σ11 a0 = 3 := (tg_e e12 (by decide)).trans hg6
    refine z_goto (pc := 35) (tgt := 53) K dX3_undo_35 (by decide) ?_
    exact z_vret (pc := 53) K hw10 ⟨hk13, h⟩ dX3_undo_53
  · have h := ite_f h hc8
    refine z_aload_n (pc := 38) K dX3_undo_38 rfl (lv_at hl 1 rfl) ?_
    refine z_get (pc := 39) (t := 3) (k := 6) K hw2 (ob hg6) zq3 (by decide) q319 (fun _ h => h) dX3_undo_39 (zval_p (κ := 1) kf_3_6) ?_
    refine lv_iload_n (pc := 42) K.x K.b dX3_undo_42 rfl (lv_at hl 0 rfl) ?_
    refine z_aload_n (pc := 43) K dX3_undo_43 rfl (lv_at hl 1 rfl) ?_
    refine z_get (pc := 44) (t := 3) (k := 7) K hw2 (ob hg6) zq3 (by decide) q320 (fun _ h => h) dX3_undo_44 (zval_p (κ := 1) kf_3_7) ?_
    refine z_aload_n (pc := 47) K dX3_undo_47 rfl (lv_at hl 1 rfl) ?_
    refine z_get (pc := 48) (t := 3) (k := 8) K hw2 (ob hg6) zq3 (by decide) q321 (fun _ h => h) dX3_undo_48 (zval_i kf_3_8) ?_
    refine z_iald (pc := 51) (t := 3) K hw2 hg6 ⟨by decide, by decide⟩ kf_3_7 kl_3_7 hj7 (by decide) dX3_undo_51 ?_
    obtain ⟨hj15, h⟩ := h
    refine z_iast (pc := 52) (t := 3) K hw2 hg6 ⟨by decide, by decide⟩ kf_3_6 kl_3_6 hj15 (by decide) (z_elI (t := 3) hw2 hg6 ⟨by decide, by decide⟩ kf_3_7 kl_3_7 hj7) dX3_undo_52 (fun _ _ hw16 => ?_)
    obtain ⟨σ17, e18⟩ : ∃ z, z = st σ3 a0 6 (σ3 a0 3 (σ3 a0 8 0)) (σ3 a0 7 (σ3 a0 8 0)) := ⟨_, rfl⟩
    have h := h σ17 e18
    have hw16 := wc_e e18 hw16
    have hk19 := kp_e e18 hk5 wo_X3_undo hj15.1 hg6 (t := 3) (by decide)
    have hg20 : tg σ17 a0 = 3 := (tg_e e18 (by decide)).trans hg6
    exact z_vret (pc := 53) K hw16 ⟨hk19, h⟩ dX3_undo_53
def ws_X1_isHad : List (Int × Nat) := [(3, 1), (3, 2), (3, 3), (3, 4), (3, 5), (3, 6), (3, 7), (3, 8), (3, 9)]
theorem wo_X1_isHad : wsOk ws_X1_isHad = true := rfl
def wp_X1_isHad_b157 (a0 : Int) (x1 : Int) (x2 : Int) (x3 : Int) (x4 : Int) (x5 : Int) (Q : Int → St → Prop) (σ0 : St) (Rc : Nat → St → Int → Int → Int → Int → Int → Int → (Int → St → Prop) → Prop) (σ : St) (v6 : Int) : Prop :=
  (if v6 = 0 then
    Q 0 σ
    else
    (if x2 = 0 then
      Q 1 σ
      else
      Q 0 σ))
def wp_X1_isHad_b118 (a0 : Int) (x1 : Int) (x2 : Int) (x3 : Int) (x4 : Int) (x5 : Int) (Q : Int → St → Prop) (σ0 : St) (Rc : Nat → St → Int → Int → Int → Int → Int → Int → (Int → St → Prop) → Prop) (L28 : St → Int → Int → Prop) (L72 : St → Int → Int → Int → Prop) (σ : St) (v6 : Int) (v7 : Int) (v8 : Int) (s1 : Int) (s2 : Int) : Prop :=
  rng (x5 - 1) ∧ Rc 0 σ a0 s1 s2 x3 x4 (x5 - 1) (fun r2 σ5 => Kp ws_X1_isHad σ σ5 → wp_X3_undo σ5 (σ5 a0 9 0) (fun σ14 => Kp ws_X3_undo σ5 σ14 → (if r2 = x2 then
    Q x2 σ14
    else
    rng (v8 + 1) ∧ (L72 σ14 v6 v7 (v8 + 1)))))
def lp_X1_isHad_72 (a0 : Int) (x1 : Int) (x2 : Int) (x3 : Int) (x4 : Int) (x5 : Int) (Q : Int → St → Prop) (σ0 : St) (Rc : Nat → St → Int → Int → Int → Int → Int → Int → (Int → St → Prop) → Prop) (L28 : St → Int → Int → Prop) : Nat → St → Int → Int → Int → Prop
  | 0 => fun _ _ _ _ => False
  | n + 1 => fun σ v6 v7 v8 => 
    Kp ws_X1_isHad σ0 σ → (if v8 < σ (σ (σ a0 8 0) 0 0) 4 0 then
      wp_X3_tries σ (σ a0 9 0) v7 v8 (fun r5 σ8 => Kp ws_X3_tries σ σ8 → (if 0 < r5 then
        rng (v8 + 1) ∧ (lp_X1_isHad_72 a0 x1 x2 x3 x4 x5 Q σ0 Rc L28 n σ8 v6 v7 (v8 + 1))
        else
        (if x2 = 0 then
          (wp_X1_isHad_b118 a0 x1 x2 x3 x4 x5 Q σ0 Rc L28 (lp_X1_isHad_72 a0 x1 x2 x3 x4 x5 Q σ0 Rc L28 n) σ8 1 v7 v8 x1 1)
          else
          (wp_X1_isHad_b118 a0 x1 x2 x3 x4 x5 Q σ0 Rc L28 (lp_X1_isHad_72 a0 x1 x2 x3 x4 x5 Q σ0 Rc L28 n) σ8 1 v7 v8 x1 0))))
      else
      rng (v7 + 1) ∧ (L28 σ v6 (v7 + 1)))
def lp_X1_isHad_28 (a0 : Int) (x1 : Int) (x2 : Int) (x3 : Int) (x4 : Int) (x5 : Int) (Q : Int → St → Prop) (σ0 : St) (Rc : Nat → St → Int → Int → Int → Int → Int → Int → (Int → St → Prop) → Prop) : Nat → St → Int → Int → Prop
  | 0 => fun _ _ _ => False
  | n + 1 => fun σ v6 v7 => 
    Kp ws_X1_isHad σ0 σ → (if v7 < σ (σ (σ a0 8 0) 0 0) 3 0 then
      (if σ (σ a0 9 0) 8 0 < 400 then
        wp_X1_has σ x1 v7 (fun r6 => (if r6 = x2 then
          (∃ kk, lp_X1_isHad_72 a0 x1 x2 x3 x4 x5 Q σ0 Rc (lp_X1_isHad_28 a0 x1 x2 x3 x4 x5 Q σ0 Rc n) kk σ v6 v7 0)
          else
          rng (v7 + 1) ∧ (lp_X1_isHad_28 a0 x1 x2 x3 x4 x5 Q σ0 Rc n σ v6 (v7 + 1))))
        else
        (wp_X1_isHad_b157 a0 x1 x2 x3 x4 x5 Q σ0 Rc σ v6))
      else
      (wp_X1_isHad_b157 a0 x1 x2 x3 x4 x5 Q σ0 Rc σ v6))
def bd_X1_isHad (Rc : Nat → St → Int → Int → Int → Int → Int → Int → (Int → St → Prop) → Prop) (σ : St) (a0 : Int) (x1 : Int) (x2 : Int) (x3 : Int) (x4 : Int) (x5 : Int) (Q : Int → St → Prop) : Prop :=
  wp_X3_stateOf σ (σ a0 9 0) x3 (fun r2 => (if r2 = x4 then
    Q 1 σ
    else
    (if x5 = 0 then
      Q 0 σ
      else
      (∃ kk, lp_X1_isHad_28 a0 x1 x2 x3 x4 x5 Q σ Rc kk σ 0 0))))
def wg_X1_isHad : Nat → Nat → St → Int → Int → Int → Int → Int → Int → (Int → St → Prop) → Prop
  | 0 => fun _ _ _ _ _ _ _ _ _ => False
  | n + 1 => fun i => match i with
    | _ => bd_X1_isHad (wg_X1_isHad n)
set_option maxHeartbeats 4000000 in
theorem wk_X1_isHad_b157 {X : Cxt} {p : Program} {l : Launch} {e : Env} {s : State} {m : MethodId} {args : Array Value} {below : List Frame} {meth : Method} {c : Code} (a0 : Int) (x1 : Int) (x2 : Int) (x3 : Int) (x4 : Int) (x5 : Int) (Q : Int → St → Prop) (σ0 : St) (Rc : Nat → St → Int → Int → Int → Int → Int → Int → (Int → St → Prop) → Prop) (K : MCx X p s m args meth c cX1_isHad 10 "CombTable" (some .boolean)) (hx1 : rng x1) (hx2 : 0 ≤ x2 ∧ x2 ≤ 1) (hx3 : rng x3) (hx4 : rng x4) (hx5 : rng x5) (nr : Nat) (hRc0 : ∀ (σ : St) (a0 : Int) (x1 : Int) (x2 : Int) (x3 : Int) (x4 : Int) (x5 : Int) (ht0 : tg σ a0 = 1) (hx1 : rng x1) (hx2 : 0 ≤ x2 ∧ x2 ≤ 1) (hx3 : rng x3) (hx4 : rng x4) (hx5 : rng x5) (Q : Int → St → Prop), Rc 0 σ a0 x1 x2 x3 x4 x5 Q → MetT l yX1_isHad (ws_ yX1_isHad cX1_isHad 10 (some .boolean)) (zrm (4 + nr) 0 0) (ZP X σ [jR X a0, jI x1, jI x2, jI x3, jI x4, jI x5]) (ZQ X (qZ (fun r σ' => Kp ws_X1_isHad σ σ' ∧ Q r σ')) (fun _ _ => False)) 0 0 (zA X)) : ∀ (σ : St) (v6 : Int) (H : Heap) (locs : List Loc) (ls : Array Slot), wp_X1_isHad_b157 a0 x1 x2 x3 x4 x5 Q σ0 Rc σ v6 → Wc X σ s.heap H locs → Kp ws_X1_isHad σ0 σ → (0 ≤ v6 ∧ v6 ≤ 1) → lv_has ls 10 [(2, jI x2), (6, jI v6)] → W p l e (zrm (4 + nr + 1) 0 0) s m args below meth c H locs 0 0 (MQT below (ZQ X (qZ (fun r σ' => Kp ws_X1_isHad σ0 σ' ∧ Q r σ')) (fun _ _ => False)) args s 0 0 (zA X)) (F0 m 157 ls []) := by
  intro σ v6 H locs ls h hw hk hv6 hl
  refine lv_iload (pc := 157) K.x K.b dX1_isHad_157 (lv_at hl 1 rfl) ?_
  refine z_if_eq (pc := 159) (tgt := 170) K (b01r hv6) dX1_isHad_159 (by decide) (fun hc1 => ?_) (fun hc1 => ?_)
  · have h := ite_t h hc1
    refine z_iconst (pc := 170) K dX1_isHad_170 ?_
    exact z_zret (pc := 171) K hw ⟨by decide, by decide⟩ ⟨hk, h⟩ dX1_isHad_171
  · have h := ite_f h hc1
    refine lv_iload_n (pc := 162) K.x K.b dX1_isHad_162 rfl (lv_at hl 0 rfl) ?_
    refine z_if_ne (pc := 163) (tgt := 170) K (b01r hx2) dX1_isHad_163 (by decide) (fun hc2 => ?_) (fun hc2 => ?_)
    · have h := ite_t h hc2
      refine z_iconst (pc := 166) K dX1_isHad_166 ?_
      refine z_goto (pc := 167) (tgt := 171) K dX1_isHad_167 (by decide) ?_
      exact z_zret (pc := 171) K hw ⟨by decide, by decide⟩ ⟨hk, h⟩ dX1_isHad_171
    · have h := ite_f h hc2
      refine z_iconst (pc := 170) K dX1_isHad_170 ?_
      exact z_zret (pc := 171) K hw ⟨by decide, by decide⟩ ⟨hk, h⟩ dX1_isHad_171
set_option maxHeartbeats 4000000 in
theorem wk_X1_isHad_b118 {X : Cxt} {p : Program} {l : Launch} {e : Env} {s : State} {m : MethodId} {args : Array Value} {below : List Frame} {meth : Method} {c : Code} (a0 : Int) (x1 : Int) (x2 : Int) (x3 : Int) (x4 : Int) (x5 : Int) (Q : Int → St → Prop) (σ0 : St) (Rc : Nat → St → Int → Int → Int → Int → Int → Int → (Int → St → Prop) → Prop) (K : MCx X p s m args meth c cX1_isHad 10 "CombTable" (some .boolean)) (hx1 : rng x1) (hx2 : 0 ≤ x2 ∧ x2 ≤ 1) (hx3 : rng x3) (hx4 : rng x4) (hx5 : rng x5) (nr : Nat) (hRc0 : ∀ (σ : St) (a0 : Int) (x1 : Int) (x2 : Int) (x3 : Int) (x4 : Int) (x5 : Int) (ht0 : tg σ a0 = 1) (hx1 : rng x1) (hx2 : 0 ≤ x2 ∧ x2 ≤ 1) (hx3 : rng x3) (hx4 : rng x4) (hx5 : rng x5) (Q : Int → St → Prop), Rc 0 σ a0 x1 x2 x3 x4 x5 Q → MetT l yX1_isHad (ws_ yX1_isHad cX1_isHad 10 (some .boolean)) (zrm (4 + nr) 0 0) (ZP X σ [jR X a0, jI x1, jI x2, jI x3, jI x4, jI x5]) (ZQ X (qZ (fun r σ' => Kp ws_X1_isHad σ σ' ∧ Q r σ')) (fun _ _ => False)) 0 0 (zA X)) (L28 : St → Int → Int → Prop) (hL28 : ∀ (σ : St) (v6 : Int) (v7 : Int) (H : Heap) (locs : List Loc) (ls : Array Slot), L28 σ v6 v7 → Wc X σ s.heap H locs → Kp ws_X1_isHad σ0 σ → tg σ a0 = 1 → (0 ≤ v6 ∧ v6 ≤ 1) → rng v7 → lv_has ls 10 [(0, jR X a0), (1, jI x1), (2, jI x2), (3, jI x3), (4, jI x4), (5, jI x5), (6, jI v6), (7, jI v7)] → W p l e (zrm (4 + nr + 1) 0 0) s m args below meth c H locs 0 0 (MQT below (ZQ X (qZ (fun r σ' => Kp ws_X1_isHad σ0 σ' ∧ Q r σ')) (fun _ _ => False)) args s 0 0 (zA X)) (F0 m 28 ls [])) (L72 : St → Int → Int → Int → Prop) (hL72 : ∀ (σ : St) (v6 : Int) (v7 : Int) (v8 : Int) (H : Heap) (locs : List Loc) (ls : Array Slot), L72 σ v6 v7 v8 → Wc X σ s.heap H locs → Kp ws_X1_isHad σ0 σ → tg σ a0 = 1 → (0 ≤ v6 ∧ v6 ≤ 1) → rng v7 → rng v8 → lv_has ls 10 [(0, jR X a0), (1, jI x1), (2, jI x2), (3, jI x3), (4, jI x4), (5, jI x5), (6, jI v6), (7, jI v7), (8, jI v8)] → W p l e (zrm (4 + nr + 1) 0 0) s m args below meth c H locs 0 0 (MQT below (ZQ X (qZ (fun r σ' => Kp ws_X1_isHad σ0 σ' ∧ Q r σ')) (fun _ _ => False)) args s 0 0 (zA X)) (F0 m 72 ls [])) : ∀ (σ : St) (v6 : Int) (v7 : Int) (v8 : Int) (s1 : Int) (s2 : Int) (H : Heap) (locs : List Loc) (ls : Array Slot), wp_X1_isHad_b118 a0 x1 x2 x3 x4 x5 Q σ0 Rc L28 L72 σ v6 v7 v8 s1 s2 → Wc X σ s.heap H locs → Kp ws_X1_isHad σ0 σ → tg σ a0 = 1 → (0 ≤ v6 ∧ v6 ≤ 1) → rng v7 → rng v8 → rng s1 → (0 ≤ s2 ∧ s2 ≤ 1) → lv_has ls 10 [(0, jR X a0), (1, jI x1), (2, jI x2), (3, jI x3), (4, jI x4), (5, jI x5), (6, jI v6), (7, jI v7), (8, jI v8)] → W p l e (zrm (4 + nr + 1) 0 0) s m args below meth c H locs 0 0 (MQT below (ZQ X (qZ (fun r σ' => Kp ws_X1_isHad σ0 σ' ∧ Q r σ')) (fun _ _ => False)) args s 0 0 (zA X)) (F0 m 118 ls [jI s2, jI s1, jR X a0]) := by
  intro σ v6 v7 v8 s1 s2 H locs ls h hw hk ht0 hv6 hv7 hv8 hs1 hs2 hl
  refine lv_iload_n (pc := 118) K.x K.b dX1_isHad_118 rfl (lv_at hl 3 rfl) ?_
  refine lv_iload (pc := 119) K.x K.b dX1_isHad_119 (lv_at hl 4 rfl) ?_
  refine lv_iload (pc := 121) K.x K.b dX1_isHad_121 (lv_at hl 5 rfl) ?_
  refine z_iconst (pc := 123) K dX1_isHad_123 ?_
  refine z_isub (pc := 124) K dX1_isHad_124 ?_
  obtain ⟨hr1, h⟩ := h
  refine zc_z (pc := 125) (maxL := 10) K hw (hRc0 σ a0 s1 s2 x3 x4 (x5 - 1) ht0 hs1 hs2 hx3 hx4 hr1 _ h) (i_V (n := 5) (t := 1) (As := [jI s1, jI s2, jI x3, jI x4, jI (x5 - 1)]) K hw (ob ht0) zq1 (by decide) q1193 q1195 qs21 (sg_of K q1196) rfl rfl dX1_isHad_125) (locw K q1196 q90) (zr_ok2 (by omega) (by omega)) hl.1 dX1_isHad_125 (Nat.le_of_ble_eq_true rfl) ⟨Nat.le_refl _, Nat.le_refl _⟩ (fun r2 σ5 _ _ hr3 hq4 hw6 => ?_)
  obtain ⟨hk7, h⟩ := hq4
  have h := h hk7
  have hk8 := kp_trans wo_X1_isHad hk hk7 (fun _ q => q) (by decide)
  have hg9 : tg σ5 a0 = 1 := kp_tg hk7 wo_X1_isHad ht0 (by decide)
  refine lv_istore (pc := 128) (lv' := [(9, jI r2), (0, jR X a0), (1, jI x1), (2, jI x2), (3, jI x3), (4, jI x4), (5, jI x5), (6, jI v6), (7, jI v7), (8, jI v8)]) K.x K.b dX1_isHad_128 hl (by decide) rfl (fun ls hl => ?_)
  refine z_aload_n (pc := 130) K dX1_isHad_130 rfl (lv_at hl 1 rfl) ?_
  refine z_get (pc := 131) (t := 1) (k := 9) K hw6 (ob hg9) zq1 (by decide) q527 (fun _ h => h) dX1_isHad_131 (zval_r kf_1_9) ?_
  have hg10 : tg σ5 (σ5 a0 9 0) = 3 := (z_tg (t := 1) (r := 3) hw6 hg9 ⟨by decide, by decide⟩ kf_1_9 kn_1_9 kt_1_9 (by decide) (by decide))
  refine zc_v (pc := 134) (maxL := 2) K hw6 (met_X3_undo X l σ5 (σ5 a0 9 0) hg10 _ h) (i_V (n := 0) (t := 3) (As := []) K hw6 (ob hg10) zq3 (by decide) q953 q954 q955 (sg_of K q956) rfl rfl dX1_isHad_134) (locw K q956 q94) (zr_ok2 (by omega) (by omega)) hl.1 dX1_isHad_134 (Nat.le_of_ble_eq_true rfl) ⟨Nat.le_refl _, Nat.le_refl _⟩ (fun σ14 _ _ hq13 hw15 => ?_)
  obtain ⟨hk16, h⟩ := hq13
  have h := h hk16
  have hk17 := kp_trans wo_X1_isHad hk8 hk16 (fun _ q => q) (by decide)
  have hg18 : tg σ14 a0 = 1 := kp_tg hk16 wo_X3_undo hg9 (by decide)
  refine lv_iload (pc := 137) K.x K.b dX1_isHad_137 (lv_at hl 0 rfl) ?_
  refine lv_iload_n (pc := 139) K.x K.b dX1_isHad_139 rfl (lv_at hl 3 rfl) ?_
  refine z_icmp_ne (pc := 140) (tgt := 145) K (b01r hr3) (b01r hx2) dX1_isHad_140 (by decide) (fun hc19 => ?_) (fun hc19 => ?_)
  · have h := ite_t h hc19
    refine lv_iload_n (pc := 143) K.x K.b dX1_isHad_143 rfl (lv_at hl 3 rfl) ?_
    exact z_zret (pc := 144) K hw15 hx2 ⟨hk17, h⟩ dX1_isHad_144
  · have h := ite_f h hc19
    refine z_iinc (pc := 145) (k := 9) (lv' := [(8, jI (v8 + 1)), (9, jI r2), (0, jR X a0), (1, jI x1), (2, jI x2), (3, jI x3), (4, jI x4), (5, jI x5), (6, jI v6), (7, jI v7)]) K dX1_isHad_145 hl rfl (by decide) rfl (fun ls hl => ?_)
    refine z_goto (pc := 148) (tgt := 72) K dX1_isHad_148 (by decide) ?_
    obtain ⟨hr20, h⟩ := h
    exact hL72 σ14 v6 v7 (v8 + 1) _ _ _ h hw15 hk17 hg18 hv6 hv7 hr20 (lv_sub hl [2, 3, 4, 5, 6, 7, 8, 9, 0] rfl)
set_option maxHeartbeats 4000000 in
theorem wk_X1_isHad_72 {X : Cxt} {p : Program} {l : Launch} {e : Env} {s : State} {m : MethodId} {args : Array Value} {below : List Frame} {meth : Method} {c : Code} (a0 : Int) (x1 : Int) (x2 : Int) (x3 : Int) (x4 : Int) (x5 : Int) (Q : Int → St → Prop) (σ0 : St) (Rc : Nat → St → Int → Int → Int → Int → Int → Int → (Int → St → Prop) → Prop) (K : MCx X p s m args meth c cX1_isHad 10 "CombTable" (some .boolean)) (hx1 : rng x1) (hx2 : 0 ≤ x2 ∧ x2 ≤ 1) (hx3 : rng x3) (hx4 : rng x4) (hx5 : rng x5) (nr : Nat) (hRc0 : ∀ (σ : St) (a0 : Int) (x1 : Int) (x2 : Int) (x3 : Int) (x4 : Int) (x5 : Int) (ht0 : tg σ a0 = 1) (hx1 : rng x1) (hx2 : 0 ≤ x2 ∧ x2 ≤ 1) (hx3 : rng x3) (hx4 : rng x4) (hx5 : rng x5) (Q : Int → St → Prop), Rc 0 σ a0 x1 x2 x3 x4 x5 Q → MetT l yX1_isHad (ws_ yX1_isHad cX1_isHad 10 (some .boolean)) (zrm (4 + nr) 0 0) (ZP X σ [jR X a0, jI x1, jI x2, jI x3, jI x4, jI x5]) (ZQ X (qZ (fun r σ' => Kp ws_X1_isHad σ σ' ∧ Q r σ')) (fun _ _ => False)) 0 0 (zA X)) (L28 : St → Int → Int → Prop) (hL28 : ∀ (σ : St) (v6 : Int) (v7 : Int) (H : Heap) (locs : List Loc) (ls : Array Slot), L28 σ v6 v7 → Wc X σ s.heap H locs → Kp ws_X1_isHad σ0 σ → tg σ a0 = 1 → (0 ≤ v6 ∧ v6 ≤ 1) → rng v7 → lv_has ls 10 [(0, jR X a0), (1, jI x1), (2, jI x2), (3, jI x3), (4, jI x4), (5, jI x5), (6, jI v6), (7, jI v7)] → W p l e (zrm (4 + nr + 1) 0 0) s m args below meth c H locs 0 0 (MQT below (ZQ X (qZ (fun r σ' => Kp ws_X1_isHad σ0 σ' ∧ Q r σ')) (fun _ _ => False)) args s 0 0 (zA X)) (F0 m 28 ls [])) : ∀ (n : Nat), ∀ (σ : St) (v6 : Int) (v7 : Int) (v8 : Int) (H : Heap) (locs : List Loc) (ls : Array Slot), lp_X1_isHad_72 a0 x1 x2 x3 x4 x5 Q σ0 Rc L28 n σ v6 v7 v8 → Wc X σ s.heap H locs → Kp ws_X1_isHad σ0 σ → tg σ a0 = 1 → (0 ≤ v6 ∧ v6 ≤ 1) → rng v7 → rng v8 → lv_has ls 10 [(0, jR X a0), (1, jI x1), (2, jI x2), (3, jI x3), (4, jI x4), (5, jI x5), (6, jI v6), (7, jI v7), (8, jI v8)] → W p l e (zrm (4 + nr + 1) 0 0) s m args below meth c H locs 0 0 (MQT below (ZQ X (qZ (fun r σ' => Kp ws_X1_isHad σ0 σ' ∧ Q r σ')) (fun _ _ => False)) args s 0 0 (zA X)) (F0 m 72 ls []) := by
  intro n
  induction n with
  | zero => intro σ v6 v7 v8 H locs ls h; exact h.elim
  | succ n ih =>
    intro σ v6 v7 v8 H locs ls h hw hk ht0 hv6 hv7 hv8 hl
    have h := h hk
    refine lv_iload (pc := 72) K.x K.b dX1_isHad_72 (lv_at hl 8 rfl) ?_
    refine z_aload_n (pc := 74) K dX1_isHad_74 rfl (lv_at hl 0 rfl) ?_
    refine z_get (pc := 75) (t := 1) (k := 8) K hw (ob ht0) zq1 (by decide) q524 (fun _ h => h) dX1_isHad_75 (zval_r kf_1_8) ?_
    have hg1 : tg σ (σ a0 8 0) = 3 := (z_tg (t := 1) (r := 3) hw ht0 ⟨by decide, by decide⟩ kf_1_8 kn_1_8 kt_1_8 (by decide) (by decide))
    refine z_getN (pc := 78) (t := 3) (k := 0) K hw (ob hg1) zq3 (by decide) q303 (fun _ h => h) dX1_isHad_78 (zval_r kf_3_0) ?_
    have hg2 : tg σ (σ (σ a0 8 0) 0 0) = 4 := (z_tg (t := 3) (r := 4) hw hg1 ⟨by decide, by decide⟩ kf_3_0 kn_3_0 kt_3_0 (by decide) (by decide))
    refine z_getN (pc := 81) (t := 4) (k := 4) K hw (ob hg2) zq4 (by decide) q267 (fun _ h => h) dX1_isHad_81 (zval_i kf_4_4) ?_
    refine z_icmp_ge (pc := 84) (tgt := 151) K hv8 (z_rI hw (ob (t := 4) hg2) kf_4_4) dX1_isHad_84 (by decide) (fun hc3 => ?_) (fun hc3 => ?_)
    · have h := ite_t h hc3
      refine z_aload_n (pc := 87) K dX1_isHad_87 rfl (lv_at hl 0 rfl) ?_
      refine z_get (pc := 88) (t := 1) (k := 9) K hw (ob ht0) zq1 (by decide) q527 (fun _ h => h) dX1_isHad_88 (zval_r kf_1_9) ?_
      refine lv_iload (pc := 91) K.x K.b dX1_isHad_91 (lv_at hl 7 rfl) ?_
      refine lv_iload (pc := 93) K.x K.b dX1_isHad_93 (lv_at hl 8 rfl) ?_
      have hg4 : tg σ (σ a0 9 0) = 3 := (z_tg (t := 1) (r := 3) hw ht0 ⟨by decide, by decide⟩ kf_1_9 kn_1_9 kt_1_9 (by decide) (by decide))
      refine zc_i (pc := 95) (maxL := 4) K hw (met_X3_tries X l σ (σ a0 9 0) v7 v8 hg4 hv7 hv8 _ h) (i_V (n := 2) (t := 3) (As := [jI v7, jI v8]) K hw (ob hg4) zq3 (by decide) q911 q912 q913 (sg_of K q914) rfl rfl dX1_isHad_95) (locw K q914 q94) (zr_ok2 (by omega) (by omega)) hl.1 dX1_isHad_95 (Nat.le_of_ble_eq_true rfl) ⟨Nat.le_refl _, Nat.le_refl _⟩ (fun r5 σ8 _ _ hr6 hq7 hw9 => ?_)
      obtain ⟨hk10, h⟩ := hq7
      have h := h hk10
      have hk11 := kp_trans wo_X1_isHad hk hk10 (fun _ q => q) (by decide)
      have hg12 : tg σ8 a0 = 1 := kp_tg hk10 wo_X3_tries ht0 (by decide)
      refine z_if_le (pc := 98) (tgt := 104) K hr6 dX1_isHad_98 (by decide) (fun hc13 => ?_) (fun hc13 => ?_)
      · have h := ite_t h hc13
        refine z_goto (pc := 101) (tgt := 145) K dX1_isHad_101 (by decide) ?_
        refine z_iinc (pc := 145) (k := 8) (lv' := [(8, jI (v8 + 1)), (0, jR X a0), (1, jI x1), (2, jI x2), (3, jI x3), (4, jI x4), (5, jI x5), (6, jI v6), (7, jI v7)]) K dX1_isHad_145 hl rfl (by decide) rfl (fun ls hl => ?_)
        refine z_goto (pc := 148) (tgt := 72) K dX1_isHad_148 (by decide) ?_
        obtain ⟨hr14, h⟩ := h
        exact ih σ8 v6 v7 (v8 + 1) _ _ _ h hw9 hk11 hg12 hv6 hv7 hr14 (lv_sub hl [1, 2, 3, 4, 5, 6, 7, 8, 0] rfl)
      · have h := ite_f h hc13
        refine z_iconst (pc := 104) K dX1_isHad_104 ?_
        refine lv_istore (pc := 105) (lv' := [(6, jI 1), (0, jR X a0), (1, jI x1), (2, jI x2), (3, jI x3), (4, jI x4), (5, jI x5), (7, jI v7), (8, jI v8)]) K.x K.b dX1_isHad_105 hl (by decide) rfl (fun ls hl => ?_)
        refine z_aload_n (pc := 107) K dX1_isHad_107 rfl (lv_at hl 1 rfl) ?_
        refine lv_iload_n (pc := 108) K.x K.b dX1_isHad_108 rfl (lv_at hl 2 rfl) ?_
        refine lv_iload_n (pc := 109) K.x K.b dX1_isHad_109 rfl (lv_at hl 3 rfl) ?_
        refine z_if_ne (pc := 110) (tgt := 117) K (b01r hx2) dX1_isHad_110 (by decide) (fun hc15 => ?_) (fun hc15 => ?_)
        · have h := ite_t h hc15
          refine z_iconst (pc := 113) K dX1_isHad_113 ?_
          refine z_goto (pc := 114) (tgt := 118) K dX1_isHad_114 (by decide) ?_
          exact wk_X1_isHad_b118 a0 x1 x2 x3 x4 x5 Q σ0 Rc K hx1 hx2 hx3 hx4 hx5 nr hRc0 L28 hL28 (lp_X1_isHad_72 a0 x1 x2 x3 x4 x5 Q σ0 Rc L28 n) ih σ8 1 v7 v8 x1 1 _ _ _ h hw9 hk11 hg12 ⟨by decide, by decide⟩ hv7 hv8 hx1 ⟨by decide, by decide⟩ (lv_sub hl [1, 2, 3, 4, 5, 6, 0, 7, 8] rfl)
        · have h := ite_f h hc15
          refine z_iconst (pc := 117) K dX1_isHad_117 ?_
          exact wk_X1_isHad_b118 a0 x1 x2 x3 x4 x5 Q σ0 Rc K hx1 hx2 hx3 hx4 hx5 nr hRc0 L28 hL28 (lp_X1_isHad_72 a0 x1 x2 x3 x4 x5 Q σ0 Rc L28 n) ih σ8 1 v7 v8 x1 0 _ _ _ h hw9 hk11 hg12 ⟨by decide, by decide⟩ hv7 hv8 hx1 ⟨by decide, by decide⟩ (lv_sub hl [1, 2, 3, 4, 5, 6, 0, 7, 8] rfl)
    · have h := ite_f h hc3
      refine z_iinc (pc := 151) (k := 7) (lv' := [(7, jI (v7 + 1)), (0, jR X a0), (1, jI x1), (2, jI x2), (3, jI x3), (4, jI x4), (5, jI x5), (6, jI v6), (8, jI v8)]) K dX1_isHad_151 hl rfl (by decide) rfl (fun ls hl => ?_)
      refine z_goto (pc := 154) (tgt := 28) K dX1_isHad_154 (by decide) ?_
      obtain ⟨hr16, h⟩ := h
      exact hL28 σ v6 (v7 + 1) _ _ _ h hw hk ht0 hv6 hr16 (lv_sub hl [1, 2, 3, 4, 5, 6, 7, 0] rfl)
set_option maxHeartbeats 4000000 in
theorem wk_X1_isHad_28 {X : Cxt} {p : Program} {l : Launch} {e : Env} {s : State} {m : MethodId} {args : Array Value} {below : List Frame} {meth : Method} {c : Code} (a0 : Int) (x1 : Int) (x2 : Int) (x3 : Int) (x4 : Int) (x5 : Int) (Q : Int → St → Prop) (σ0 : St) (Rc : Nat → St → Int → Int → Int → Int → Int → Int → (Int → St → Prop) → Prop) (K : MCx X p s m args meth c cX1_isHad 10 "CombTable" (some .boolean)) (hx1 : rng x1) (hx2 : 0 ≤ x2 ∧ x2 ≤ 1) (hx3 : rng x3) (hx4 : rng x4) (hx5 : rng x5) (nr : Nat) (hRc0 : ∀ (σ : St) (a0 : Int) (x1 : Int) (x2 : Int) (x3 : Int) (x4 : Int) (x5 : Int) (ht0 : tg σ a0 = 1) (hx1 : rng x1) (hx2 : 0 ≤ x2 ∧ x2 ≤ 1) (hx3 : rng x3) (hx4 : rng x4) (hx5 : rng x5) (Q : Int → St → Prop), Rc 0 σ a0 x1 x2 x3 x4 x5 Q → MetT l yX1_isHad (ws_ yX1_isHad cX1_isHad 10 (some .boolean)) (zrm (4 + nr) 0 0) (ZP X σ [jR X a0, jI x1, jI x2, jI x3, jI x4, jI x5]) (ZQ X (qZ (fun r σ' => Kp ws_X1_isHad σ σ' ∧ Q r σ')) (fun _ _ => False)) 0 0 (zA X)) : ∀ (n : Nat), ∀ (σ : St) (v6 : Int) (v7 : Int) (H : Heap) (locs : List Loc) (ls : Array Slot), lp_X1_isHad_28 a0 x1 x2 x3 x4 x5 Q σ0 Rc n σ v6 v7 → Wc X σ s.heap H locs → Kp ws_X1_isHad σ0 σ → tg σ a0 = 1 → (0 ≤ v6 ∧ v6 ≤ 1) → rng v7 → lv_has ls 10 [(0, jR X a0), (1, jI x1), (2, jI x2), (3, jI x3), (4, jI x4), (5, jI x5), (6, jI v6), (7, jI v7)] → W p l e (zrm (4 + nr + 1) 0 0) s m args below meth c H locs 0 0 (MQT below (ZQ X (qZ (fun r σ' => Kp ws_X1_isHad σ0 σ' ∧ Q r σ')) (fun _ _ => False)) args s 0 0 (zA X)) (F0 m 28 ls []) := by
  intro n
  induction n with
  | zero => intro σ v6 v7 H locs ls h; exact h.elim
  | succ n ih =>
    intro σ v6 v7 H locs ls h hw hk ht0 hv6 hv7 hl
    have h := h hk
    refine lv_iload (pc := 28) K.x K.b dX1_isHad_28 (lv_at hl 7 rfl) ?_
    refine z_aload_n (pc := 30) K dX1_isHad_30 rfl (lv_at hl 0 rfl) ?_
    refine z_get (pc := 31) (t := 1) (k := 8) K hw (ob ht0) zq1 (by decide) q524 (fun _ h => h) dX1_isHad_31 (zval_r kf_1_8) ?_
    have hg1 : tg σ (σ a0 8 0) = 3 := (z_tg (t := 1) (r := 3) hw ht0 ⟨by decide, by decide⟩ kf_1_8 kn_1_8 kt_1_8 (by decide) (by decide))
    refine z_getN (pc := 34) (t := 3) (k := 0) K hw (ob hg1) zq3 (by decide) q303 (fun _ h => h) dX1_isHad_34 (zval_r kf_3_0) ?_
    have hg2 : tg σ (σ (σ a0 8 0) 0 0) = 4 := (z_tg (t := 3) (r := 4) hw hg1 ⟨by decide, by decide⟩ kf_3_0 kn_3_0 kt_3_0 (by decide) (by decide))
    refine z_getN (pc := 37) (t := 4) (k := 3) K hw (ob hg2) zq4 (by decide) q261 (fun _ h => h) dX1_isHad_37 (zval_i kf_4_3) ?_
    refine z_icmp_ge (pc := 40) (tgt := 157) K hv7 (z_rI hw (ob (t := 4) hg2) kf_4_3) dX1_isHad_40 (by decide) (fun hc3 => ?_) (fun hc3 => ?_)
    · have h := ite_t h hc3
      refine z_aload_n (pc := 43) K dX1_isHad_43 rfl (lv_at hl 0 rfl) ?_
      refine z_get (pc := 44) (t := 1) (k := 9) K hw (ob ht0) zq1 (by decide) q527 (fun _ h => h) dX1_isHad_44 (zval_r kf_1_9) ?_
      have hg4 : tg σ (σ a0 9 0) = 3 := (z_tg (t := 1) (r := 3) hw ht0 ⟨by decide, by decide⟩ kf_1_9 kn_1_9 kt_1_9 (by decide) (by decide))
      refine z_getN (pc := 47) (t := 3) (k := 8) K hw (ob hg4) zq3 (by decide) q323 (fun _ h => h) dX1_isHad_47 (zval_i kf_3_8) ?_
      refine z_sipush (pc := 50) K dX1_isHad_50 (by decide) ?_
      refine z_icmp_ge (pc := 53) (tgt := 157) K (z_rI hw (ob (t := 3) hg4) kf_3_8) ⟨by decide, by decide⟩ dX1_isHad_53 (by decide) (fun hc5 => ?_) (fun hc5 => ?_)
      · have h := ite_t h hc5
        refine lv_iload_n (pc := 56) K.x K.b dX1_isHad_56 rfl (lv_at hl 1 rfl) ?_
        refine lv_iload (pc := 57) K.x K.b dX1_isHad_57 (lv_at hl 7 rfl) ?_
        refine zr_z (pc := 59) (maxL := 2) K hw (met_X1_has X l σ x1 v7 hx1 hv7 _ h) (i_S (n := 2) (As := [jI x1, jI v7]) K (by decide) q1125 q866 q90 (sg_of K q867) rfl rfl dX1_isHad_59) (locw K q867 q90) (zr_ok2 (by omega) (by omega)) hl.1 dX1_isHad_59 (Nat.le_of_ble_eq_true rfl) ⟨Nat.le_refl _, Nat.le_refl _⟩ (fun r6 _ _ hr7 h hw10 => ?_)
        refine lv_iload_n (pc := 62) K.x K.b dX1_isHad_62 rfl (lv_at hl 2 rfl) ?_
        refine z_icmp_eq (pc := 63) (tgt := 69) K (b01r hr7) (b01r hx2) dX1_isHad_63 (by decide) (fun hc11 => ?_) (fun hc11 => ?_)
        · have h := ite_t h hc11
          refine z_iconst (pc := 69) K dX1_isHad_69 ?_
          refine lv_istore (pc := 70) (lv' := [(8, jI 0), (0, jR X a0), (1, jI x1), (2, jI x2), (3, jI x3), (4, jI x4), (5, jI x5), (6, jI v6), (7, jI v7)]) K.x K.b dX1_isHad_70 hl (by decide) rfl (fun ls hl => ?_)
          obtain ⟨n12, h⟩ := h
          exact wk_X1_isHad_72 a0 x1 x2 x3 x4 x5 Q σ0 Rc K hx1 hx2 hx3 hx4 hx5 nr hRc0 (lp_X1_isHad_28 a0 x1 x2 x3 x4 x5 Q σ0 Rc n) ih n12 σ v6 v7 0 _ _ _ h hw10 hk ht0 hv6 hv7 ⟨by decide, by decide⟩ (lv_sub hl [1, 2, 3, 4, 5, 6, 7, 8, 0] rfl)
        · have h := ite_f h hc11
          refine z_goto (pc := 66) (tgt := 151) K dX1_isHad_66 (by decide) ?_
          refine z_iinc (pc := 151) (k := 7) (lv' := [(7, jI (v7 + 1)), (0, jR X a0), (1, jI x1), (2, jI x2), (3, jI x3), (4, jI x4), (5, jI x5), (6, jI v6)]) K dX1_isHad_151 hl rfl (by decide) rfl (fun ls hl => ?_)
          refine z_goto (pc := 154) (tgt := 28) K dX1_isHad_154 (by decide) ?_
          obtain ⟨hr13, h⟩ := h
          exact ih σ v6 (v7 + 1) _ _ _ h hw10 hk ht0 hv6 hr13 (lv_sub hl [1, 2, 3, 4, 5, 6, 7, 0] rfl)
      · have h := ite_f h hc5
        exact wk_X1_isHad_b157 a0 x1 x2 x3 x4 x5 Q σ0 Rc K hx1 hx2 hx3 hx4 hx5 nr hRc0 σ v6 _ _ _ h hw hk hv6 (lv_sub hl [2, 6] rfl)
    · have h := ite_f h hc3
      exact wk_X1_isHad_b157 a0 x1 x2 x3 x4 x5 Q σ0 Rc K hx1 hx2 hx3 hx4 hx5 nr hRc0 σ v6 _ _ _ h hw hk hv6 (lv_sub hl [2, 6] rfl)
set_option maxHeartbeats 4000000 in
theorem mb_X1_isHad (X : Cxt) (l : Launch) (nr : Nat) (Rc : Nat → St → Int → Int → Int → Int → Int → Int → (Int → St → Prop) → Prop) (hRc0 : ∀ (σ : St) (a0 : Int) (x1 : Int) (x2 : Int) (x3 : Int) (x4 : Int) (x5 : Int) (ht0 : tg σ a0 = 1) (hx1 : rng x1) (hx2 : 0 ≤ x2 ∧ x2 ≤ 1) (hx3 : rng x3) (hx4 : rng x4) (hx5 : rng x5) (Q : Int → St → Prop), Rc 0 σ a0 x1 x2 x3 x4 x5 Q → MetT l yX1_isHad (ws_ yX1_isHad cX1_isHad 10 (some .boolean)) (zrm (4 + nr) 0 0) (ZP X σ [jR X a0, jI x1, jI x2, jI x3, jI x4, jI x5]) (ZQ X (qZ (fun r σ' => Kp ws_X1_isHad σ σ' ∧ Q r σ')) (fun _ _ => False)) 0 0 (zA X)) (σ : St) (a0 : Int) (x1 : Int) (x2 : Int) (x3 : Int) (x4 : Int) (x5 : Int) (ht0 : tg σ a0 = 1) (hx1 : rng x1) (hx2 : 0 ≤ x2 ∧ x2 ≤ 1) (hx3 : rng x3) (hx4 : rng x4) (hx5 : rng x5) (Q : Int → St → Prop) (h : bd_X1_isHad Rc σ a0 x1 x2 x3 x4 x5 Q) : MetT l yX1_isHad (ws_ yX1_isHad cX1_isHad 10 (some .boolean)) (zrm (4 + nr + 1) 0 0) (ZP X σ [jR X a0, jI x1, jI x2, jI x3, jI x4, jI x5]) (ZQ X (qZ (fun r σ' => Kp ws_X1_isHad σ σ' ∧ Q r σ')) (fun _ _ => False)) 0 0 (zA X) := by
  refine z_start (own := "CombTable") (lv := [(0, jR X a0), (1, jI x1), (2, jI x2), (3, jI x3), (4, jI x4), (5, jI x5)]) (by decide) rfl (by simp [lv_args, jR_cat, jI_cat, jL_cat]) (by simp [lg_sl, jR_cat, jI_cat, jL_cat]) (fun p e s m below meth c ls K _ _ hw hl => ?_)
  have hk : Kp ws_X1_isHad σ σ := kp_rf σ
  refine z_aload_n (pc := 0) K dX1_isHad_0 rfl (lv_at hl 0 rfl) ?_
  refine z_get (pc := 1) (t := 1) (k := 9) K hw (ob ht0) zq1 (by decide) q527 (fun _ h => h) dX1_isHad_1 (zval_r kf_1_9) ?_
  refine lv_iload_n (pc := 4) K.x K.b dX1_isHad_4 rfl (lv_at hl 3 rfl) ?_
  have hg1 : tg σ (σ a0 9 0) = 3 := (z_tg (t := 1) (r := 3) hw ht0 ⟨by decide, by decide⟩ kf_1_9 kn_1_9 kt_1_9 (by decide) (by decide))
  refine zr_i (pc := 5) (maxL := 2) K hw (met_X3_stateOf X l σ (σ a0 9 0) x3 hg1 hx3 _ h) (i_V (n := 1) (t := 3) (As := [jI x3]) K hw (ob hg1) zq3 (by decide) q1015 q1016 q1017 (sg_of K q1018) rfl rfl dX1_isHad_5) (locw K q1018 q94) (zr_ok2 (by omega) (by omega)) hl.1 dX1_isHad_5 (Nat.le_of_ble_eq_true rfl) ⟨Nat.le_refl _, Nat.le_refl _⟩ (fun r2 _ _ hr3 h hw6 => ?_)
  refine lv_iload (pc := 8) K.x K.b dX1_isHad_8 (lv_at hl 4 rfl) ?_
  refine z_icmp_ne (pc := 10) (tgt := 15) K hr3 hx4 dX1_isHad_10 (by decide) (fun hc7 => ?_) (fun hc7 => ?_)
  · have h := ite_t h hc7
    refine z_iconst (pc := 13) K dX1_isHad_13 ?_
    exact z_zret (pc := 14) K hw6 ⟨by decide, by decide⟩ ⟨hk, h⟩ dX1_isHad_14
  · have h := ite_f h hc7
    refine lv_iload (pc := 15) K.x K.b dX1_isHad_15 (lv_at hl 5 rfl) ?_
    refine z_if_ne (pc := 17) (tgt := 22) K hx5 dX1_isHad_17 (by decide) (fun hc8 => ?_) (fun hc8 => ?_)
    · have h := ite_t h hc8
      refine z_iconst (pc := 20) K dX1_isHad_20 ?_
      exact z_zret (pc := 21) K hw6 ⟨by decide, by decide⟩ ⟨hk, h⟩ dX1_isHad_21
    · have h := ite_f h hc8
      refine z_iconst (pc := 22) K dX1_isHad_22 ?_
      refine lv_istore (pc := 23) (lv' := [(6, jI 0), (0, jR X a0), (1, jI x1), (2, jI x2), (3, jI x3), (4, jI x4), (5, jI x5)]) K.x K.b dX1_isHad_23 hl (by decide) rfl (fun ls hl => ?_)
      refine z_iconst (pc := 25) K dX1_isHad_25 ?_
      refine lv_istore (pc := 26) (lv' := [(7, jI 0), (6, jI 0), (0, jR X a0), (1, jI x1), (2, jI x2), (3, jI x3), (4, jI x4), (5, jI x5)]) K.x K.b dX1_isHad_26 hl (by decide) rfl (fun ls hl => ?_)
      obtain ⟨n9, h⟩ := h
      exact wk_X1_isHad_28 a0 x1 x2 x3 x4 x5 Q σ Rc K hx1 hx2 hx3 hx4 hx5 nr hRc0 n9 σ 0 0 _ _ _ h hw6 hk ht0 ⟨by decide, by decide⟩ ⟨by decide, by decide⟩ (lv_sub hl [2, 3, 4, 5, 6, 7, 1, 0] rfl)
theorem mg_X1_isHad (X : Cxt) (l : Launch) : ∀ n : Nat, (∀ (σ : St) (a0 : Int) (x1 : Int) (x2 : Int) (x3 : Int) (x4 : Int) (x5 : Int) (ht0 : tg σ a0 = 1) (hx1 : rng x1) (hx2 : 0 ≤ x2 ∧ x2 ≤ 1) (hx3 : rng x3) (hx4 : rng x4) (hx5 : rng x5) (Q : Int → St → Prop), wg_X1_isHad n 0 σ a0 x1 x2 x3 x4 x5 Q → MetT l yX1_isHad (ws_ yX1_isHad cX1_isHad 10 (some .boolean)) (zrm (4 + n) 0 0) (ZP X σ [jR X a0, jI x1, jI x2, jI x3, jI x4, jI x5]) (ZQ X (qZ (fun r σ' => Kp ws_X1_isHad σ σ' ∧ Q r σ')) (fun _ _ => False)) 0 0 (zA X)) := by
  intro n
  induction n with
  | zero => exact fun σ a0 x1 x2 x3 x4 x5 ht0 hx1 hx2 hx3 hx4 hx5 Q h => h.elim
  | succ n ih => exact fun σ a0 x1 x2 x3 x4 x5 ht0 hx1 hx2 hx3 hx4 hx5 Q h => mb_X1_isHad X l n (wg_X1_isHad n) ih σ a0 x1 x2 x3 x4 x5 ht0 hx1 hx2 hx3 hx4 hx5 Q h
theorem met_X1_isHad (X : Cxt) (l : Launch) (n : Nat) (σ : St) (a0 : Int) (x1 : Int) (x2 : Int) (x3 : Int) (x4 : Int) (x5 : Int) (ht0 : tg σ a0 = 1) (hx1 : rng x1) (hx2 : 0 ≤ x2 ∧ x2 ≤ 1) (hx3 : rng x3) (hx4 : rng x4) (hx5 : rng x5) (Q : Int → St → Prop) (h : wg_X1_isHad n 0 σ a0 x1 x2 x3 x4 x5 Q) : MetT l yX1_isHad (ws_ yX1_isHad cX1_isHad 10 (some .boolean)) (zrm (4 + n) 0 0) (ZP X σ [jR X a0, jI x1, jI x2, jI x3, jI x4, jI x5]) (ZQ X (qZ (fun r σ' => Kp ws_X1_isHad σ σ' ∧ Q r σ')) (fun _ _ => False)) 0 0 (zA X) := (mg_X1_isHad X l n) σ a0 x1 x2 x3 x4 x5 ht0 hx1 hx2 hx3 hx4 hx5 Q h
def wp_X1_isWord (σ : St) (a0 : Int) (x1 : Int) (Q : Int → Prop) : Prop :=
  rng ((σ (σ a0 8 0) 8 0) - 1) ∧ wp_X1_isIn σ x1 0 ((σ (σ a0 8 0) 8 0) - 1) (fun r3 => Q r3)
set_option maxHeartbeats 4000000 in
theorem met_X1_isWord (X : Cxt) (l : Launch) (σ : St) (a0 : Int) (x1 : Int) (ht0 : tg σ a0 = 1) (hx1 : rng x1) (Q : Int → Prop) (h : wp_X1_isWord σ a0 x1 Q) : MetT l yX1_isWord (ws_ yX1_isWord cX1_isWord 2 (some .boolean)) (zrm 2 0 0) (ZP X σ [jR X a0, jI x1]) (ZQ X (qZ (fun r σ' => σ' = σ ∧ Q r)) (fun _ _ => False)) 0 0 (zA X) := by
  refine z_start (own := "CombTable") (lv := [(0, jR X a0), (1, jI x1)]) (by decide) rfl (by simp [lv_args, jR_cat, jI_cat, jL_cat]) (by simp [lg_sl, jR_cat, jI_cat, jL_cat]) (fun p e s m below meth c ls K _ _ hw hl => ?_)
  refine lv_iload_n (pc := 0) K.x K.b dX1_isWord_0 rfl (lv_at hl 1 rfl) ?_
  refine z_iconst (pc := 1) K dX1_isWord_1 ?_
  refine z_aload_n (pc := 2) K dX1_isWord_2 rfl (lv_at hl 0 rfl) ?_
  refine z_get (pc := 3) (t := 1) (k := 8) K hw (ob ht0) zq1 (by decide) q524 (fun _ h => h) dX1_isWord_3 (zval_r kf_1_8) ?_
  have hg1 : tg σ (σ a0 8 0) = 3 := (z_tg (t := 1) (r := 3) hw ht0 ⟨by decide, by decide⟩ kf_1_8 kn_1_8 kt_1_8 (by decide) (by decide))
  refine z_getN (pc := 6) (t := 3) (k := 8) K hw (ob hg1) zq3 (by decide) q323 (fun _ h => h) dX1_isWord_6 (zval_i kf_3_8) ?_
  refine z_iconst (pc := 9) K dX1_isWord_9 ?_
  refine z_isub (pc := 10) K dX1_isWord_10 ?_
  obtain ⟨hr2, h⟩ := h
  refine zr_z (pc := 11) (maxL := 3) K hw (met_X1_isIn X l σ x1 0 ((σ (σ a0 8 0) 8 0) - 1) hx1 ⟨by decide, by decide⟩ hr2 _ h) (i_S (n := 3) (As := [jI x1, jI 0, jI ((σ (σ a0 8 0) 8 0) - 1)]) K (by decide) q1010 q682 q90 (sg_of K q683) rfl rfl dX1_isWord_11) (locw K q683 q90) ⟨by decide, by decide⟩ hl.1 dX1_isWord_11 (Nat.le_of_ble_eq_true rfl) ⟨Nat.le_refl _, Nat.le_refl _⟩ (fun r3 _ _ hr4 h hw7 => ?_)
  exact z_zret (pc := 14) K hw7 hr4 ⟨rfl, h⟩ dX1_isWord_14
def ws_X3_be : List (Int × Nat) := [(3, 0), (3, 1), (3, 2), (3, 3), (3, 4), (3, 5), (3, 6), (3, 7), (3, 8), (3, 9)]
theorem wo_X3_be : wsOk ws_X3_be = true := rfl
def wp_X3_be (σ : St) (a0 : Int) (o1 : Int) (Q : St → Prop) : Prop :=
  ∀ σ3 : St, σ3 = st σ a0 0 0 (σ o1 0 0) → ∀ σ9 : St, σ9 = st σ3 a0 8 0 (σ3 o1 8 0) → ∀ σ15 : St, σ15 = st σ9 a0 9 0 (σ9 o1 9 0) → (0 ≤ σ15 a0 8 0 ∧ σ15 a0 8 0 ≤ 400 ∧ σ15 a0 8 0 ≤ 400) ∧ ∀ σ22 : St, σ22 = cpy σ15 o1 1 a0 1 (σ15 a0 8 0) → (0 ≤ σ22 a0 8 0 ∧ σ22 a0 8 0 ≤ 400 ∧ σ22 a0 8 0 ≤ 400) ∧ ∀ σ30 : St, σ30 = cpy σ22 o1 2 a0 2 (σ22 a0 8 0) → (0 ≤ σ30 a0 8 0 ∧ σ30 a0 8 0 ≤ 400 ∧ σ30 a0 8 0 ≤ 400) ∧ ∀ σ38 : St, σ38 = cpy σ30 o1 3 a0 3 (σ30 a0 8 0) → (0 ≤ σ38 a0 8 0 ∧ σ38 a0 8 0 ≤ 400 ∧ σ38 a0 8 0 ≤ 400) ∧ ∀ σ46 : St, σ46 = cpy σ38 o1 4 a0 4 (σ38 a0 8 0) → (0 ≤ σ46 a0 8 0 ∧ σ46 a0 8 0 ≤ 400 ∧ σ46 a0 8 0 ≤ 400) ∧ ∀ σ54 : St, σ54 = cpy σ46 o1 5 a0 5 (σ46 a0 8 0) → (0 ≤ σ54 a0 8 0 ∧ σ54 a0 8 0 ≤ 400 ∧ σ54 a0 8 0 ≤ 400) ∧ ∀ σ62 : St, σ62 = cpy σ54 o1 6 a0 6 (σ54 a0 8 0) → (0 ≤ σ62 a0 8 0 ∧ σ62 a0 8 0 ≤ 400 ∧ σ62 a0 8 0 ≤ 400) ∧ ∀ σ70 : St, σ70 = cpy σ62 o1 7 a0 7 (σ62 a0 8 0) → Q σ70
set_option maxHeartbeats 4000000 in
theorem met_X3_be (X : Cxt) (l : Launch) (σ : St) (a0 : Int) (o1 : Int) (ht0 : tg σ a0 = 3) (ht1 : tg σ o1 = 3) (Q : St → Prop) (h : wp_X3_be σ a0 o1 Q) : MetT l yX3_be (ws_ yX3_be cX3_be 2 (none)) (zrm 1 0 0) (ZP X σ [jR X a0, jR X o1]) (ZQ X (qV (fun σ' => Kp ws_X3_be σ σ' ∧ Q σ')) (fun _ _ => False)) 0 0 (zA X) := by
  refine z_start (own := "CombTable$Talk") (lv := [(0, jR X a0), (1, jR X o1)]) (by decide) rfl (by simp [lv_args, jR_cat, jI_cat, jL_cat]) (by simp [lg_sl, jR_cat, jI_cat, jL_cat]) (fun p e s m below meth c ls K _ _ hw hl => ?_)
  have hk : Kp ws_X3_be σ σ := kp_rf σ
  refine z_aload_n (pc := 0) K dX3_be_0 rfl (lv_at hl 0 rfl) ?_
  refine z_aload_n (pc := 1) K dX3_be_1 rfl (lv_at hl 1 rfl) ?_
  refine z_get (pc := 2) (t := 3) (k := 0) K hw (ob ht1) zq3 (by decide) q299 (fun _ h => h) dX3_be_2 (zval_r kf_3_0) ?_
  have hg1 : tg σ (σ o1 0 0) = 4 := (z_tg (t := 3) (r := 4) hw ht1 ⟨by decide, by decide⟩ kf_3_0 kn_3_0 kt_3_0 (by decide) (by decide))
  refine z_putr (pc := 5) (t := 3) 0 K hw (ob ht0) zq3 (by decide) kf_3_0 zt_3_0 (Or.inr (tg_okR (r := 4) (by decide) (by decide) hg1)) q299 (fun _ h => h) rfl dX3_be_5 (fun _ _ hw2 => ?_)
  obtain ⟨σ3, e4⟩ : ∃ z, z = st σ a0 0 0 (σ o1 0 0) := ⟨_, rfl⟩
  have h := h σ3 e4
  have hw2 := wc_e e4 hw2
  have hk5 := kp_e e4 hk wo_X3_be (by decide) ht0 (t := 3) (by decide)
  have hg6 : tg σ3 a0 = 3 := (tg_e e4 (by decide)).trans ht0
  have hg7 : tg σ3 o1 = 3 := (tg_e e4 (by decide)).trans ht1
  refine z_aload_n (pc := 8) K dX3_be_8 rfl (lv_at hl 0 rfl) ?_
  refine z_aload_n (pc := 9) K dX3_be_9 rfl (lv_at hl 1 rfl) ?_
  refine z_get (pc := 10) (t := 3) (k := 8) K hw2 (ob hg7) zq3 (by decide) q321 (fun _ h => h) dX3_be_10 (zval_i kf_3_8) ?_
  refine z_puti (pc := 13) (t := 3) 8 K hw2 (ob hg6) zq3 (by decide) kf_3_8 zt_3_8 (z_rI hw2 (ob (t := 3) hg7) kf_3_8) q321 (fun _ h => h) rfl dX3_be_13 (fun _ _ hw8 => ?_)
  obtain ⟨σ9, e10⟩ : ∃ z, z = st σ3 a0 8 0 (σ3 o1 8 0) := ⟨_, rfl⟩
  have h := h σ9 e10
  have hw8 := wc_e e10 hw8
  have hk11 := kp_e e10 hk5 wo_X3_be (by decide) hg6 (t := 3) (by decide)
  have hg12 : tg σ9 a0 = 3 := (tg_e e10 (by decide)).trans hg6
  have hg13 : tg σ9 o1 = 3 := (tg_e e10 (by decide)).trans hg7
  refine z_aload_n (pc := 16) K dX3_be_16 rfl (lv_at hl 0 rfl) ?_
  refine z_aload_n (pc := 17) K dX3_be_17 rfl (lv_at hl 1 rfl) ?_
  refine z_get (pc := 18) (t := 3) (k := 9) K hw8 (ob hg13) zq3 (by decide) q324 (fun _ h => h) dX3_be_18 (zval_i kf_3_9) ?_
  refine z_puti (pc := 21) (t := 3) 9 K hw8 (ob hg12) zq3 (by decide) kf_3_9 zt_3_9 (z_rI hw8 (ob (t := 3) hg13) kf_3_9) q324 (fun _ h => h) rfl dX3_be_21 (fun _ _ hw14 => ?_)
  obtain ⟨σ15, e16⟩ : ∃ z, z = st σ9 a0 9 0 (σ9 o1 9 0) := ⟨_, rfl⟩
  have h := h σ15 e16
  have hw14 := wc_e e16 hw14
  have hk17 := kp_e e16 hk11 wo_X3_be (by decide) hg12 (t := 3) (by decide)
  have hg18 : tg σ15 a0 = 3 := (tg_e e16 (by decide)).trans hg12
  have hg19 : tg σ15 o1 = 3 := (tg_e e16 (by decide)).trans hg13
  refine z_aload_n (pc := 24) K dX3_be_24 rfl (lv_at hl 1 rfl) ?_
  refine z_get (pc := 25) (t := 3) (k := 1) K hw14 (ob hg19) zq3 (by decide) q304 (fun _ h => h) dX3_be_25 (zval_p (κ := 1) kf_3_1) ?_
  refine z_iconst (pc := 28) K dX3_be_28 ?_
  refine z_aload_n (pc := 29) K dX3_be_29 rfl (lv_at hl 0 rfl) ?_
  refine z_get (pc := 30) (t := 3) (k := 1) K hw14 (ob hg18) zq3 (by decide) q304 (fun _ h => h) dX3_be_30 (zval_p (κ := 1) kf_3_1) ?_
  refine z_iconst (pc := 33) K dX3_be_33 ?_
  refine z_aload_n (pc := 34) K dX3_be_34 rfl (lv_at hl 0 rfl) ?_
  refine z_get (pc := 35) (t := 3) (k := 8) K hw14 (ob hg18) zq3 (by decide) q321 (fun _ h => h) dX3_be_35 (zval_i kf_3_8) ?_
  obtain ⟨hj20, h⟩ := h
  refine z_copyi (pc := 38) (t1 := 3) (t2 := 3) K hw14 hg19 ⟨by decide, by decide⟩ kf_3_1 hg18 ⟨by decide, by decide⟩ kf_3_1 kl_3_1 kl_3_1 hj20 (by decide) q995 q997 q996 q112 ⟨by decide, by decide⟩ hl.1 (Nat.le_of_ble_eq_true rfl) dX3_be_38 (fun _ _ hw21 => ?_)
  obtain ⟨σ22, e23⟩ : ∃ z, z = cpy σ15 o1 1 a0 1 (σ15 a0 8 0) := ⟨_, rfl⟩
  have h := h σ22 e23
  have hw21 := wc_e e23 hw21
  have hk24 : Kp [(3, 1)] σ15 σ22 := kp_cpy e23 hg18
  have hk25 := kp_trans wo_X3_be hk17 hk24 (fun _ q => q) (by decide)
  have hg26 : tg σ22 a0 = 3 := kp_tg hk24 (by decide) hg18 (by decide)
  have hg27 : tg σ22 o1 = 3 := kp_tg hk24 (by decide) hg19 (by decide)
  refine z_aload_n (pc := 41) K dX3_be_41 rfl (lv_at hl 1 rfl) ?_
  refine z_get (pc := 42) (t := 3) (k := 2) K hw21 (ob hg27) zq3 (by decide) q307 (fun _ h => h) dX3_be_42 (zval_p (κ := 1) kf_3_2) ?_
  refine z_iconst (pc := 45) K dX3_be_45 ?_
  refine z_aload_n (pc := 46) K dX3_be_46 rfl (lv_at hl 0 rfl) ?_
  refine z_get (pc := 47) (t := 3) (k := 2) K hw21 (ob hg26) zq3 (by decide) q307 (fun _ h => h) dX3_be_47 (zval_p (κ := 1) kf_3_2) ?_
  refine z_iconst (pc := 50) K dX3_be_50 ?_
  refine z_aload_n (pc := 51) K dX3_be_51 rfl (lv_at hl 0 rfl) ?_
  refine z_get (pc := 52) (t := 3) (k := 8) K hw21 (ob hg26) zq3 (by decide) q321 (fun _ h => h) dX3_be_52 (zval_i kf_3_8) ?_
  obtain ⟨hj28, h⟩ := h
  refine z_copyi (pc := 55) (t1 := 3) (t2 := 3) K hw21 hg27 ⟨by decide, by decide⟩ kf_3_2 hg26 ⟨by decide, by decide⟩ kf_3_2 kl_3_2 kl_3_2 hj28 (by decide) q995 q997 q996 q112 ⟨by decide, by decide⟩ hl.1 (Nat.le_of_ble_eq_true rfl) dX3_be_55 (fun _ _ hw29 => ?_)
  obtain ⟨σ30, e31⟩ : ∃ z, z = cpy σ22 o1 2 a0 2 (σ22 a0 8 0) := ⟨_, rfl⟩
  have h := h σ30 e31
  have hw29 := wc_e e31 hw29
  have hk32 : Kp [(3, 2)] σ22 σ30 := kp_cpy e31 hg26
  have hk33 := kp_trans wo_X3_be hk25 hk32 (fun _ q => q) (by decide)
  have hg34 : tg σ30 a0 = 3 := kp_tg hk32 (by decide) hg26 (by decide)
  have hg35 : tg σ30 o1 = 3 := kp_tg hk32 (by decide) hg27 (by decide)
  refine z_aload_n (pc := 58) K dX3_be_58 rfl (lv_at hl 1 rfl) ?_
  refine z_get (pc := 59) (t := 3) (k := 3) K hw29 (ob hg35) zq3 (by decide) q310 (fun _ h => h) dX3_be_59 (zval_p (κ := 1) kf_3_3) ?_
  refine z_iconst (pc := 62) K dX3_be_62 ?_
  refine z_aload_n (pc := 63) K dX3_be_63 rfl (lv_at hl 0 rfl) ?_
  refine z_get (pc := 64) (t := 3) (k := 3) K hw29 (ob hg34) zq3 (by decide) q310 (fun _ h => h) dX3_be_64 (zval_p (κ := 1) kf_3_3) ?_
  refine z_iconst (pc := 67) K dX3_be_67 ?_
  refine z_aload_n (pc := 68) K dX3_be_68 rfl (lv_at hl 0 rfl) ?_
  refine z_get (pc := 69) (t := 3) (k := 8) K hw29 (ob hg34) zq3 (by decide) q321 (fun _ h => h) dX3_be_69 (zval_i kf_3_8) ?_
  obtain ⟨hj36, h⟩ := h
  refine z_copyi (pc := 72) (t1 := 3) (t2 := 3) K hw29 hg35 ⟨by decide, by decide⟩ kf_3_3 hg34 ⟨by decide, by decide⟩ kf_3_3 kl_3_3 kl_3_3 hj36 (by decide) q995 q997 q996 q112 ⟨by decide, by decide⟩ hl.1 (Nat.le_of_ble_eq_true rfl) dX3_be_72 (fun _ _ hw37 => ?_)
  obtain ⟨σ38, e39⟩ : ∃ z, z = cpy σ30 o1 3 a0 3 (σ30 a0 8 0) := ⟨_, rfl⟩
  have h := h σ38 e39
  have hw37 := wc_e e39 hw37
  have hk40 : Kp [(3, 3)] σ30 σ38 := kp_cpy e39 hg34
  have hk41 := kp_trans wo_X3_be hk33 hk40 (fun _ q => q) (by decide)
  have hg42 : tg σ38 a0 = 3 := kp_tg hk40 (by decide) hg34 (by decide)
  have hg43 : tg σ38 o1 = 3 := kp_tg hk40 (by decide) hg35 (by decide)
  refine z_aload_n (pc := 75) K dX3_be_75 rfl (lv_at hl 1 rfl) ?_
  refine z_get (pc := 76) (t := 3) (k := 4) K hw37 (ob hg43) zq3 (by decide) q313 (fun _ h => h) dX3_be_76 (zval_p (κ := 1) kf_3_4) ?_
  refine z_iconst (pc := 79) K dX3_be_79 ?_
  refine z_aload_n (pc := 80) K dX3_be_80 rfl (lv_at hl 0 rfl) ?_
  refine z_get (pc := 81) (t := 3) (k := 4) K hw37 (ob hg42) zq3 (by decide) q313 (fun _ h => h) dX3_be_81 (zval_p (κ := 1) kf_3_4) ?_
  refine z_iconst (pc := 84) K dX3_be_84 ?_
  refine z_aload_n (pc := 85) K dX3_be_85 rfl (lv_at hl 0 rfl) ?_
  refine z_get (pc := 86) (t := 3) (k := 8) K hw37 (ob hg42) zq3 (by decide) q321 (fun _ h => h) dX3_be_86 (zval_i kf_3_8) ?_
  obtain ⟨hj44, h⟩ := h
  refine z_copyi (pc := 89) (t1 := 3) (t2 := 3) K hw37 hg43 ⟨by decide, by decide⟩ kf_3_4 hg42 ⟨by decide, by decide⟩ kf_3_4 kl_3_4 kl_3_4 hj44 (by decide) q995 q997 q996 q112 ⟨by decide, by decide⟩ hl.1 (Nat.le_of_ble_eq_true rfl) dX3_be_89 (fun _ _ hw45 => ?_)
  obtain ⟨σ46, e47⟩ : ∃ z, z = cpy σ38 o1 4 a0 4 (σ38 a0 8 0) := ⟨_, rfl⟩
  have h := h σ46 e47
  have hw45 := wc_e e47 hw45
  have hk48 : Kp [(3, 4)] σ38 σ46 := kp_cpy e47 hg42
  have hk49 := kp_trans wo_X3_be hk41 hk48 (fun _ q => q) (by decide)
  have hg50 : tg σ46 a0 = 3 := kp_tg hk48 (by decide) hg42 (by decide)
  have hg51 : tg σ46 o1 = 3 := kp_tg hk48 (by decide) hg43 (by decide)
  refine z_aload_n (pc := 92) K dX3_be_92 rfl (lv_at hl 1 rfl) ?_
  refine z_get (pc := 93) (t := 3) (k := 5) K hw45 (ob hg51) zq3 (by decide) q316 (fun _ h => h) dX3_be_93 (zval_p (κ := 1) kf_3_5) ?_
  refine z_iconst (pc := 96) K dX3_be_96 ?_
  refine z_aload_n (pc := 97) K dX3_be_97 rfl (lv_at hl 0 rfl) ?_
  refine z_get (pc := 98) (t := 3) (k := 5) K hw45 (ob hg50) zq3 (by decide) q316 (fun _ h => h) dX3_be_98 (zval_p (κ := 1) kf_3_5) ?_
  refine z_iconst (pc := 101) K dX3_be_101 ?_
  refine z_aload_n (pc := 102) K dX3_be_102 rfl (lv_at hl 0 rfl) ?_
  refine z_get (pc := 103) (t := 3) (k := 8) K hw45 (ob hg50) zq3 (by decide) q321 (fun _ h => h) dX3_be_103 (zval_i kf_3_8) ?_
  obtain ⟨hj52, h⟩ := h
  refine z_copyi (pc := 106) (t1 := 3) (t2 := 3) K hw45 hg51 ⟨by decide, by decide⟩ kf_3_5 hg50 ⟨by decide, by decide⟩ kf_3_5 kl_3_5 kl_3_5 hj52 (by decide) q995 q997 q996 q112 ⟨by decide, by decide⟩ hl.1 (Nat.le_of_ble_eq_true rfl) dX3_be_106 (fun _ _ hw53 => ?_)
  obtain ⟨σ54, e55⟩ : ∃ z, z = cpy σ46 o1 5 a0 5 (σ46 a0 8 0) := ⟨_, rfl⟩
  have h := h σ54 e55
  have hw53 := wc_e e55 hw53
  have hk56 : Kp [(3, 5)] σ46 σ54 := kp_cpy e55 hg50
  have hk57 := kp_trans wo_X3_be hk49 hk56 (fun _ q => q) (by decide)
  have hg58 : tg σ54 a0 = 3 := kp_tg hk56 (by decide) hg50 (by decide)
  have hg59 : tg σ54 o1 = 3 := kp_tg hk56 (by decide) hg51 (by decide)
  refine z_aload_n (pc := 109) K dX3_be_109 rfl (lv_at hl 1 rfl) ?_
  refine z_get (pc := 110) (t := 3) (k := 6) K hw53 (ob hg59) zq3 (by decide) q319 (fun _ h => h) dX3_be_110 (zval_p (κ := 1) kf_3_6) ?_
  refine z_iconst (pc := 113) K dX3_be_113 ?_
  refine z_aload_n (pc := 114) K dX3_be_114 rfl (lv_at hl 0 rfl) ?_
  refine z_get (pc := 115) (t := 3) (k := 6) K hw53 (ob hg58) zq3 (by decide) q319 (fun _ h => h) dX3_be_115 (zval_p (κ := 1) kf_3_6) ?_
  refine z_iconst (pc := 118) K dX3_be_118 ?_
  refine z_aload_n (pc := 119) K dX3_be_119 rfl (lv_at hl 0 rfl) ?_
  refine z_get (pc := 120) (t := 3) (k := 8) K hw53 (ob hg58) zq3 (by decide) q321 (fun _ h => h) dX3_be_120 (zval_i kf_3_8) ?_
  obtain ⟨hj60, h⟩ := h
  refine z_copyi (pc := 123) (t1 := 3) (t2 := 3) K hw53 hg59 ⟨by decide, by decide⟩ kf_3_6 hg58 ⟨by decide, by decide⟩ kf_3_6 kl_3_6 kl_3_6 hj60 (by decide) q995 q997 q996 q112 ⟨by decide, by decide⟩ hl.1 (Nat.le_of_ble_eq_true rfl) dX3_be_123 (fun _ _ hw61 => ?_)
  obtain ⟨σ62, e63⟩ : ∃ z, z = cpy σ54 o1 6 a0 6 (σ54 a0 8 0) := ⟨_, rfl⟩
  have h := h σ62 e63
  have hw61 := wc_e e63 hw61
  have hk64 : Kp [(3, 6)] σ54 σ62 := kp_cpy e63 hg58
  have hk65 := kp_trans wo_X3_be hk57 hk64 (fun _ q => q) (by decide)
  have hg66 : tg σ62 a0 = 3 := kp_tg hk64 (by decide) hg58 (by decide)
  have hg67 : tg σ62 o1 = 3 := kp_tg hk64 (by decide) hg59 (by decide)
  refine z_aload_n (pc := 126) K dX3_be_126 rfl (lv_at hl 1 rfl) ?_
  refine z_get (pc := 127) (t := 3) (k := 7) K hw61 (ob hg67) zq3 (by decide) q320 (fun _ h => h) dX3_be_127 (zval_p (κ := 1) kf_3_7) ?_
  refine z_iconst (pc := 130) K dX3_be_130 ?_
  refine z_aload_n (pc := 131) K dX3_be_131 rfl (lv_at hl 0 rfl) ?_
  refine z_get (pc := 132) (t := 3) (k := 7) K hw61 (ob hg66) zq3 (by decide) q320 (fun _ h => h) dX3_be_132 (zval_p (κ := 1) kf_3_7) ?_
  refine z_iconst (pc := 135) K dX3_be_135 ?_
  refine z_aload_n (pc := 136) K dX3_be_136 rfl (lv_at hl 0 rfl) ?_
  refine z_get (pc := 137) (t := 3) (k := 8) K hw61 (ob hg66) zq3 (by decide) q321 (fun _ h => h) dX3_be_137 (zval_i kf_3_8) ?_
  obtain ⟨hj68, h⟩ := h
  refine z_copyi (pc := 140) (t1 := 3) (t2 := 3) K hw61 hg67 ⟨by decide, by decide⟩ kf_3_7 hg66 ⟨by decide, by decide⟩ kf_3_7 kl_3_7 kl_3_7 hj68 (by decide) q995 q997 q996 q112 ⟨by decide, by decide⟩ hl.1 (Nat.le_of_ble_eq_true rfl) dX3_be_140 (fun _ _ hw69 => ?_)
  obtain ⟨σ70, e71⟩ : ∃ z, z = cpy σ62 o1 7 a0 7 (σ62 a0 8 0) := ⟨_, rfl⟩
  have h := h σ70 e71
  have hw69 := wc_e e71 hw69
  have hk72 : Kp [(3, 7)] σ62 σ70 := kp_cpy e71 hg66
  have hk73 := kp_trans wo_X3_be hk65 hk72 (fun _ q => q) (by decide)
  have hg74 : tg σ70 a0 = 3 := kp_tg hk72 (by decide) hg66 (by decide)
  have hg75 : tg σ70 o1 = 3 := kp_tg hk72 (by decide) hg67 (by decide)
  exact z_vret (pc := 143) K hw69 ⟨hk73, h⟩ dX3_be_143
def ws_X1_game : List (Int × Nat) := [(3, 0), (3, 1), (3, 2), (3, 3), (3, 4), (3, 5), (3, 6), (3, 7), (3, 8), (3, 9)]
theorem wo_X1_game : wsOk ws_X1_game = true := rfl
def lp_X1_game_108 (a0 : Int) (x1 : Int) (x2 : Int) (x3 : Int) (x4 : Int) (Q : Int → St → Prop) (σ0 : St) : Nat → St → Int → Prop
  | 0 => fun _ _ => False
  | n + 1 => fun σ v6 => 
    Kp ws_X1_game σ0 σ → (if v6 ≤ x4 then
      wg_X1_isHad 64 0 σ a0 x1 1 x2 x3 v6 (fun r2 σ5 => Kp ws_X1_isHad σ σ5 → (if r2 = 0 then
        rng (v6 + 1) ∧ (lp_X1_game_108 a0 x1 x2 x3 x4 Q σ0 n σ5 (v6 + 1))
        else
        Q v6 σ5))
      else
      Q (-1) σ)
def wp_X1_game (σ : St) (a0 : Int) (x1 : Int) (x2 : Int) (x3 : Int) (x4 : Int) (Q : Int → St → Prop) : Prop :=
  wp_X1_isIn σ x3 0 8 (fun r3 => (if r3 = 0 then
    Q (-3) σ
    else
    wp_X1_isIn σ x4 1 8 (fun r9 => (if r9 = 0 then
      Q (-3) σ
      else
      wp_X1_isWord σ a0 x2 (fun r15 => (if r15 = 0 then
        Q (-3) σ
        else
        (if 1 ≤ x1 then
          rng ((zshl 1 (σ (σ (σ a0 8 0) 0 0) 3 0)) - 1) ∧ (if (zshl 1 (σ (σ (σ a0 8 0) 0 0) 3 0)) - 1 ≤ x1 then
            Q (-3) σ
            else
            rng ((σ (σ (σ a0 8 0) 0 0) 3 0) * (σ (σ (σ a0 8 0) 0 0) 4 0)) ∧ wp_X1_isFar σ ((σ (σ (σ a0 8 0) 0 0) 3 0) * (σ (σ (σ a0 8 0) 0 0) 4 0)) x4 300000 (fun r25 => (if r25 = 0 then
              wp_X3_be σ (σ a0 9 0) (σ a0 8 0) (fun σ35 => Kp ws_X3_be σ σ35 → (∃ kk, lp_X1_game_108 a0 x1 x2 x3 x4 Q σ kk σ35 0))
              else
              Q (-2) σ)))
          else
          Q (-3) σ)))))))
set_option maxHeartbeats 4000000 in
theorem wk_X1_game_108 {X : Cxt} {p : Program} {l : Launch} {e : Env} {s : State} {m : MethodId} {args : Array Value} {below : List Frame} {meth : Method} {c : Code} (a0 : Int) (x1 : Int) (x2 : Int) (x3 : Int) (x4 : Int) (Q : Int → St → Prop) (σ0 : St) (K : MCx X p s m args meth c cX1_game 7 "CombTable" (some .int)) (hx1 : rng x1) (hx2 : rng x2) (hx3 : rng x3) (hx4 : rng x4) : ∀ (n : Nat), ∀ (σ : St) (v6 : Int) (H : Heap) (locs : List Loc) (ls : Array Slot), lp_X1_game_108 a0 x1 x2 x3 x4 Q σ0 n σ v6 → Wc X σ s.heap H locs → Kp ws_X1_game σ0 σ → tg σ a0 = 1 → rng v6 → lv_has ls 7 [(0, jR X a0), (1, jI x1), (2, jI x2), (3, jI x3), (4, jI x4), (6, jI v6)] → W p l e (zrm 69 0 0) s m args below meth c H locs 0 0 (MQT below (ZQ X (qI (fun r σ' => Kp ws_X1_game σ0 σ' ∧ Q r σ')) (fun _ _ => False)) args s 0 0 (zA X)) (F0 m 108 ls []) := by
  intro n
  induction n with
  | zero => intro σ v6 H locs ls h; exact h.elim
  | succ n ih =>
    intro σ v6 H locs ls h hw hk ht0 hv6 hl
    have h := h hk
    refine lv_iload (pc := 108) K.x K.b dX1_game_108 (lv_at hl 5 rfl) ?_
    refine lv_iload (pc := 110) K.x K.b dX1_game_110 (lv_at hl 4 rfl) ?_
    refine z_icmp_gt (pc := 112) (tgt := 137) K hv6 hx4 dX1_game_112 (by decide) (fun hc1 => ?_) (fun hc1 => ?_)
    · have h := ite_t h hc1
      refine z_aload_n (pc := 115) K dX1_game_115 rfl (lv_at hl 0 rfl) ?_
      refine lv_iload_n (pc := 116) K.x K.b dX1_game_116 rfl (lv_at hl 1 rfl) ?_
      refine z_iconst (pc := 117) K dX1_game_117 ?_
      refine lv_iload_n (pc := 118) K.x K.b dX1_game_118 rfl (lv_at hl 2 rfl) ?_
      refine lv_iload_n (pc := 119) K.x K.b dX1_game_119 rfl (lv_at hl 3 rfl) ?_
      refine lv_iload (pc := 120) K.x K.b dX1_game_120 (lv_at hl 5 rfl) ?_
      refine zc_z (pc := 122) (maxL := 10) K hw (met_X1_isHad X l 64 σ a0 x1 1 x2 x3 v6 ht0 hx1 ⟨by decide, by decide⟩ hx2 hx3 hv6 _ h) (i_V (n := 5) (t := 1) (As := [jI x1, jI 1, jI x2, jI x3, jI v6]) K hw (ob ht0) zq1 (by decide) q1193 q1195 qs21 (sg_of K q1196) rfl rfl dX1_game_122) (locw K q1196 q90) ⟨by decide, by decide⟩ hl.1 dX1_game_122 (Nat.le_of_ble_eq_true rfl) ⟨Nat.le_refl _, Nat.le_refl _⟩ (fun r2 σ5 _ _ hr3 hq4 hw6 => ?_)
      obtain ⟨hk7, h⟩ := hq4
      have h := h hk7
      have hk8 := kp_trans wo_X1_game hk hk7 (fun _ q => q) (by decide)
      have hg9 : tg σ5 a0 = 1 := kp_tg hk7 wo_X1_isHad ht0 (by decide)
      refine z_if_eq (pc := 125) (tgt := 131) K (b01r hr3) dX1_game_125 (by decide) (fun hc10 => ?_) (fun hc10 => ?_)
      · have h := ite_t h hc10
        refine z_iinc (pc := 131) (k := 5) (lv' := [(6, jI (v6 + 1)), (0, jR X a0), (1, jI x1), (2, jI x2), (3, jI x3), (4, jI x4)]) K dX1_game_131 hl rfl (by decide) rfl (fun ls hl => ?_)
        refine z_goto (pc := 134) (tgt := 108) K dX1_game_134 (by decide) ?_
        obtain ⟨hr11, h⟩ := h
        exact ih σ5 (v6 + 1) _ _ _ h hw6 hk8 hg9 hr11 (lv_sub hl [1, 2, 3, 4, 5, 0] rfl)
      · have h := ite_f h hc10
        refine lv_iload (pc := 128) K.x K.b dX1_game_128 (lv_at hl 5 rfl) ?_
        exact z_iret (pc := 130) K hw6 hv6 ⟨hk8, h⟩ dX1_game_130
    · have h := ite_f h hc1
      refine z_iconst (pc := 137) K dX1_game_137 ?_
      exact z_iret (pc := 138) K hw ⟨by decide, by decide⟩ ⟨hk, h⟩ dX1_game_138
set_option maxHeartbeats 4000000 in
theorem met_X1_game (X : Cxt) (l : Launch) (σ : St) (a0 : Int) (x1 : Int) (x2 : Int) (x3 : Int) (x4 : Int) (ht0 : tg σ a0 = 1) (hx1 : rng x1) (hx2 : rng x2) (hx3 : rng x3) (hx4 : rng x4) (Q : Int → St → Prop) (h : wp_X1_game σ a0 x1 x2 x3 x4 Q) : MetT l yX1_game (ws_ yX1_game cX1_game 7 (some .int)) (zrm 69 0 0) (ZP X σ [jR X a0, jI x1, jI x2, jI x3, jI x4]) (ZQ X (qI (fun r σ' => Kp ws_X1_game σ σ' ∧ Q r σ')) (fun _ _ => False)) 0 0 (zA X) := by
  refine z_start (own := "CombTable") (lv := [(0, jR X a0), (1, jI x1), (2, jI x2), (3, jI x3), (4, jI x4)]) (by decide) rfl (by simp [lv_args, jR_cat, jI_cat, jL_cat]) (by simp [lg_sl, jR_cat, jI_cat, jL_cat]) (fun p e s m below meth c ls K _ _ hw hl => ?_)
  have hk : Kp ws_X1_game σ σ := kp_rf σ
  refine z_iconst (pc := 0) K dX1_game_0 ?_
  refine z_aload_n (pc := 1) K dX1_game_1 rfl (lv_at hl 0 rfl) ?_
  refine z_get (pc := 2) (t := 1) (k := 8) K hw (ob ht0) zq1 (by decide) q524 (fun _ h => h) dX1_game_2 (zval_r kf_1_8) ?_
  have hg1 : tg σ (σ a0 8 0) = 3 := (z_tg (t := 1) (r := 3) hw ht0 ⟨by decide, by decide⟩ kf_1_8 kn_1_8 kt_1_8 (by decide) (by decide))
  refine z_getN (pc := 5) (t := 3) (k := 0) K hw (ob hg1) zq3 (by decide) q303 (fun _ h => h) dX1_game_5 (zval_r kf_3_0) ?_
  have hg2 : tg σ (σ (σ a0 8 0) 0 0) = 4 := (z_tg (t := 3) (r := 4) hw hg1 ⟨by decide, by decide⟩ kf_3_0 kn_3_0 kt_3_0 (by decide) (by decide))
  refine z_getN (pc := 8) (t := 4) (k := 3) K hw (ob hg2) zq4 (by decide) q261 (fun _ h => h) dX1_game_8 (zval_i kf_4_3) ?_
  refine z_ishl (pc := 11) K dX1_game_11 ?_
  refine z_iconst (pc := 12) K dX1_game_12 ?_
  refine z_isub (pc := 13) K dX1_game_13 ?_
  refine lv_istore (pc := 14) (lv' := [(5, jI ((zshl 1 (σ (σ (σ a0 8 0) 0 0) 3 0)) - 1)), (0, jR X a0), (1, jI x1), (2, jI x2), (3, jI x3), (4, jI x4)]) K.x K.b dX1_game_14 hl (by decide) rfl (fun ls hl => ?_)
  refine lv_iload_n (pc := 16) K.x K.b dX1_game_16 rfl (lv_at hl 4 rfl) ?_
  refine z_iconst (pc := 17) K dX1_game_17 ?_
  refine z_bipush (pc := 18) K dX1_game_18 (by decide) ?_
  refine zr_z (pc := 20) (maxL := 3) K hw (met_X1_isIn X l σ x3 0 8 hx3 ⟨by decide, by decide⟩ ⟨by decide, by decide⟩ _ h) (i_S (n := 3) (As := [jI x3, jI 0, jI 8]) K (by decide) q1010 q682 q90 (sg_of K q683) rfl rfl dX1_game_20) (locw K q683 q90) ⟨by decide, by decide⟩ hl.1 dX1_game_20 (Nat.le_of_ble_eq_true rfl) ⟨Nat.le_refl _, Nat.le_refl _⟩ (fun r3 _ _ hr4 h hw7 => ?_)
  refine z_if_eq (pc := 23) (tgt := 56) K (b01r hr4) dX1_game_23 (by decide) (fun hc8 => ?_) (fun hc8 => ?_)
  · have h := ite_t h hc8
    refine z_bipush (pc := 56) K dX1_game_56 (by decide) ?_
    exact z_iret (pc := 58) K hw7 ⟨by decide, by decide⟩ ⟨hk, h⟩ dX1_game_58
  · have h := ite_f h hc8
    refine lv_iload (pc := 26) K.x K.b dX1_game_26 (lv_at hl 5 rfl) ?_
    refine z_iconst (pc := 28) K dX1_game_28 ?_
    refine z_bipush (pc := 29) K dX1_game_29 (by decide) ?_
    refine zr_z (pc := 31) (maxL := 3) K hw7 (met_X1_isIn X l σ x4 1 8 hx4 ⟨by decide, by decide⟩ ⟨by decide, by decide⟩ _ h) (i_S (n := 3) (As := [jI x4, jI 1, jI 8]) K (by decide) q1010 q682 q90 (sg_of K q683) rfl rfl dX1_game_31) (locw K q683 q90) ⟨by decide, by decide⟩ hl.1 dX1_game_31 (Nat.le_of_ble_eq_true rfl) ⟨Nat.le_refl _, Nat.le_refl _⟩ (fun r9 _ _ hr10 h hw13 => ?_)
    refine z_if_eq (pc := 34) (tgt := 56) K (b01r hr10) dX1_game_34 (by decide) (fun hc14 => ?_) (fun hc14 => ?_)
    · have h := ite_t h hc14
      refine z_bipush (pc := 56) K dX1_game_56 (by decide) ?_
      exact z_iret (pc := 58) K hw13 ⟨by decide, by decide⟩ ⟨hk, h⟩ dX1_game_58
    · have h := ite_f h hc14
      refine z_aload_n (pc := 37) K dX1_game_37 rfl (lv_at hl 1 rfl) ?_
      refine lv_iload_n (pc := 38) K.x K.b dX1_game_38 rfl (lv_at hl 3 rfl) ?_
      refine zr_z (pc := 39) (maxL := 2) K hw13 (met_X1_isWord X l σ a0 x2 ht0 hx2 _ h) (i_V (n := 1) (t := 1) (As := [jI x2]) K hw13 (ob ht0) zq1 (by decide) q1189 q1191 qs20 (sg_of K q1192) rfl rfl dX1_game_39) (locw K q1192 q90) ⟨by decide, by decide⟩ hl.1 dX1_game_39 (Nat.le_of_ble_eq_true rfl) ⟨Nat.le_refl _, Nat.le_refl _⟩ (fun r15 _ _ hr16 h hw19 => ?_)
      refine z_if_eq (pc := 42) (tgt := 56) K (b01r hr16) dX1_game_42 (by decide) (fun hc20 => ?_) (fun hc20 => ?_)
      · have h := ite_t h hc20
        refine z_bipush (pc := 56) K dX1_game_56 (by decide) ?_
        exact z_iret (pc := 58) K hw19 ⟨by decide, by decide⟩ ⟨hk, h⟩ dX1_game_58
      · have h := ite_f h hc20
        refine lv_iload_n (pc := 45) K.x K.b dX1_game_45 rfl (lv_at hl 2 rfl) ?_
        refine z_iconst (pc := 46) K dX1_game_46 ?_
        refine z_icmp_lt (pc := 47) (tgt := 56) K hx1 ⟨by decide, by decide⟩ dX1_game_47 (by decide) (fun hc21 => ?_) (fun hc21 => ?_)
        · have h := ite_t h hc21
          refine lv_iload_n (pc := 50) K.x K.b dX1_game_50 rfl (lv_at hl 2 rfl) ?_
          refine lv_iload (pc := 51) K.x K.b dX1_game_51 (lv_at hl 0 rfl) ?_
          obtain ⟨hr23, h⟩ := h
          refine z_icmp_lt (pc := 53) (tgt := 59) K hx1 hr23 dX1_game_53 (by decide) (fun hc22 => ?_) (fun hc22 => ?_)
          · have h := ite_t h hc22
            refine z_bipush (pc := 56) K dX1_game_56 (by decide) ?_
            exact z_iret (pc := 58) K hw19 ⟨by decide, by decide⟩ ⟨hk, h⟩ dX1_game_58
          · have h := ite_f h hc22
            refine z_aload_n (pc := 59) K dX1_game_59 rfl (lv_at hl 1 rfl) ?_
            refine z_get (pc := 60) (t := 1) (k := 8) K hw19 (ob ht0) zq1 (by decide) q524 (fun _ h => h) dX1_game_60 (zval_r kf_1_8) ?_
            refine z_getN (pc := 63) (t := 3) (k := 0) K hw19 (ob hg1) zq3 (by decide) q303 (fun _ h => h) dX1_game_63 (zval_r kf_3_0) ?_
            refine z_getN (pc := 66) (t := 4) (k := 3) K hw19 (ob hg2) zq4 (by decide) q261 (fun _ h => h) dX1_game_66 (zval_i kf_4_3) ?_
            refine z_aload_n (pc := 69) K dX1_game_69 rfl (lv_at hl 1 rfl) ?_
            refine z_get (pc := 70) (t := 1) (k := 8) K hw19 (ob ht0) zq1 (by decide) q524 (fun _ h => h) dX1_game_70 (zval_r kf_1_8) ?_
            refine z_getN (pc := 73) (t := 3) (k := 0) K hw19 (ob hg1) zq3 (by decide) q303 (fun _ h => h) dX1_game_73 (zval_r kf_3_0) ?_
            refine z_getN (pc := 76) (t := 4) (k := 4) K hw19 (ob hg2) zq4 (by decide) q267 (fun _ h => h) dX1_game_76 (zval_i kf_4_4) ?_
            refine z_imul (pc := 79) K dX1_game_79 ?_
            refine lv_iload (pc := 80) K.x K.b dX1_game_80 (lv_at hl 5 rfl) ?_
            refine z_ldcw (pc := 82) (z := 300000) K q1169 (by decide) dX1_game_82 ?_
            obtain ⟨hr24, h⟩ := h
            refine zr_z (pc := 85) (maxL := 6) K hw19 (met_X1_isFar X l σ ((σ (σ (σ a0 8 0) 0 0) 3 0) * (σ (σ (σ a0 8 0) 0 0) 4 0)) x4 300000 hr24 hx4 ⟨by decide, by decide⟩ _ h) (i_S (n := 3) (As := [jI ((σ (σ (σ a0 8 0) 0 0) 3 0) * (σ (σ (σ a0 8 0) 0 0) 4 0)), jI x4, jI 300000]) K (by decide) q1170 q1171 q90 (sg_of K q1172) rfl rfl dX1_game_85) (locw K q1172 q90) ⟨by decide, by decide⟩ hl.1 dX1_game_85 (Nat.le_of_ble_eq_true rfl) ⟨Nat.le_refl _, Nat.le_refl _⟩ (fun r25 _ _ hr26 h hw29 => ?_)
            refine z_if_eq (pc := 88) (tgt := 94) K (b01r hr26) dX1_game_88 (by decide) (fun hc30 => ?_) (fun hc30 => ?_)
            · have h := ite_t h hc30
              refine z_aload_n (pc := 94) K dX1_game_94 rfl (lv_at hl 1 rfl) ?_
              refine z_get (pc := 95) (t := 1) (k := 9) K hw29 (ob ht0) zq1 (by decide) q527 (fun _ h => h) dX1_game_95 (zval_r kf_1_9) ?_
              refine z_aload_n (pc := 98) K dX1_game_98 rfl (lv_at hl 1 rfl) ?_
              refine z_get (pc := 99) (t := 1) (k := 8) K hw29 (ob ht0) zq1 (by decide) q524 (fun _ h => h) dX1_game_99 (zval_r kf_1_8) ?_
              have hg31 : tg σ (σ a0 9 0) = 3 := (z_tg (t := 1) (r := 3) hw29 ht0 ⟨by decide, by decide⟩ kf_1_9 kn_1_9 kt_1_9 (by decide) (by decide))
              refine zc_v (pc := 102) (maxL := 2) K hw29 (met_X3_be X l σ (σ a0 9 0) (σ a0 8 0) hg31 hg1 _ h) (i_V (n := 1) (t := 3) (As := [jR X (σ a0 8 0)]) K hw29 (ob hg31) zq3 (by decide) q991 q992 q993 (sg_of K q994) rfl rfl dX1_game_102) (locw K q994 q94) ⟨by decide, by decide⟩ hl.1 dX1_game_102 (Nat.le_of_ble_eq_true rfl) ⟨Nat.le_refl _, Nat.le_refl _⟩ (fun σ35 _ _ hq34 hw36 => ?_)
              obtain ⟨hk37, h⟩ := hq34
              have h := h hk37
              have hk38 := kp_trans wo_X1_game hk hk37 (fun _ q => q) (by decide)
              have hg39 : tg σ35 a0 = 1 := kp_tg hk37 wo_X3_be ht0 (by decide)
              refine z_iconst (pc := 105) K dX1_game_105 ?_
              refine lv_istore (pc := 106) (lv' := [(6, jI 0), (5, jI ((zshl 1 (σ (σ (σ a0 8 0) 0 0) 3 0)) - 1)), (0, jR X a0), (1, jI x1), (2, jI x2), (3, jI x3), (4, jI x4)]) K.x K.b dX1_game_106 hl (by decide) rfl (fun ls hl => ?_)
              obtain ⟨n40, h⟩ := h
              exact wk_X1_game_108 a0 x1 x2 x3 x4 Q σ K hx1 hx2 hx3 hx4 n40 σ35 0 _ _ _ h hw36 hk38 hg39 ⟨by decide, by decide⟩ (lv_sub hl [2, 3, 4, 5, 6, 0] rfl)
            · have h := ite_f h hc30
              refine z_bipush (pc := 91) K dX1_game_91 (by decide) ?_
              exact z_iret (pc := 93) K hw29 ⟨by decide, by decide⟩ ⟨hk, h⟩ dX1_game_93
        · have h := ite_f h hc21
          refine z_bipush (pc := 56) K dX1_game_56 (by decide) ?_
          exact z_iret (pc := 58) K hw19 ⟨by decide, by decide⟩ ⟨hk, h⟩ dX1_game_58
def wp_X1_ways_b41 (σ : St) (a0 : Int) (o1 : Int) (x2 : Int) (Q : Int → Prop) (L5 : Int → Int → Prop) (v5 : Int) (s0 : Int) (s1 : Int) : Prop :=
  (0 ≤ v5 ∧ v5 < 24) ∧ (if σ o1 1 v5 = (-1) then
    rngL ((s0 * s1) * (σ (σ (σ a0 8 0) 0 0) 4 0)) ∧ rng (v5 + 1) ∧ (L5 ((s0 * s1) * (σ (σ (σ a0 8 0) 0 0) 4 0)) (v5 + 1))
    else
    rngL ((s0 * s1) * 1) ∧ rng (v5 + 1) ∧ (L5 ((s0 * s1) * 1) (v5 + 1)))
def lp_X1_ways_5 (σ : St) (a0 : Int) (o1 : Int) (x2 : Int) (Q : Int → Prop) : Nat → Int → Int → Prop
  | 0 => fun _ _ => False
  | n + 1 => fun v3 v5 => 
    (if v5 < σ o1 2 0 then
      (0 ≤ v5 ∧ v5 < 24) ∧ (if σ o1 0 v5 = (-1) then
        (wp_X1_ways_b41 σ a0 o1 x2 Q (lp_X1_ways_5 σ a0 o1 x2 Q n) v5 v3 (σ (σ (σ a0 8 0) 0 0) 3 0))
        else
        (wp_X1_ways_b41 σ a0 o1 x2 Q (lp_X1_ways_5 σ a0 o1 x2 Q n) v5 v3 1))
      else
      rngL (x2 + 1) ∧ rng (if x2 + 1 < v3 then x2 + 1 else v3) ∧ Q (if x2 + 1 < v3 then x2 + 1 else v3))
def wp_X1_ways (σ : St) (a0 : Int) (o1 : Int) (x2 : Int) (Q : Int → Prop) : Prop :=
  (∃ kk, lp_X1_ways_5 σ a0 o1 x2 Q kk 1 0)
set_option maxHeartbeats 4000000 in
theorem wk_X1_ways_b41 {X : Cxt} {p : Program} {l : Launch} {e : Env} {s : State} {m : MethodId} {args : Array Value} {below : List Frame} {meth : Method} {c : Code} (σ : St) (a0 : Int) (o1 : Int) (x2 : Int) (Q : Int → Prop) (K : MCx X p s m args meth c cX1_ways 6 "CombTable" (some .int)) (hx2 : rng x2) (L5 : Int → Int → Prop) (hL5 : ∀ (v3 : Int) (v5 : Int) (H : Heap) (locs : List Loc) (ls : Array Slot), L5 v3 v5 → Wc X σ s.heap H locs → tg σ a0 = 1 → tg σ o1 = 5 → rngL v3 → rng v5 → lv_has ls 6 [(0, jR X a0), (1, jR X o1), (2, jI x2), (3, jL v3), (5, jI v5)] → W p l e (zrm 1 0 0) s m args below meth c H locs 0 0 (MQT below (ZQ X (qI (fun r σ' => σ' = σ ∧ Q r)) (fun _ _ => False)) args s 0 0 (zA X)) (F0 m 5 ls [])) : ∀ (v5 : Int) (s0 : Int) (s1 : Int) (H : Heap) (locs : List Loc) (ls : Array Slot), wp_X1_ways_b41 σ a0 o1 x2 Q L5 v5 s0 s1 → Wc X σ s.heap H locs → tg σ a0 = 1 → tg σ o1 = 5 → rng v5 → rngL s0 → rngL s1 → lv_has ls 6 [(0, jR X a0), (1, jR X o1), (2, jI x2), (5, jI v5)] → W p l e (zrm 1 0 0) s m args below meth c H locs 0 0 (MQT below (ZQ X (qI (fun r σ' => σ' = σ ∧ Q r)) (fun _ _ => False)) args s 0 0 (zA X)) (F0 m 41 ls [jL s1, jL s0]) := by
  intro v5 s0 s1 H locs ls h hw ht0 ht1 hv5 hs0 hs1 hl
  refine z_lmul (pc := 41) K dX1_ways_41 ?_
  refine lv_lstore_n (pc := 42) (lv' := [(3, jL (s0 * s1)), (0, jR X a0), (1, jR X o1), (2, jI x2), (5, jI v5)]) K.x K.b dX1_ways_42 rfl hl (by decide) rfl (fun ls hl => ?_)
  refine lv_lload_n (pc := 43) K.x K.b dX1_ways_43 rfl (lv_at hl 0 rfl) ?_
  refine z_aload_n (pc := 44) K dX1_ways_44 rfl (lv_at hl 2 rfl) ?_
  refine z_getN (pc := 45) (t := 5) (k := 1) K hw (ob ht1) zq5 (by decide) q358 (fun _ h => h) dX1_ways_45 (zval_p (κ := 1) kf_5_1) ?_
  refine lv_iload (pc := 48) K.x K.b dX1_ways_48 (lv_at hl 4 rfl) ?_
  obtain ⟨hj1, h⟩ := h
  refine z_iald (pc := 50) (t := 5) K hw ht1 ⟨by decide, by decide⟩ kf_5_1 kl_5_1 hj1 (by decide) dX1_ways_50 ?_
  refine z_iconst (pc := 51) K dX1_ways_51 ?_
  refine z_icmp_ne (pc := 52) (tgt := 69) K (z_elI (t := 5) hw ht1 ⟨by decide, by decide⟩ kf_5_1 kl_5_1 hj1) ⟨by decide, by decide⟩ dX1_ways_52 (by decide) (fun hc2 => ?_) (fun hc2 => ?_)
  · have h := ite_t h hc2
    refine z_aload_n (pc := 55) K dX1_ways_55 rfl (lv_at hl 1 rfl) ?_
    refine z_get (pc := 56) (t := 1) (k := 8) K hw (ob ht0) zq1 (by decide) q524 (fun _ h => h) dX1_ways_56 (zval_r kf_1_8) ?_
    have hg3 : tg σ (σ a0 8 0) = 3 := (z_tg (t := 1) (r := 3) hw ht0 ⟨by decide, by decide⟩ kf_1_8 kn_1_8 kt_1_8 (by decide) (by decide))
    refine z_getN (pc := 59) (t := 3) (k := 0) K hw (ob hg3) zq3 (by decide) q303 (fun _ h => h) dX1_ways_59 (zval_r kf_3_0) ?_
    have hg4 : tg σ (σ (σ a0 8 0) 0 0) = 4 := (z_tg (t := 3) (r := 4) hw hg3 ⟨by decide, by decide⟩ kf_3_0 kn_3_0 kt_3_0 (by decide) (by decide))
    refine z_getN (pc := 62) (t := 4) (k := 4) K hw (ob hg4) zq4 (by decide) q267 (fun _ h => h) dX1_ways_62 (zval_i kf_4_4) ?_
    refine z_i2l (pc := 65) K (z_rI hw (ob (t := 4) hg4) kf_4_4) dX1_ways_65 ?_
    refine z_goto (pc := 66) (tgt := 70) K dX1_ways_66 (by decide) ?_
    refine z_lmul (pc := 70) K dX1_ways_70 ?_
    refine lv_lstore_n (pc := 71) (lv' := [(3, jL ((s0 * s1) * (σ (σ (σ a0 8 0) 0 0) 4 0))), (0, jR X a0), (1, jR X o1), (2, jI x2), (5, jI v5)]) K.x K.b dX1_ways_71 rfl hl (by decide) rfl (fun ls hl => ?_)
    refine z_iinc (pc := 72) (k := 4) (lv' := [(5, jI (v5 + 1)), (3, jL ((s0 * s1) * (σ (σ (σ a0 8 0) 0 0) 4 0))), (0, jR X a0), (1, jR X o1), (2, jI x2)]) K dX1_ways_72 hl rfl (by decide) rfl (fun ls hl => ?_)
    refine z_goto (pc := 75) (tgt := 5) K dX1_ways_75 (by decide) ?_
    obtain ⟨hr5, h⟩ := h
    obtain ⟨hr6, h⟩ := h
    exact hL5 ((s0 * s1) * (σ (σ (σ a0 8 0) 0 0) 4 0)) (v5 + 1) _ _ _ h hw ht0 ht1 hr5 hr6 (lv_sub hl [2, 3, 4, 1, 0] rfl)
  · have h := ite_f h hc2
    refine z_lconst (pc := 69) (z := 1) K dX1_ways_69 (by decide) ?_
    refine z_lmul (pc := 70) K dX1_ways_70 ?_
    refine lv_lstore_n (pc := 71) (lv' := [(3, jL ((s0 * s1) * 1)), (0, jR X a0), (1, jR X o1), (2, jI x2), (5, jI v5)]) K.x K.b dX1_ways_71 rfl hl (by decide) rfl (fun ls hl => ?_)
    refine z_iinc (pc := 72) (k := 4) (lv' := [(5, jI (v5 + 1)), (3, jL ((s0 * s1) * 1)), (0, jR X a0), (1, jR X o1), (2, jI x2)]) K dX1_ways_72 hl rfl (by decide) rfl (fun ls hl => ?_)
    refine z_goto (pc := 75) (tgt := 5) K dX1_ways_75 (by decide) ?_
    obtain ⟨hr7, h⟩ := h
    obtain ⟨hr8, h⟩ := h
    exact hL5 ((s0 * s1) * 1) (v5 + 1) _ _ _ h hw ht0 ht1 hr7 hr8 (lv_sub hl [2, 3, 4, 1, 0] rfl)
set_option maxHeartbeats 4000000 in
theorem wk_X1_ways_5 {X : Cxt} {p : Program} {l : Launch} {e : Env} {s : State} {m : MethodId} {args : Array Value} {below : List Frame} {meth : Method} {c : Code} (σ : St) (a0 : Int) (o1 : Int) (x2 : Int) (Q : Int → Prop) (K : MCx X p s m args meth c cX1_ways 6 "CombTable" (some .int)) (hx2 : rng x2) : ∀ (n : Nat), ∀ (v3 : Int) (v5 : Int) (H : Heap) (locs : List Loc) (ls : Array Slot), lp_X1_ways_5 σ a0 o1 x2 Q n v3 v5 → Wc X σ s.heap H locs → tg σ a0 = 1 → tg σ o1 = 5 → rngL v3 → rng v5 → lv_has ls 6 [(0, jR X a0), (1, jR X o1), (2, jI x2), (3, jL v3), (5, jI v5)] → W p l e (zrm 1 0 0) s m args below meth c H locs 0 0 (MQT below (ZQ X (qI (fun r σ' => σ' = σ ∧ Q r)) (fun _ _ => False)) args s 0 0 (zA X)) (F0 m 5 ls []) := by
  intro n
  induction n with
  | zero => intro v3 v5 H locs ls h; exact h.elim
  | succ n ih =>
    intro v3 v5 H locs ls h hw ht0 ht1 hv3 hv5 hl
    refine lv_iload (pc := 5) K.x K.b dX1_ways_5 (lv_at hl 4 rfl) ?_
    refine z_aload_n (pc := 7) K dX1_ways_7 rfl (lv_at hl 1 rfl) ?_
    refine z_getN (pc := 8) (t := 5) (k := 2) K hw (ob ht1) zq5 (by decide) q361 (fun _ h => h) dX1_ways_8 (zval_i kf_5_2) ?_
    refine z_icmp_ge (pc := 11) (tgt := 78) K hv5 (z_rI hw (ob (t := 5) ht1) kf_5_2) dX1_ways_11 (by decide) (fun hc1 => ?_) (fun hc1 => ?_)
    · have h := ite_t h hc1
      refine lv_lload_n (pc := 14) K.x K.b dX1_ways_14 rfl (lv_at hl 3 rfl) ?_
      refine z_aload_n (pc := 15) K dX1_ways_15 rfl (lv_at hl 1 rfl) ?_
      refine z_getN (pc := 16) (t := 5) (k := 0) K hw (ob ht1) zq5 (by decide) q355 (fun _ h => h) dX1_ways_16 (zval_p (κ := 1) kf_5_0) ?_
      refine lv_iload (pc := 19) K.x K.b dX1_ways_19 (lv_at hl 4 rfl) ?_
      obtain ⟨hj2, h⟩ := h
      refine z_iald (pc := 21) (t := 5) K hw ht1 ⟨by decide, by decide⟩ kf_5_0 kl_5_0 hj2 (by decide) dX1_ways_21 ?_
      refine z_iconst (pc := 22) K dX1_ways_22 ?_
      refine z_icmp_ne (pc := 23) (tgt := 40) K (z_elI (t := 5) hw ht1 ⟨by decide, by decide⟩ kf_5_0 kl_5_0 hj2) ⟨by decide, by decide⟩ dX1_ways_23 (by decide) (fun hc3 => ?_) (fun hc3 => ?_)
      · have h := ite_t h hc3
        refine z_aload_n (pc := 26) K dX1_ways_26 rfl (lv_at hl 0 rfl) ?_
        refine z_get (pc := 27) (t := 1) (k := 8) K hw (ob ht0) zq1 (by decide) q524 (fun _ h => h) dX1_ways_27 (zval_r kf_1_8) ?_
        have hg4 : tg σ (σ a0 8 0) = 3 := (z_tg (t := 1) (r := 3) hw ht0 ⟨by decide, by decide⟩ kf_1_8 kn_1_8 kt_1_8 (by decide) (by decide))
        refine z_getN (pc := 30) (t := 3) (k := 0) K hw (ob hg4) zq3 (by decide) q303 (fun _ h => h) dX1_ways_30 (zval_r kf_3_0) ?_
        have hg5 : tg σ (σ (σ a0 8 0) 0 0) = 4 := (z_tg (t := 3) (r := 4) hw hg4 ⟨by decide, by decide⟩ kf_3_0 kn_3_0 kt_3_0 (by decide) (by decide))
        refine z_getN (pc := 33) (t := 4) (k := 3) K hw (ob hg5) zq4 (by decide) q261 (fun _ h => h) dX1_ways_33 (zval_i kf_4_3) ?_
        refine z_i2l (pc := 36) K (z_rI hw (ob (t := 4) hg5) kf_4_3) dX1_ways_36 ?_
        refine z_goto (pc := 37) (tgt := 41) K dX1_ways_37 (by decide) ?_
        exact wk_X1_ways_b41 σ a0 o1 x2 Q K hx2 (lp_X1_ways_5 σ a0 o1 x2 Q n) ih v5 v3 (σ (σ (σ a0 8 0) 0 0) 3 0) _ _ _ h hw ht0 ht1 hv5 hv3 (rng_L (z_rI hw (ob (t := 4) hg5) kf_4_3)) (lv_sub hl [0, 1, 2, 4] rfl)
      · have h := ite_f h hc3
        refine z_lconst (pc := 40) (z := 1) K dX1_ways_40 (by decide) ?_
        exact wk_X1_ways_b41 σ a0 o1 x2 Q K hx2 (lp_X1_ways_5 σ a0 o1 x2 Q n) ih v5 v3 1 _ _ _ h hw ht0 ht1 hv5 hv3 ⟨by decide, by decide⟩ (lv_sub hl [0, 1, 2, 4] rfl)
    · have h := ite_f h hc1
      refine lv_lload_n (pc := 78) K.x K.b dX1_ways_78 rfl (lv_at hl 3 rfl) ?_
      refine lv_iload_n (pc := 79) K.x K.b dX1_ways_79 rfl (lv_at hl 2 rfl) ?_
      refine z_i2l (pc := 80) K hx2 dX1_ways_80 ?_
      refine z_lconst (pc := 81) (z := 1) K dX1_ways_81 (by decide) ?_
      refine z_ladd (pc := 82) K dX1_ways_82 ?_
      obtain ⟨hr6, h⟩ := h
      refine z_mminl (pc := 83) K hv3 hr6 q1075 q1076 q113 q1077 ⟨by decide, by decide⟩ ⟨Nat.le_refl _, Nat.le_refl _⟩ hl.1 (Nat.le_of_ble_eq_true rfl) dX1_ways_83 ?_
      refine z_l2i (pc := 86) K dX1_ways_86 ?_
      obtain ⟨hr7, h⟩ := h
      exact z_iret (pc := 87) K hw hr7 ⟨rfl, h⟩ dX1_ways_87
set_option maxHeartbeats 4000000 in
theorem met_X1_ways (X : Cxt) (l : Launch) (σ : St) (a0 : Int) (o1 : Int) (x2 : Int) (ht0 : tg σ a0 = 1) (ht1 : tg σ o1 = 5) (hx2 : rng x2) (Q : Int → Prop) (h : wp_X1_ways σ a0 o1 x2 Q) : MetT l yX1_ways (ws_ yX1_ways cX1_ways 6 (some .int)) (zrm 1 0 0) (ZP X σ [jR X a0, jR X o1, jI x2]) (ZQ X (qI (fun r σ' => σ' = σ ∧ Q r)) (fun _ _ => False)) 0 0 (zA X) := by
  refine z_start (own := "CombTable") (lv := [(0, jR X a0), (1, jR X o1), (2, jI x2)]) (by decide) rfl (by simp [lv_args, jR_cat, jI_cat, jL_cat]) (by simp [lg_sl, jR_cat, jI_cat, jL_cat]) (fun p e s m below meth c ls K _ _ hw hl => ?_)
  refine z_lconst (pc := 0) (z := 1) K dX1_ways_0 (by decide) ?_
  refine lv_lstore_n (pc := 1) (lv' := [(3, jL 1), (0, jR X a0), (1, jR X o1), (2, jI x2)]) K.x K.b dX1_ways_1 rfl hl (by decide) rfl (fun ls hl => ?_)
  refine z_iconst (pc := 2) K dX1_ways_2 ?_
  refine lv_istore (pc := 3) (lv' := [(5, jI 0), (3, jL 1), (0, jR X a0), (1, jR X o1), (2, jI x2)]) K.x K.b dX1_ways_3 hl (by decide) rfl (fun ls hl => ?_)
  obtain ⟨n1, h⟩ := h
  exact wk_X1_ways_5 σ a0 o1 x2 Q K hx2 n1 1 0 _ _ _ h hw ht0 ht1 ⟨by decide, by decide⟩ ⟨by decide, by decide⟩ (lv_sub hl [2, 3, 4, 1, 0] rfl)
def ws_X1_wholesFrom : List (Int × Nat) := [(1, 19), (1, 20), (1, 21), (3, 1), (3, 2), (3, 3), (3, 4), (3, 5), (3, 6), (3, 7), (3, 8), (3, 9)]
theorem wo_X1_wholesFrom : wsOk ws_X1_wholesFrom = true := rfl
def wp_X1_wholesFrom_b184 (a0 : Int) (x1 : Int) (Q : Int → St → Prop) (σ0 : St) (Rc : Nat → St → Int → Int → (Int → St → Prop) → Prop) (L96 : St → Int → Int → Prop) (L142 : St → Int → Int → Int → Prop) (σ : St) (v2 : Int) (v3 : Int) (v4 : Int) : Prop :=
  wp_X3_tries σ (σ a0 9 0) v3 v4 (fun r2 σ5 => Kp ws_X3_tries σ σ5 → (if 0 < r2 then
    rng (v4 + 1) ∧ (L142 σ5 v2 v3 (v4 + 1))
    else
    rng (x1 + 1) ∧ Rc 0 σ5 a0 (x1 + 1) (fun r13 σ16 => Kp ws_X1_wholesFrom σ5 σ16 → wp_X3_undo σ16 (σ16 a0 9 0) (fun σ25 => Kp ws_X3_undo σ16 σ25 → rng (v2 + r13) ∧ rng (v4 + 1) ∧ (L142 σ25 (v2 + r13) v3 (v4 + 1))))))
def lp_X1_wholesFrom_142 (a0 : Int) (x1 : Int) (Q : Int → St → Prop) (σ0 : St) (Rc : Nat → St → Int → Int → (Int → St → Prop) → Prop) (L96 : St → Int → Int → Prop) : Nat → St → Int → Int → Int → Prop
  | 0 => fun _ _ _ _ => False
  | n + 1 => fun σ v2 v3 v4 => 
    Kp ws_X1_wholesFrom σ0 σ → (if v4 < σ (σ (σ a0 8 0) 0 0) 4 0 then
      (0 ≤ x1 ∧ x1 < 24) ∧ (if σ (σ a0 13 0) 1 x1 = (-1) then
        (wp_X1_wholesFrom_b184 a0 x1 Q σ0 Rc L96 (lp_X1_wholesFrom_142 a0 x1 Q σ0 Rc L96 n) σ v2 v3 v4)
        else
        (if σ (σ a0 13 0) 1 x1 = v4 then
          (wp_X1_wholesFrom_b184 a0 x1 Q σ0 Rc L96 (lp_X1_wholesFrom_142 a0 x1 Q σ0 Rc L96 n) σ v2 v3 v4)
          else
          rng (v4 + 1) ∧ (lp_X1_wholesFrom_142 a0 x1 Q σ0 Rc L96 n σ v2 v3 (v4 + 1))))
      else
      rng (v3 + 1) ∧ (L96 σ v2 (v3 + 1)))
def lp_X1_wholesFrom_96 (a0 : Int) (x1 : Int) (Q : Int → St → Prop) (σ0 : St) (Rc : Nat → St → Int → Int → (Int → St → Prop) → Prop) : Nat → St → Int → Int → Prop
  | 0 => fun _ _ _ => False
  | n + 1 => fun σ v2 v3 => 
    Kp ws_X1_wholesFrom σ0 σ → (if v3 < σ (σ (σ a0 8 0) 0 0) 3 0 then
      (0 ≤ x1 ∧ x1 < 24) ∧ (if σ (σ a0 13 0) 0 x1 = (-1) then
        (∃ kk, lp_X1_wholesFrom_142 a0 x1 Q σ0 Rc (lp_X1_wholesFrom_96 a0 x1 Q σ0 Rc n) kk σ v2 v3 0)
        else
        (if σ (σ a0 13 0) 0 x1 = v3 then
          (∃ kk, lp_X1_wholesFrom_142 a0 x1 Q σ0 Rc (lp_X1_wholesFrom_96 a0 x1 Q σ0 Rc n) kk σ v2 v3 0)
          else
          rng (v3 + 1) ∧ (lp_X1_wholesFrom_96 a0 x1 Q σ0 Rc n σ v2 (v3 + 1))))
      else
      Q v2 σ)
def lp_X1_wholesFrom_13 (a0 : Int) (x1 : Int) (Q : Int → St → Prop) (σ0 : St) (Rc : Nat → St → Int → Int → (Int → St → Prop) → Prop) : Nat → St → Int → Prop
  | 0 => fun _ _ => False
  | n + 1 => fun σ v2 => 
    Kp ws_X1_wholesFrom σ0 σ → (if v2 < x1 then
      (if σ a0 23 0 = 0 then
        Q 1 σ
        else
        (0 ≤ v2 ∧ v2 < 24) ∧ (0 ≤ v2 ∧ v2 < 400) ∧ ∀ σ7 : St, σ7 = st σ a0 19 v2 (zor (σ a0 19 v2) (zshl 1 (σ (σ a0 9 0) 1 v2))) → ∀ σ13 : St, σ13 = st σ7 a0 20 v2 (zor (σ7 a0 20 v2) (zshl 1 (σ7 (σ7 a0 9 0) 2 v2))) → wp_X3_stateOf σ13 (σ13 a0 9 0) v2 (fun r18 => ∀ σ24 : St, σ24 = st σ13 a0 21 v2 (zor (σ13 a0 21 v2) (zshl 1 r18)) → rng (v2 + 1) ∧ (lp_X1_wholesFrom_13 a0 x1 Q σ0 Rc n σ24 (v2 + 1))))
      else
      Q 1 σ)
def bd_X1_wholesFrom (Rc : Nat → St → Int → Int → (Int → St → Prop) → Prop) (σ : St) (a0 : Int) (x1 : Int) (Q : Int → St → Prop) : Prop :=
  (if x1 = σ (σ a0 13 0) 2 0 then
    (∃ kk, lp_X1_wholesFrom_13 a0 x1 Q σ Rc kk σ 0)
    else
    (∃ kk, lp_X1_wholesFrom_96 a0 x1 Q σ Rc kk σ 0 0))
def wg_X1_wholesFrom : Nat → Nat → St → Int → Int → (Int → St → Prop) → Prop
  | 0 => fun _ _ _ _ _ => False
  | n + 1 => fun i => match i with
    | _ => bd_X1_wholesFrom (wg_X1_wholesFrom n)
set_option maxHeartbeats 4000000 in
theorem wk_X1_wholesFrom_b184 {X : Cxt} {p : Program} {l : Launch} {e : Env} {s : State} {m : MethodId} {args : Array Value} {below : List Frame} {meth : Method} {c : Code} (a0 : Int) (x1 : Int) (Q : Int → St → Prop) (σ0 : St) (Rc : Nat → St → Int → Int → (Int → St → Prop) → Prop) (K : MCx X p s m args meth c cX1_wholesFrom 5 "CombTable" (some .int)) (hx1 : rng x1) (nr : Nat) (hRc0 : ∀ (σ : St) (a0 : Int) (x1 : Int) (ht0 : tg σ a0 = 1) (hx1 : rng x1) (Q : Int → St → Prop), Rc 0 σ a0 x1 Q → MetT l yX1_wholesFrom (ws_ yX1_wholesFrom cX1_wholesFrom 5 (some .int)) (zrm (4 + nr) 0 0) (ZP X σ [jR X a0, jI x1]) (ZQ X (qI (fun r σ' => Kp ws_X1_wholesFrom σ σ' ∧ Q r σ')) (fun _ _ => False)) 0 0 (zA X)) (L96 : St → Int → Int → Prop) (hL96 : ∀ (σ : St) (v2 : Int) (v3 : Int) (H : Heap) (locs : List Loc) (ls : Array Slot), L96 σ v2 v3 → Wc X σ s.heap H locs → Kp ws_X1_wholesFrom σ0 σ → tg σ a0 = 1 → rng v2 → rng v3 → lv_has ls 5 [(0, jR X a0), (1, jI x1), (2, jI v2), (3, jI v3)] → W p l e (zrm (4 + nr + 1) 0 0) s m args below meth c H locs 0 0 (MQT below (ZQ X (qI (fun r σ' => Kp ws_X1_wholesFrom σ0 σ' ∧ Q r σ')) (fun _ _ => False)) args s 0 0 (zA X)) (F0 m 96 ls [])) (L142 : St → Int → Int → Int → Prop) (hL142 : ∀ (σ : St) (v2 : Int) (v3 : Int) (v4 : Int) (H : Heap) (locs : List Loc) (ls : Array Slot), L142 σ v2 v3 v4 → Wc X σ s.heap H locs → Kp ws_X1_wholesFrom σ0 σ → tg σ a0 = 1 → rng v2 → rng v3 → rng v4 → lv_has ls 5 [(0, jR X a0), (1, jI x1), (2, jI v2), (3, jI v3), (4, jI v4)] → W p l e (zrm (4 + nr + 1) 0 0) s m args below meth c H locs 0 0 (MQT below (ZQ X (qI (fun r σ' => Kp ws_X1_wholesFrom σ0 σ' ∧ Q r σ')) (fun _ _ => False)) args s 0 0 (zA X)) (F0 m 142 ls [])) : ∀ (σ : St) (v2 : Int) (v3 : Int) (v4 : Int) (H : Heap) (locs : List Loc) (ls : Array Slot), wp_X1_wholesFrom_b184 a0 x1 Q σ0 Rc L96 L142 σ v2 v3 v4 → Wc X σ s.heap H locs → Kp ws_X1_wholesFrom σ0 σ → tg σ a0 = 1 → rng v2 → rng v3 → rng v4 → lv_has ls 5 [(0, jR X a0), (1, jI x1), (2, jI v2), (3, jI v3), (4, jI v4)] → W p l e (zrm (4 + nr + 1) 0 0) s m args below meth c H locs 0 0 (MQT below (ZQ X (qI (fun r σ' => Kp ws_X1_wholesFrom σ0 σ' ∧ Q r σ')) (fun _ _ => False)) args s 0 0 (zA X)) (F0 m 184 ls []) := by
  intro σ v2 v3 v4 H locs ls h hw hk ht0 hv2 hv3 hv4 hl
  refine z_aload_n (pc := 184) K dX1_wholesFrom_184 rfl (lv_at hl 0 rfl) ?_
  refine z_get (pc := 185) (t := 1) (k := 9) K hw (ob ht0) zq1 (by decide) q527 (fun _ h => h) dX1_wholesFrom_185 (zval_r kf_1_9) ?_
  refine lv_iload_n (pc := 188) K.x K.b dX1_wholesFrom_188 rfl (lv_at hl 3 rfl) ?_
  refine lv_iload (pc := 189) K.x K.b dX1_wholesFrom_189 (lv_at hl 4 rfl) ?_
  have hg1 : tg σ (σ a0 9 0) = 3 := (z_tg (t := 1) (r := 3) hw ht0 ⟨by decide, by decide⟩ kf_1_9 kn_1_9 kt_1_9 (by decide) (by decide))
  refine zc_i (pc := 191) (maxL := 4) K hw (met_X3_tries X l σ (σ a0 9 0) v3 v4 hg1 hv3 hv4 _ h) (i_V (n := 2) (t := 3) (As := [jI v3, jI v4]) K hw (ob hg1) zq3 (by decide) q911 q912 q913 (sg_of K q914) rfl rfl dX1_wholesFrom_191) (locw K q914 q94) (zr_ok2 (by omega) (by omega)) hl.1 dX1_wholesFrom_191 (Nat.le_of_ble_eq_true rfl) ⟨Nat.le_refl _, Nat.le_refl _⟩ (fun r2 σ5 _ _ hr3 hq4 hw6 => ?_)
  obtain ⟨hk7, h⟩ := hq4
  have h := h hk7
  have hk8 := kp_trans wo_X1_wholesFrom hk hk7 (fun _ q => q) (by decide)
  have hg9 : tg σ5 a0 = 1 := kp_tg hk7 wo_X3_tries ht0 (by decide)
  refine z_if_le (pc := 194) (tgt := 200) K hr3 dX1_wholesFrom_194 (by decide) (fun hc10 => ?_) (fun hc10 => ?_)
  · have h := ite_t h hc10
    refine z_goto (pc := 197) (tgt := 217) K dX1_wholesFrom_197 (by decide) ?_
    refine z_iinc (pc := 217) (k := 4) (lv' := [(4, jI (v4 + 1)), (0, jR X a0), (1, jI x1), (2, jI v2), (3, jI v3)]) K dX1_wholesFrom_217 hl rfl (by decide) rfl (fun ls hl => ?_)
    refine z_goto (pc := 220) (tgt := 142) K dX1_wholesFrom_220 (by decide) ?_
    obtain ⟨hr11, h⟩ := h
    exact hL142 σ5 v2 v3 (v4 + 1) _ _ _ h hw6 hk8 hg9 hv2 hv3 hr11 (lv_sub hl [1, 2, 3, 4, 0] rfl)
  · have h := ite_f h hc10
    refine lv_iload_n (pc := 200) K.x K.b dX1_wholesFrom_200 rfl (lv_at hl 2 rfl) ?_
    refine z_aload_n (pc := 201) K dX1_wholesFrom_201 rfl (lv_at hl 0 rfl) ?_
    refine lv_iload_n (pc := 202) K.x K.b dX1_wholesFrom_202 rfl (lv_at hl 1 rfl) ?_
    refine z_iconst (pc := 203) K dX1_wholesFrom_203 ?_
    refine z_iadd (pc := 204) K dX1_wholesFrom_204 ?_
    obtain ⟨hr12, h⟩ := h
    refine zc_i (pc := 205) (maxL := 5) K hw6 (hRc0 σ5 a0 (x1 + 1) hg9 hr12 _ h) (i_V (n := 1) (t := 1) (As := [jI (x1 + 1)]) K hw6 (ob hg9) zq1 (by decide) q1093 q1095 qs11 (sg_of K q1096) rfl rfl dX1_wholesFrom_205) (locw K q1096 q90) (zr_ok2 (by omega) (by omega)) hl.1 dX1_wholesFrom_205 (Nat.le_of_ble_eq_true rfl) ⟨Nat.le_refl _, Nat.le_refl _⟩ (fun r13 σ16 _ _ hr14 hq15 hw17 => ?_)
    obtain ⟨hk18, h⟩ := hq15
    have h := h hk18
    have hk19 := kp_trans wo_X1_wholesFrom hk8 hk18 (fun _ q => q) (by decide)
    have hg20 : tg σ16 a0 = 1 := kp_tg hk18 wo_X1_wholesFrom hg9 (by decide)
    refine z_iadd (pc := 208) K dX1_wholesFrom_208 ?_
    refine lv_istore_n (pc := 209) (lv' := [(2, jI (v2 + r13)), (0, jR X a0), (1, jI x1), (3, jI v3), (4, jI v4)]) K.x K.b dX1_wholesFrom_209 rfl hl (by decide) rfl (fun ls hl => ?_)
    refine z_aload_n (pc := 210) K dX1_wholesFrom_210 rfl (lv_at hl 1 rfl) ?_
    refine z_get (pc := 211) (t := 1) (k := 9) K hw17 (ob hg20) zq1 (by decide) q527 (fun _ h => h) dX1_wholesFrom_211 (zval_r kf_1_9) ?_
    have hg21 : tg σ16 (σ16 a0 9 0) = 3 := (z_tg (t := 1) (r := 3) hw17 hg20 ⟨by decide, by decide⟩ kf_1_9 kn_1_9 kt_1_9 (by decide) (by decide))
    refine zc_v (pc := 214) (maxL := 2) K hw17 (met_X3_undo X l σ16 (σ16 a0 9 0) hg21 _ h) (i_V (n := 0) (t := 3) (As := []) K hw17 (ob hg21) zq3 (by decide) q953 q954 q955 (sg_of K q956) rfl rfl dX1_wholesFrom_214) (locw K q956 q94) (zr_ok2 (by omega) (by omega)) hl.1 dX1_wholesFrom_214 (Nat.le_of_ble_eq_true rfl) ⟨Nat.le_refl _, Nat.le_refl _⟩ (fun σ25 _ _ hq24 hw26 => ?_)
    obtain ⟨hk27, h⟩ := hq24
    have h := h hk27
    have hk28 := kp_trans wo_X1_wholesFrom hk19 hk27 (fun _ q => q) (by decide)
    have hg29 : tg σ25 a0 = 1 := kp_tg hk27 wo_X3_undo hg20 (by decide)
    refine z_iinc (pc := 217) (k := 4) (lv' := [(4, jI (v4 + 1)), (2, jI (v2 + r13)), (0, jR X a0), (1, jI x1), (3, jI v3)]) K dX1_wholesFrom_217 hl rfl (by decide) rfl (fun ls hl => ?_)
    refine z_goto (pc := 220) (tgt := 142) K dX1_wholesFrom_220 (by decide) ?_
    obtain ⟨hr30, h⟩ := h
    obtain ⟨hr31, h⟩ := h
    exact hL142 σ25 (v2 + r13) v3 (v4 + 1) _ _ _ h hw26 hk28 hg29 hr30 hv3 hr31 (lv_sub hl [2, 3, 1, 4, 0] rfl)
set_option maxHeartbeats 4000000 in
theorem wk_X1_wholesFrom_142 {X : Cxt} {p : Program} {l : Launch} {e : Env} {s : State} {m : MethodId} {args : Array Value} {below : List Frame} {meth : Method} {c : Code} (a0 : Int) (x1 : Int) (Q : Int → St → Prop) (σ0 : St) (Rc : Nat → St → Int → Int → (Int → St → Prop) → Prop) (K : MCx X p s m args meth c cX1_wholesFrom 5 "CombTable" (some .int)) (hx1 : rng x1) (nr : Nat) (hRc0 : ∀ (σ : St) (a0 : Int) (x1 : Int) (ht0 : tg σ a0 = 1) (hx1 : rng x1) (Q : Int → St → Prop), Rc 0 σ a0 x1 Q → MetT l yX1_wholesFrom (ws_ yX1_wholesFrom cX1_wholesFrom 5 (some .int)) (zrm (4 + nr) 0 0) (ZP X σ [jR X a0, jI x1]) (ZQ X (qI (fun r σ' => Kp ws_X1_wholesFrom σ σ' ∧ Q r σ')) (fun _ _ => False)) 0 0 (zA X)) (L96 : St → Int → Int → Prop) (hL96 : ∀ (σ : St) (v2 : Int) (v3 : Int) (H : Heap) (locs : List Loc) (ls : Array Slot), L96 σ v2 v3 → Wc X σ s.heap H locs → Kp ws_X1_wholesFrom σ0 σ → tg σ a0 = 1 → rng v2 → rng v3 → lv_has ls 5 [(0, jR X a0), (1, jI x1), (2, jI v2), (3, jI v3)] → W p l e (zrm (4 + nr + 1) 0 0) s m args below meth c H locs 0 0 (MQT below (ZQ X (qI (fun r σ' => Kp ws_X1_wholesFrom σ0 σ' ∧ Q r σ')) (fun _ _ => False)) args s 0 0 (zA X)) (F0 m 96 ls [])) : ∀ (n : Nat), ∀ (σ : St) (v2 : Int) (v3 : Int) (v4 : Int) (H : Heap) (locs : List Loc) (ls : Array Slot), lp_X1_wholesFrom_142 a0 x1 Q σ0 Rc L96 n σ v2 v3 v4 → Wc X σ s.heap H locs → Kp ws_X1_wholesFrom σ0 σ → tg σ a0 = 1 → rng v2 → rng v3 → rng v4 → lv_has ls 5 [(0, jR X a0), (1, jI x1), (2, jI v2), (3, jI v3), (4, jI v4)] → W p l e (zrm (4 + nr + 1) 0 0) s m args below meth c H locs 0 0 (MQT below (ZQ X (qI (fun r σ' => Kp ws_X1_wholesFrom σ0 σ' ∧ Q r σ')) (fun _ _ => False)) args s 0 0 (zA X)) (F0 m 142 ls []) := by
  intro n
  induction n with
  | zero => intro σ v2 v3 v4 H locs ls h; exact h.elim
  | succ n ih =>
    intro σ v2 v3 v4 H locs ls h hw hk ht0 hv2 hv3 hv4 hl
    have h := h hk
    refine lv_iload (pc := 142) K.x K.b dX1_wholesFrom_142 (lv_at hl 4 rfl) ?_
    refine z_aload_n (pc := 144) K dX1_wholesFrom_144 rfl (lv_at hl 0 rfl) ?_
    refine z_get (pc := 145) (t := 1) (k := 8) K hw (ob ht0) zq1 (by decide) q524 (fun _ h => h) dX1_wholesFrom_145 (zval_r kf_1_8) ?_
    have hg1 : tg σ (σ a0 8 0) = 3 := (z_tg (t := 1) (r := 3) hw ht0 ⟨by decide, by decide⟩ kf_1_8 kn_1_8 kt_1_8 (by decide) (by decide))
    refine z_getN (pc := 148) (t := 3) (k := 0) K hw (ob hg1) zq3 (by decide) q303 (fun _ h => h) dX1_wholesFrom_148 (zval_r kf_3_0) ?_
    have hg2 : tg σ (σ (σ a0 8 0) 0 0) = 4 := (z_tg (t := 3) (r := 4) hw hg1 ⟨by decide, by decide⟩ kf_3_0 kn_3_0 kt_3_0 (by decide) (by decide))
    refine z_getN (pc := 151) (t := 4) (k := 4) K hw (ob hg2) zq4 (by decide) q267 (fun _ h => h) dX1_wholesFrom_151 (zval_i kf_4_4) ?_
    refine z_icmp_ge (pc := 154) (tgt := 223) K hv4 (z_rI hw (ob (t := 4) hg2) kf_4_4) dX1_wholesFrom_154 (by decide) (fun hc3 => ?_) (fun hc3 => ?_)
    · have h := ite_t h hc3
      refine z_aload_n (pc := 157) K dX1_wholesFrom_157 rfl (lv_at hl 0 rfl) ?_
      refine z_get (pc := 158) (t := 1) (k := 13) K hw (ob ht0) zq1 (by decide) q531 (fun _ h => h) dX1_wholesFrom_158 (zval_r kf_1_13) ?_
      have hg4 : tg σ (σ a0 13 0) = 5 := (z_tg (t := 1) (r := 5) hw ht0 ⟨by decide, by decide⟩ kf_1_13 kn_1_13 kt_1_13 (by decide) (by decide))
      refine z_getN (pc := 161) (t := 5) (k := 1) K hw (ob hg4) zq5 (by decide) q358 (fun _ h => h) dX1_wholesFrom_161 (zval_p (κ := 1) kf_5_1) ?_
      refine lv_iload_n (pc := 164) K.x K.b dX1_wholesFrom_164 rfl (lv_at hl 1 rfl) ?_
      obtain ⟨hj5, h⟩ := h
      refine z_iald (pc := 165) (t := 5) K hw hg4 ⟨by decide, by decide⟩ kf_5_1 kl_5_1 hj5 (by decide) dX1_wholesFrom_165 ?_
      refine z_iconst (pc := 166) K dX1_wholesFrom_166 ?_
      refine z_icmp_eq (pc := 167) (tgt := 184) K (z_elI (t := 5) hw hg4 ⟨by decide, by decide⟩ kf_5_1 kl_5_1 hj5) ⟨by decide, by decide⟩ dX1_wholesFrom_167 (by decide) (fun hc6 => ?_) (fun hc6 => ?_)
      · have h := ite_t h hc6
        exact wk_X1_wholesFrom_b184 a0 x1 Q σ0 Rc K hx1 nr hRc0 L96 hL96 (lp_X1_wholesFrom_142 a0 x1 Q σ0 Rc L96 n) ih σ v2 v3 v4 _ _ _ h hw hk ht0 hv2 hv3 hv4 (lv_sub hl [0, 1, 2, 3, 4] rfl)
      · have h := ite_f h hc6
        refine z_aload_n (pc := 170) K dX1_wholesFrom_170 rfl (lv_at hl 0 rfl) ?_
        refine z_get (pc := 171) (t := 1) (k := 13) K hw (ob ht0) zq1 (by decide) q531 (fun _ h => h) dX1_wholesFrom_171 (zval_r kf_1_13) ?_
        refine z_getN (pc := 174) (t := 5) (k := 1) K hw (ob hg4) zq5 (by decide) q358 (fun _ h => h) dX1_wholesFrom_174 (zval_p (κ := 1) kf_5_1) ?_
        refine lv_iload_n (pc := 177) K.x K.b dX1_wholesFrom_177 rfl (lv_at hl 1 rfl) ?_
        refine z_iald (pc := 178) (t := 5) K hw hg4 ⟨by decide, by decide⟩ kf_5_1 kl_5_1 hj5 (by decide) dX1_wholesFrom_178 ?_
        refine lv_iload (pc := 179) K.x K.b dX1_wholesFrom_179 (lv_at hl 4 rfl) ?_
        refine z_icmp_ne (pc := 181) (tgt := 217) K (z_elI (t := 5) hw hg4 ⟨by decide, by decide⟩ kf_5_1 kl_5_1 hj5) hv4 dX1_wholesFrom_181 (by decide) (fun hc7 => ?_) (fun hc7 => ?_)
        · have h := ite_t h hc7
          exact wk_X1_wholesFrom_b184 a0 x1 Q σ0 Rc K hx1 nr hRc0 L96 hL96 (lp_X1_wholesFrom_142 a0 x1 Q σ0 Rc L96 n) ih σ v2 v3 v4 _ _ _ h hw hk ht0 hv2 hv3 hv4 (lv_sub hl [0, 1, 2, 3, 4] rfl)
        · have h := ite_f h hc7
          refine z_iinc (pc := 217) (k := 4) (lv' := [(4, jI (v4 + 1)), (0, jR X a0), (1, jI x1), (2, jI v2), (3, jI v3)]) K dX1_wholesFrom_217 hl rfl (by decide) rfl (fun ls hl => ?_)
          refine z_goto (pc := 220) (tgt := 142) K dX1_wholesFrom_220 (by decide) ?_
          obtain ⟨hr8, h⟩ := h
          exact ih σ v2 v3 (v4 + 1) _ _ _ h hw hk ht0 hv2 hv3 hr8 (lv_sub hl [1, 2, 3, 4, 0] rfl)
    · have h := ite_f h hc3
      refine z_iinc (pc := 223) (k := 3) (lv' := [(3, jI (v3 + 1)), (0, jR X a0), (1, jI x1), (2, jI v2), (4, jI v4)]) K dX1_wholesFrom_223 hl rfl (by decide) rfl (fun ls hl => ?_)
      refine z_goto (pc := 226) (tgt := 96) K dX1_wholesFrom_226 (by decide) ?_
      obtain ⟨hr9, h⟩ := h
      exact hL96 σ v2 (v3 + 1) _ _ _ h hw hk ht0 hv2 hr9 (lv_sub hl [1, 2, 3, 0] rfl)
set_option maxHeartbeats 4000000 in
theorem wk_X1_wholesFrom_96 {X : Cxt} {p : Program} {l : Launch} {e : Env} {s : State} {m : MethodId} {args : Array Value} {below : List Frame} {meth : Method} {c : Code} (a0 : Int) (x1 : Int) (Q : Int → St → Prop) (σ0 : St) (Rc : Nat → St → Int → Int → (Int → St → Prop) → Prop) (K : MCx X p s m args meth c cX1_wholesFrom 5 "CombTable" (some .int)) (hx1 : rng x1) (nr : Nat) (hRc0 : ∀ (σ : St) (a0 : Int) (x1 : Int) (ht0 : tg σ a0 = 1) (hx1 : rng x1) (Q : Int → St → Prop), Rc 0 σ a0 x1 Q → MetT l yX1_wholesFrom (ws_ yX1_wholesFrom cX1_wholesFrom 5 (some .int)) (zrm (4 + nr) 0 0) (ZP X σ [jR X a0, jI x1]) (ZQ X (qI (fun r σ' => Kp ws_X1_wholesFrom σ σ' ∧ Q r σ')) (fun _ _ => False)) 0 0 (zA X)) : ∀ (n : Nat), ∀ (σ : St) (v2 : Int) (v3 : Int) (H : Heap) (locs : List Loc) (ls : Array Slot), lp_X1_wholesFrom_96 a0 x1 Q σ0 Rc n σ v2 v3 → Wc X σ s.heap H locs → Kp ws_X1_wholesFrom σ0 σ → tg σ a0 = 1 → rng v2 → rng v3 → lv_has ls 5 [(0, jR X a0), (1, jI x1), (2, jI v2), (3, jI v3)] → W p l e (zrm (4 + nr + 1) 0 0) s m args below meth c H locs 0 0 (MQT below (ZQ X (qI (fun r σ' => Kp ws_X1_wholesFrom σ0 σ' ∧ Q r σ')) (fun _ _ => False)) args s 0 0 (zA X)) (F0 m 96 ls []) := by
  intro n
  induction n with
  | zero => intro σ v2 v3 H locs ls h; exact h.elim
  | succ n ih =>
    intro σ v2 v3 H locs ls h hw hk ht0 hv2 hv3 hl
    have h := h hk
    refine lv_iload_n (pc := 96) K.x K.b dX1_wholesFrom_96 rfl (lv_at hl 3 rfl) ?_
    refine z_aload_n (pc := 97) K dX1_wholesFrom_97 rfl (lv_at hl 0 rfl) ?_
    refine z_get (pc := 98) (t := 1) (k := 8) K hw (ob ht0) zq1 (by decide) q524 (fun _ h => h) dX1_wholesFrom_98 (zval_r kf_1_8) ?_
    have hg1 : tg σ (σ a0 8 0) = 3 := (z_tg (t := 1) (r := 3) hw ht0 ⟨by decide, by decide⟩ kf_1_8 kn_1_8 kt_1_8 (by decide) (by decide))
    refine z_getN (pc := 101) (t := 3) (k := 0) K hw (ob hg1) zq3 (by decide) q303 (fun _ h => h) dX1_wholesFrom_101 (zval_r kf_3_0) ?_
    have hg2 : tg σ (σ (σ a0 8 0) 0 0) = 4 := (z_tg (t := 3) (r := 4) hw hg1 ⟨by decide, by decide⟩ kf_3_0 kn_3_0 kt_3_0 (by decide) (by decide))
    refine z_getN (pc := 104) (t := 4) (k := 3) K hw (ob hg2) zq4 (by decide) q261 (fun _ h => h) dX1_wholesFrom_104 (zval_i kf_4_3) ?_
    refine z_icmp_ge (pc := 107) (tgt := 229) K hv3 (z_rI hw (ob (t := 4) hg2) kf_4_3) dX1_wholesFrom_107 (by decide) (fun hc3 => ?_) (fun hc3 => ?_)
    · have h := ite_t h hc3
      refine z_aload_n (pc := 110) K dX1_wholesFrom_110 rfl (lv_at hl 0 rfl) ?_
      refine z_get (pc := 111) (t := 1) (k := 13) K hw (ob ht0) zq1 (by decide) q531 (fun _ h => h) dX1_wholesFrom_111 (zval_r kf_1_13) ?_
      have hg4 : tg σ (σ a0 13 0) = 5 := (z_tg (t := 1) (r := 5) hw ht0 ⟨by decide, by decide⟩ kf_1_13 kn_1_13 kt_1_13 (by decide) (by decide))
      refine z_getN (pc := 114) (t := 5) (k := 0) K hw (ob hg4) zq5 (by decide) q355 (fun _ h => h) dX1_wholesFrom_114 (zval_p (κ := 1) kf_5_0) ?_
      refine lv_iload_n (pc := 117) K.x K.b dX1_wholesFrom_117 rfl (lv_at hl 1 rfl) ?_
      obtain ⟨hj5, h⟩ := h
      refine z_iald (pc := 118) (t := 5) K hw hg4 ⟨by decide, by decide⟩ kf_5_0 kl_5_0 hj5 (by decide) dX1_wholesFrom_118 ?_
      refine z_iconst (pc := 119) K dX1_wholesFrom_119 ?_
      refine z_icmp_eq (pc := 120) (tgt := 139) K (z_elI (t := 5) hw hg4 ⟨by decide, by decide⟩ kf_5_0 kl_5_0 hj5) ⟨by decide, by decide⟩ dX1_wholesFrom_120 (by decide) (fun hc6 => ?_) (fun hc6 => ?_)
      · have h := ite_t h hc6
        refine z_iconst (pc := 139) K dX1_wholesFrom_139 ?_
        refine lv_istore (pc := 140) (lv' := [(4, jI 0), (0, jR X a0), (1, jI x1), (2, jI v2), (3, jI v3)]) K.x K.b dX1_wholesFrom_140 hl (by decide) rfl (fun ls hl => ?_)
        obtain ⟨n7, h⟩ := h
        exact wk_X1_wholesFrom_142 a0 x1 Q σ0 Rc K hx1 nr hRc0 (lp_X1_wholesFrom_96 a0 x1 Q σ0 Rc n) ih n7 σ v2 v3 0 _ _ _ h hw hk ht0 hv2 hv3 ⟨by decide, by decide⟩ (lv_sub hl [1, 2, 3, 4, 0] rfl)
      · have h := ite_f h hc6
        refine z_aload_n (pc := 123) K dX1_wholesFrom_123 rfl (lv_at hl 0 rfl) ?_
        refine z_get (pc := 124) (t := 1) (k := 13) K hw (ob ht0) zq1 (by decide) q531 (fun _ h => h) dX1_wholesFrom_124 (zval_r kf_1_13) ?_
        refine z_getN (pc := 127) (t := 5) (k := 0) K hw (ob hg4) zq5 (by decide) q355 (fun _ h => h) dX1_wholesFrom_127 (zval_p (κ := 1) kf_5_0) ?_
        refine lv_iload_n (pc := 130) K.x K.b dX1_wholesFrom_130 rfl (lv_at hl 1 rfl) ?_
        refine z_iald (pc := 131) (t := 5) K hw hg4 ⟨by decide, by decide⟩ kf_5_0 kl_5_0 hj5 (by decide) dX1_wholesFrom_131 ?_
        refine lv_iload_n (pc := 132) K.x K.b dX1_wholesFrom_132 rfl (lv_at hl 3 rfl) ?_
        refine z_icmp_eq (pc := 133) (tgt := 139) K (z_elI (t := 5) hw hg4 ⟨by decide, by decide⟩ kf_5_0 kl_5_0 hj5) hv3 dX1_wholesFrom_133 (by decide) (fun hc8 => ?_) (fun hc8 => ?_)
        · have h := ite_t h hc8
          refine z_iconst (pc := 139) K dX1_wholesFrom_139 ?_
          refine lv_istore (pc := 140) (lv' := [(4, jI 0), (0, jR X a0), (1, jI x1), (2, jI v2), (3, jI v3)]) K.x K.b dX1_wholesFrom_140 hl (by decide) rfl (fun ls hl => ?_)
          obtain ⟨n9, h⟩ := h
          exact wk_X1_wholesFrom_142 a0 x1 Q σ0 Rc K hx1 nr hRc0 (lp_X1_wholesFrom_96 a0 x1 Q σ0 Rc n) ih n9 σ v2 v3 0 _ _ _ h hw hk ht0 hv2 hv3 ⟨by decide, by decide⟩ (lv_sub hl [1, 2, 3, 4, 0] rfl)
        · have h := ite_f h hc8
          refine z_goto (pc := 136) (tgt := 223) K dX1_wholesFrom_136 (by decide) ?_
          refine z_iinc (pc := 223) (k := 3) (lv' := [(3, jI (v3 + 1)), (0, jR X a0), (1, jI x1), (2, jI v2)]) K dX1_wholesFrom_223 hl rfl (by decide) rfl (fun ls hl => ?_)
          refine z_goto (pc := 226) (tgt := 96) K dX1_wholesFrom_226 (by decide) ?_
          obtain ⟨hr10, h⟩ := h
          exact ih σ v2 (v3 + 1) _ _ _ h hw hk ht0 hv2 hr10 (lv_sub hl [1, 2, 3, 0] rfl)
    · have h := ite_f h hc3
      refine lv_iload_n (pc := 229) K.x K.b dX1_wholesFrom_229 rfl (lv_at hl 2 rfl) ?_
      exact z_iret (pc := 230) K hw hv2 ⟨hk, h⟩ dX1_wholesFrom_230
set_option maxHeartbeats 4000000 in
theorem wk_X1_wholesFrom_13 {X : Cxt} {p : Program} {l : Launch} {e : Env} {s : State} {m : MethodId} {args : Array Value} {below : List Frame} {meth : Method} {c : Code} (a0 : Int) (x1 : Int) (Q : Int → St → Prop) (σ0 : St) (Rc : Nat → St → Int → Int → (Int → St → Prop) → Prop) (K : MCx X p s m args meth c cX1_wholesFrom 5 "CombTable" (some .int)) (hx1 : rng x1) (nr : Nat) (hRc0 : ∀ (σ : St) (a0 : Int) (x1 : Int) (ht0 : tg σ a0 = 1) (hx1 : rng x1) (Q : Int → St → Prop), Rc 0 σ a0 x1 Q → MetT l yX1_wholesFrom (ws_ yX1_wholesFrom cX1_wholesFrom 5 (some .int)) (zrm (4 + nr) 0 0) (ZP X σ [jR X a0, jI x1]) (ZQ X (qI (fun r σ' => Kp ws_X1_wholesFrom σ σ' ∧ Q r σ')) (fun _ _ => False)) 0 0 (zA X)) : ∀ (n : Nat), ∀ (σ : St) (v2 : Int) (H : Heap) (locs : List Loc) (ls : Array Slot), lp_X1_wholesFrom_13 a0 x1 Q σ0 Rc n σ v2 → Wc X σ s.heap H locs → Kp ws_X1_wholesFrom σ0 σ → tg σ a0 = 1 → rng v2 → lv_has ls 5 [(0, jR X a0), (1, jI x1), (2, jI v2)] → W p l e (zrm (4 + nr + 1) 0 0) s m args below meth c H locs 0 0 (MQT below (ZQ X (qI (fun r σ' => Kp ws_X1_wholesFrom σ0 σ' ∧ Q r σ')) (fun _ _ => False)) args s 0 0 (zA X)) (F0 m 13 ls []) := by
  intro n
  induction n with
  | zero => intro σ v2 H locs ls h; exact h.elim
  | succ n ih =>
    intro σ v2 H locs ls h hw hk ht0 hv2 hl
    have h := h hk
    refine lv_iload_n (pc := 13) K.x K.b dX1_wholesFrom_13 rfl (lv_at hl 2 rfl) ?_
    refine lv_iload_n (pc := 14) K.x K.b dX1_wholesFrom_14 rfl (lv_at hl 1 rfl) ?_
    refine z_icmp_ge (pc := 15) (tgt := 90) K hv2 hx1 dX1_wholesFrom_15 (by decide) (fun hc1 => ?_) (fun hc1 => ?_)
    · have h := ite_t h hc1
      refine z_aload_n (pc := 18) K dX1_wholesFrom_18 rfl (lv_at hl 0 rfl) ?_
      refine z_get (pc := 19) (t := 1) (k := 23) K hw (ob ht0) zq1 (by decide) q541 (fun _ h => h) dX1_wholesFrom_19 (zval_z kf_1_23) ?_
      refine z_if_eq (pc := 22) (tgt := 90) K (b01r (z_rZ hw (ob (t := 1) ht0) kf_1_23)) dX1_wholesFrom_22 (by decide) (fun hc2 => ?_) (fun hc2 => ?_)
      · have h := ite_t h hc2
        refine z_iconst (pc := 90) K dX1_wholesFrom_90 ?_
        exact z_iret (pc := 91) K hw ⟨by decide, by decide⟩ ⟨hk, h⟩ dX1_wholesFrom_91
      · have h := ite_f h hc2
        refine z_aload_n (pc := 25) K dX1_wholesFrom_25 rfl (lv_at hl 0 rfl) ?_
        refine z_get (pc := 26) (t := 1) (k := 19) K hw (ob ht0) zq1 (by decide) q537 (fun _ h => h) dX1_wholesFrom_26 (zval_p (κ := 1) kf_1_19) ?_
        refine lv_iload_n (pc := 29) K.x K.b dX1_wholesFrom_29 rfl (lv_at hl 2 rfl) ?_
        refine lv_dup2_11 (pc := 30) K.x K.b dX1_wholesFrom_30 rfl (jR_cat _ _) ?_
        obtain ⟨hj3, h⟩ := h
        refine z_iald (pc := 31) (t := 1) K hw ht0 ⟨by decide, by decide⟩ kf_1_19 kl_1_19 hj3 (by decide) dX1_wholesFrom_31 ?_
        refine z_iconst (pc := 32) K dX1_wholesFrom_32 ?_
        refine z_aload_n (pc := 33) K dX1_wholesFrom_33 rfl (lv_at hl 0 rfl) ?_
        refine z_get (pc := 34) (t := 1) (k := 9) K hw (ob ht0) zq1 (by decide) q527 (fun _ h => h) dX1_wholesFrom_34 (zval_r kf_1_9) ?_
        have hg4 : tg σ (σ a0 9 0) = 3 := (z_tg (t := 1) (r := 3) hw ht0 ⟨by decide, by decide⟩ kf_1_9 kn_1_9 kt_1_9 (by decide) (by decide))
        refine z_getN (pc := 37) (t := 3) (k := 1) K hw (ob hg4) zq3 (by decide) q306 (fun _ h => h) dX1_wholesFrom_37 (zval_p (κ := 1) kf_3_1) ?_
        refine lv_iload_n (pc := 40) K.x K.b dX1_wholesFrom_40 rfl (lv_at hl 2 rfl) ?_
        obtain ⟨hj5, h⟩ := h
        refine z_iald (pc := 41) (t := 3) K hw hg4 ⟨by decide, by decide⟩ kf_3_1 kl_3_1 hj5 (by decide) dX1_wholesFrom_41 ?_
        refine z_ishl (pc := 42) K dX1_wholesFrom_42 ?_
        refine z_ior (pc := 43) K dX1_wholesFrom_43 ?_
        refine z_iast (pc := 44) (t := 1) K hw ht0 ⟨by decide, by decide⟩ kf_1_19 kl_1_19 hj3 (by decide) (rng_toInt _) dX1_wholesFrom_44 (fun _ _ hw6 => ?_)
        obtain ⟨σ7, e8⟩ : ∃ z, z = st σ a0 19 v2 (zor (σ a0 19 v2) (zshl 1 (σ (σ a0 9 0) 1 v2))) := ⟨_, rfl⟩
        have h := h σ7 e8
        have hw6 := wc_e e8 hw6
        have hk9 := kp_e e8 hk wo_X1_wholesFrom hj3.1 ht0 (t := 1) (by decide)
        have hg10 : tg σ7 a0 = 1 := (tg_e e8 (by decide)).trans ht0
        refine z_aload_n (pc := 45) K dX1_wholesFrom_45 rfl (lv_at hl 0 rfl) ?_
        refine z_get (pc := 46) (t := 1) (k := 20) K hw6 (ob hg10) zq1 (by decide) q538 (fun _ h => h) dX1_wholesFrom_46 (zval_p (κ := 1) kf_1_20) ?_
        refine lv_iload_n (pc := 49) K.x K.b dX1_wholesFrom_49 rfl (lv_at hl 2 rfl) ?_
        refine lv_dup2_11 (pc := 50) K.x K.b dX1_wholesFrom_50 rfl (jR_cat _ _) ?_
        refine z_iald (pc := 51) (t := 1) K hw6 hg10 ⟨by decide, by decide⟩ kf_1_20 kl_1_20 hj3 (by decide) dX1_wholesFrom_51 ?_
        refine z_iconst (pc := 52) K dX1_wholesFrom_52 ?_
        refine z_aload_n (pc := 53) K dX1_wholesFrom_53 rfl (lv_at hl 0 rfl) ?_
        refine z_get (pc := 54) (t := 1) (k := 9) K hw6 (ob hg10) zq1 (by decide) q527 (fun _ h => h) dX1_wholesFrom_54 (zval_r kf_1_9) ?_
        have hg11 : tg σ7 (σ7 a0 9 0) = 3 := (z_tg (t := 1) (r := 3) hw6 hg10 ⟨by decide, by decide⟩ kf_1_9 kn_1_9 kt_1_9 (by decide) (by decide))
        refine z_getN (pc := 57) (t := 3) (k := 2) K hw6 (ob hg11) zq3 (by decide) q309 (fun _ h => h) dX1_wholesFrom_57 (zval_p (κ := 1) kf_3_2) ?_
        refine lv_iload_n (pc := 60) K.x K.b dX1_wholesFrom_60 rfl (lv_at hl 2 rfl) ?_
        refine z_iald (pc := 61) (t := 3) K hw6 hg11 ⟨by decide, by decide⟩ kf_3_2 kl_3_2 hj5 (by decide) dX1_wholesFrom_61 ?_
        refine z_ishl (pc := 62) K dX1_wholesFrom_62 ?_
        refine z_ior (pc := 63) K dX1_wholesFrom_63 ?_
        refine z_iast (pc := 64) (t := 1) K hw6 hg10 ⟨by decide, by decide⟩ kf_1_20 kl_1_20 hj3 (by decide) (rng_toInt _) dX1_wholesFrom_64 (fun _ _ hw12 => ?_)
        obtain ⟨σ13, e14⟩ : ∃ z, z = st σ7 a0 20 v2 (zor (σ7 a0 20 v2) (zshl 1 (σ7 (σ7 a0 9 0) 2 v2))) := ⟨_, rfl⟩
        have h := h σ13 e14
        have hw12 := wc_e e14 hw12
        have hk15 := kp_e e14 hk9 wo_X1_wholesFrom hj3.1 hg10 (t := 1) (by decide)
        have hg16 : tg σ13 a0 = 1 := (tg_e e14 (by decide)).trans hg10
        refine z_aload_n (pc := 65) K dX1_wholesFrom_65 rfl (lv_at hl 0 rfl) ?_
        refine z_get (pc := 66) (t := 1) (k := 21) K hw12 (ob hg16) zq1 (by decide) q539 (fun _ h => h) dX1_wholesFrom_66 (zval_p (κ := 1) kf_1_21) ?_
        refine lv_iload_n (pc := 69) K.x K.b dX1_wholesFrom_69 rfl (lv_at hl 2 rfl) ?_
        refine lv_dup2_11 (pc := 70) K.x K.b dX1_wholesFrom_70 rfl (jR_cat _ _) ?_
        refine z_iald (pc := 71) (t := 1) K hw12 hg16 ⟨by decide, by decide⟩ kf_1_21 kl_1_21 hj3 (by decide) dX1_wholesFrom_71 ?_
        refine z_iconst (pc := 72) K dX1_wholesFrom_72 ?_
        refine z_aload_n (pc := 73) K dX1_wholesFrom_73 rfl (lv_at hl 0 rfl) ?_
        refine z_get (pc := 74) (t := 1) (k := 9) K hw12 (ob hg16) zq1 (by decide) q527 (fun _ h => h) dX1_wholesFrom_74 (zval_r kf_1_9) ?_
        refine lv_iload_n (pc := 77) K.x K.b dX1_wholesFrom_77 rfl (lv_at hl 2 rfl) ?_
        have hg17 : tg σ13 (σ13 a0 9 0) = 3 := (z_tg (t := 1) (r := 3) hw12 hg16 ⟨by decide, by decide⟩ kf_1_9 kn_1_9 kt_1_9 (by decide) (by decide))
        refine zr_i (pc := 78) (maxL := 2) K hw12 (met_X3_stateOf X l σ13 (σ13 a0 9 0) v2 hg17 hv2 _ h) (i_V (n := 1) (t := 3) (As := [jI v2]) K hw12 (ob hg17) zq3 (by decide) q1015 q1016 q1017 (sg_of K q1018) rfl rfl dX1_wholesFrom_78) (locw K q1018 q94) (zr_ok2 (by omega) (by omega)) hl.1 dX1_wholesFrom_78 (Nat.le_of_ble_eq_true rfl) ⟨Nat.le_refl _, Nat.le_refl _⟩ (fun r18 _ _ hr19 h hw22 => ?_)
        refine z_ishl (pc := 81) K dX1_wholesFrom_81 ?_
        refine z_ior (pc := 82) K dX1_wholesFrom_82 ?_
        refine z_iast (pc := 83) (t := 1) K hw22 hg16 ⟨by decide, by decide⟩ kf_1_21 kl_1_21 hj3 (by decide) (rng_toInt _) dX1_wholesFrom_83 (fun _ _ hw23 => ?_)
        obtain ⟨σ24, e25⟩ : ∃ z, z = st σ13 a0 21 v2 (zor (σ13 a0 21 v2) (zshl 1 r18)) := ⟨_, rfl⟩
        have h := h σ24 e25
        have hw23 := wc_e e25 hw23
        have hk26 := kp_e e25 hk15 wo_X1_wholesFrom hj3.1 hg16 (t := 1) (by decide)
        have hg27 : tg σ24 a0 = 1 := (tg_e e25 (by decide)).trans hg16
        refine z_iinc (pc := 84) (k := 2) (lv' := [(2, jI (v2 + 1)), (0, jR X a0), (1, jI x1)]) K dX1_wholesFrom_84 hl rfl (by decide) rfl (fun ls hl => ?_)
        refine z_goto (pc := 87) (tgt := 13) K dX1_wholesFrom_87 (by decide) ?_
        obtain ⟨hr28, h⟩ := h
        exact ih σ24 (v2 + 1) _ _ _ h hw23 hk26 hg27 hr28 (lv_sub hl [1, 2, 0] rfl)
    · have h := ite_f h hc1
      refine z_iconst (pc := 90) K dX1_wholesFrom_90 ?_
      exact z_iret (pc := 91) K hw ⟨by decide, by decide⟩ ⟨hk, h⟩ dX1_wholesFrom_91
set_option maxHeartbeats 4000000 in
theorem mb_X1_wholesFrom (X : Cxt) (l : Launch) (nr : Nat) (Rc : Nat → St → Int → Int → (Int → St → Prop) → Prop) (hRc0 : ∀ (σ : St) (a0 : Int) (x1 : Int) (ht0 : tg σ a0 = 1) (hx1 : rng x1) (Q : Int → St → Prop), Rc 0 σ a0 x1 Q → MetT l yX1_wholesFrom (ws_ yX1_wholesFrom cX1_wholesFrom 5 (some .int)) (zrm (4 + nr) 0 0) (ZP X σ [jR X a0, jI x1]) (ZQ X (qI (fun r σ' => Kp ws_X1_wholesFrom σ σ' ∧ Q r σ')) (fun _ _ => False)) 0 0 (zA X)) (σ : St) (a0 : Int) (x1 : Int) (ht0 : tg σ a0 = 1) (hx1 : rng x1) (Q : Int → St → Prop) (h : bd_X1_wholesFrom Rc σ a0 x1 Q) : MetT l yX1_wholesFrom (ws_ yX1_wholesFrom cX1_wholesFrom 5 (some .int)) (zrm (4 + nr + 1) 0 0) (ZP X σ [jR X a0, jI x1]) (ZQ X (qI (fun r σ' => Kp ws_X1_wholesFrom σ σ' ∧ Q r σ')) (fun _ _ => False)) 0 0 (zA X) := by
  refine z_start (own := "CombTable") (lv := [(0, jR X a0), (1, jI x1)]) (by decide) rfl (by simp [lv_args, jR_cat, jI_cat, jL_cat]) (by simp [lg_sl, jR_cat, jI_cat, jL_cat]) (fun p e s m below meth c ls K _ _ hw hl => ?_)
  have hk : Kp ws_X1_wholesFrom σ σ := kp_rf σ
  refine lv_iload_n (pc := 0) K.x K.b dX1_wholesFrom_0 rfl (lv_at hl 1 rfl) ?_
  refine z_aload_n (pc := 1) K dX1_wholesFrom_1 rfl (lv_at hl 0 rfl) ?_
  refine z_get (pc := 2) (t := 1) (k := 13) K hw (ob ht0) zq1 (by decide) q531 (fun _ h => h) dX1_wholesFrom_2 (zval_r kf_1_13) ?_
  have hg1 : tg σ (σ a0 13 0) = 5 := (z_tg (t := 1) (r := 5) hw ht0 ⟨by decide, by decide⟩ kf_1_13 kn_1_13 kt_1_13 (by decide) (by decide))
  refine z_getN (pc := 5) (t := 5) (k := 2) K hw (ob hg1) zq5 (by decide) q361 (fun _ h => h) dX1_wholesFrom_5 (zval_i kf_5_2) ?_
  refine z_icmp_ne (pc := 8) (tgt := 92) K hx1 (z_rI hw (ob (t := 5) hg1) kf_5_2) dX1_wholesFrom_8 (by decide) (fun hc2 => ?_) (fun hc2 => ?_)
  · have h := ite_t h hc2
    refine z_iconst (pc := 11) K dX1_wholesFrom_11 ?_
    refine lv_istore_n (pc := 12) (lv' := [(2, jI 0), (0, jR X a0), (1, jI x1)]) K.x K.b dX1_wholesFrom_12 rfl hl (by decide) rfl (fun ls hl => ?_)
    obtain ⟨n3, h⟩ := h
    exact wk_X1_wholesFrom_13 a0 x1 Q σ Rc K hx1 nr hRc0 n3 σ 0 _ _ _ h hw hk ht0 ⟨by decide, by decide⟩ (lv_sub hl [1, 2, 0] rfl)
  · have h := ite_f h hc2
    refine z_iconst (pc := 92) K dX1_wholesFrom_92 ?_
    refine lv_istore_n (pc := 93) (lv' := [(2, jI 0), (0, jR X a0), (1, jI x1)]) K.x K.b dX1_wholesFrom_93 rfl hl (by decide) rfl (fun ls hl => ?_)
    refine z_iconst (pc := 94) K dX1_wholesFrom_94 ?_
    refine lv_istore_n (pc := 95) (lv' := [(3, jI 0), (2, jI 0), (0, jR X a0), (1, jI x1)]) K.x K.b dX1_wholesFrom_95 rfl hl (by decide) rfl (fun ls hl => ?_)
    obtain ⟨n4, h⟩ := h
    exact wk_X1_wholesFrom_96 a0 x1 Q σ Rc K hx1 nr hRc0 n4 σ 0 0 _ _ _ h hw hk ht0 ⟨by decide, by decide⟩ ⟨by decide, by decide⟩ (lv_sub hl [2, 3, 1, 0] rfl)
theorem mg_X1_wholesFrom (X : Cxt) (l : Launch) : ∀ n : Nat, (∀ (σ : St) (a0 : Int) (x1 : Int) (ht0 : tg σ a0 = 1) (hx1 : rng x1) (Q : Int → St → Prop), wg_X1_wholesFrom n 0 σ a0 x1 Q → MetT l yX1_wholesFrom (ws_ yX1_wholesFrom cX1_wholesFrom 5 (some .int)) (zrm (4 + n) 0 0) (ZP X σ [jR X a0, jI x1]) (ZQ X (qI (fun r σ' => Kp ws_X1_wholesFrom σ σ' ∧ Q r σ')) (fun _ _ => False)) 0 0 (zA X)) := by
  intro n
  induction n with
  | zero => exact fun σ a0 x1 ht0 hx1 Q h => h.elim
  | succ n ih => exact fun σ a0 x1 ht0 hx1 Q h => mb_X1_wholesFrom X l n (wg_X1_wholesFrom n) ih σ a0 x1 ht0 hx1 Q h
theorem met_X1_wholesFrom (X : Cxt) (l : Launch) (n : Nat) (σ : St) (a0 : Int) (x1 : Int) (ht0 : tg σ a0 = 1) (hx1 : rng x1) (Q : Int → St → Prop) (h : wg_X1_wholesFrom n 0 σ a0 x1 Q) : MetT l yX1_wholesFrom (ws_ yX1_wholesFrom cX1_wholesFrom 5 (some .int)) (zrm (4 + n) 0 0) (ZP X σ [jR X a0, jI x1]) (ZQ X (qI (fun r σ' => Kp ws_X1_wholesFrom σ σ' ∧ Q r σ')) (fun _ _ => False)) 0 0 (zA X) := (mg_X1_wholesFrom X l n) σ a0 x1 ht0 hx1 Q h
def ws_X3_begin : List (Int × Nat) := [(3, 0), (3, 8), (3, 9)]
theorem wo_X3_begin : wsOk ws_X3_begin = true := rfl
def wp_X3_begin (σ : St) (a0 : Int) (o1 : Int) (Q : St → Prop) : Prop :=
  ∀ σ2 : St, σ2 = st σ a0 0 0 o1 → ∀ σ8 : St, σ8 = st σ2 a0 8 0 0 → ∀ σ14 : St, σ14 = st σ8 a0 9 0 0 → Q σ14
set_option maxHeartbeats 4000000 in
theorem met_X3_begin (X : Cxt) (l : Launch) (σ : St) (a0 : Int) (o1 : Int) (ht0 : tg σ a0 = 3) (ht1 : tg σ o1 = 4) (Q : St → Prop) (h : wp_X3_begin σ a0 o1 Q) : MetT l yX3_begin (ws_ yX3_begin cX3_begin 2 (none)) (zrm 1 0 0) (ZP X σ [jR X a0, jR X o1]) (ZQ X (qV (fun σ' => Kp ws_X3_begin σ σ' ∧ Q σ')) (fun _ _ => False)) 0 0 (zA X) := by
  refine z_start (own := "CombTable$Talk") (lv := [(0, jR X a0), (1, jR X o1)]) (by decide) rfl (by simp [lv_args, jR_cat, jI_cat, jL_cat]) (by simp [lg_sl, jR_cat, jI_cat, jL_cat]) (fun p e s m below meth c ls K _ _ hw hl => ?_)
  have hk : Kp ws_X3_begin σ σ := kp_rf σ
  refine z_aload_n (pc := 0) K dX3_begin_0 rfl (lv_at hl 0 rfl) ?_
  refine z_aload_n (pc := 1) K dX3_begin_1 rfl (lv_at hl 1 rfl) ?_
  refine z_putr (pc := 2) (t := 3) 0 K hw (ob ht0) zq3 (by decide) kf_3_0 zt_3_0 (Or.inr (tg_okR (r := 4) (by decide) (by decide) ht1)) q299 (fun _ h => h) rfl dX3_begin_2 (fun _ _ hw1 => ?_)
  obtain ⟨σ2, e3⟩ : ∃ z, z = st σ a0 0 0 o1 := ⟨_, rfl⟩
  have h := h σ2 e3
  have hw1 := wc_e e3 hw1
  have hk4 := kp_e e3 hk wo_X3_begin (by decide) ht0 (t := 3) (by decide)
  have hg5 : tg σ2 a0 = 3 := (tg_e e3 (by decide)).trans ht0
  have hg6 : tg σ2 o1 = 4 := (tg_e e3 (by decide)).trans ht1
  refine z_aload_n (pc := 5) K dX3_begin_5 rfl (lv_at hl 0 rfl) ?_
  refine z_iconst (pc := 6) K dX3_begin_6 ?_
  refine z_puti (pc := 7) (t := 3) 8 K hw1 (ob hg5) zq3 (by decide) kf_3_8 zt_3_8 ⟨by decide, by decide⟩ q321 (fun _ h => h) rfl dX3_begin_7 (fun _ _ hw7 => ?_)
  obtain ⟨σ8, e9⟩ : ∃ z, z = st σ2 a0 8 0 0 := ⟨_, rfl⟩
  have h := h σ8 e9
  have hw7 := wc_e e9 hw7
  have hk10 := kp_e e9 hk4 wo_X3_begin (by decide) hg5 (t := 3) (by decide)
  have hg11 : tg σ8 a0 = 3 := (tg_e e9 (by decide)).trans hg5
  have hg12 : tg σ8 o1 = 4 := (tg_e e9 (by decide)).trans hg6
  refine z_aload_n (pc := 10) K dX3_begin_10 rfl (lv_at hl 0 rfl) ?_
  refine z_iconst (pc := 11) K dX3_begin_11 ?_
  refine z_puti (pc := 12) (t := 3) 9 K hw7 (ob hg11) zq3 (by decide) kf_3_9 zt_3_9 ⟨by decide, by decide⟩ q324 (fun _ h => h) rfl dX3_begin_12 (fun _ _ hw13 => ?_)
  obtain ⟨σ14, e15⟩ : ∃ z, z = st σ8 a0 9 0 0 := ⟨_, rfl⟩
  have h := h σ14 e15
  have hw13 := wc_e e15 hw13
  have hk16 := kp_e e15 hk10 wo_X3_begin (by decide) hg11 (t := 3) (by decide)
  have hg17 : tg σ14 a0 = 3 := (tg_e e15 (by decide)).trans hg11
  have hg18 : tg σ14 o1 = 4 := (tg_e e15 (by decide)).trans hg12
  exact z_vret (pc := 15) K hw13 ⟨hk16, h⟩ dX3_begin_15
def ws_X1_wholesNow : List (Int × Nat) := [(1, 19), (1, 20), (1, 21), (3, 0), (3, 1), (3, 2), (3, 3), (3, 4), (3, 5), (3, 6), (3, 7), (3, 8), (3, 9)]
theorem wo_X1_wholesNow : wsOk ws_X1_wholesNow = true := rfl
def wp_X1_wholesNow (σ : St) (a0 : Int) (Q : Int → St → Prop) : Prop :=
  wp_X3_begin σ (σ a0 9 0) (σ (σ a0 8 0) 0 0) (fun σ7 => Kp ws_X3_begin σ σ7 → wg_X1_wholesFrom 64 0 σ7 a0 0 (fun r12 σ15 => Kp ws_X1_wholesFrom σ7 σ15 → Q r12 σ15))
set_option maxHeartbeats 4000000 in
theorem met_X1_wholesNow (X : Cxt) (l : Launch) (σ : St) (a0 : Int) (ht0 : tg σ a0 = 1) (Q : Int → St → Prop) (h : wp_X1_wholesNow σ a0 Q) : MetT l yX1_wholesNow (ws_ yX1_wholesNow cX1_wholesNow 1 (some .int)) (zrm 69 0 0) (ZP X σ [jR X a0]) (ZQ X (qI (fun r σ' => Kp ws_X1_wholesNow σ σ' ∧ Q r σ')) (fun _ _ => False)) 0 0 (zA X) := by
  refine z_start (own := "CombTable") (lv := [(0, jR X a0)]) (by decide) rfl (by simp [lv_args, jR_cat, jI_cat, jL_cat]) (by simp [lg_sl, jR_cat, jI_cat, jL_cat]) (fun p e s m below meth c ls K _ _ hw hl => ?_)
  have hk : Kp ws_X1_wholesNow σ σ := kp_rf σ
  refine z_aload_n (pc := 0) K dX1_wholesNow_0 rfl (lv_at hl 0 rfl) ?_
  refine z_get (pc := 1) (t := 1) (k := 9) K hw (ob ht0) zq1 (by decide) q527 (fun _ h => h) dX1_wholesNow_1 (zval_r kf_1_9) ?_
  refine z_aload_n (pc := 4) K dX1_wholesNow_4 rfl (lv_at hl 0 rfl) ?_
  refine z_get (pc := 5) (t := 1) (k := 8) K hw (ob ht0) zq1 (by decide) q524 (fun _ h => h) dX1_wholesNow_5 (zval_r kf_1_8) ?_
  have hg1 : tg σ (σ a0 8 0) = 3 := (z_tg (t := 1) (r := 3) hw ht0 ⟨by decide, by decide⟩ kf_1_8 kn_1_8 kt_1_8 (by decide) (by decide))
  refine z_getN (pc := 8) (t := 3) (k := 0) K hw (ob hg1) zq3 (by decide) q303 (fun _ h => h) dX1_wholesNow_8 (zval_r kf_3_0) ?_
  have hg2 : tg σ (σ a0 9 0) = 3 := (z_tg (t := 1) (r := 3) hw ht0 ⟨by decide, by decide⟩ kf_1_9 kn_1_9 kt_1_9 (by decide) (by decide))
  have hg3 : tg σ (σ (σ a0 8 0) 0 0) = 4 := (z_tg (t := 3) (r := 4) hw hg1 ⟨by decide, by decide⟩ kf_3_0 kn_3_0 kt_3_0 (by decide) (by decide))
  refine zc_v (pc := 11) (maxL := 2) K hw (met_X3_begin X l σ (σ a0 9 0) (σ (σ a0 8 0) 0 0) hg2 hg3 _ h) (i_V (n := 1) (t := 3) (As := [jR X (σ (σ a0 8 0) 0 0)]) K hw (ob hg2) zq3 (by decide) q886 q887 q888 (sg_of K q889) rfl rfl dX1_wholesNow_11) (locw K q889 q94) ⟨by decide, by decide⟩ hl.1 dX1_wholesNow_11 (Nat.le_of_ble_eq_true rfl) ⟨Nat.le_refl _, Nat.le_refl _⟩ (fun σ7 _ _ hq6 hw8 => ?_)
  obtain ⟨hk9, h⟩ := hq6
  have h := h hk9
  have hk10 := kp_trans wo_X1_wholesNow hk hk9 (fun _ q => q) (by decide)
  have hg11 : tg σ7 a0 = 1 := kp_tg hk9 wo_X3_begin ht0 (by decide)
  refine z_aload_n (pc := 14) K dX1_wholesNow_14 rfl (lv_at hl 0 rfl) ?_
  refine z_iconst (pc := 15) K dX1_wholesNow_15 ?_
  refine zc_i (pc := 16) (maxL := 5) K hw8 (met_X1_wholesFrom X l 64 σ7 a0 0 hg11 ⟨by decide, by decide⟩ _ h) (i_V (n := 1) (t := 1) (As := [jI 0]) K hw8 (ob hg11) zq1 (by decide) q1093 q1095 qs11 (sg_of K q1096) rfl rfl dX1_wholesNow_16) (locw K q1096 q90) ⟨by decide, by decide⟩ hl.1 dX1_wholesNow_16 (Nat.le_of_ble_eq_true rfl) ⟨Nat.le_refl _, Nat.le_refl _⟩ (fun r12 σ15 _ _ hr13 hq14 hw16 => ?_)
  obtain ⟨hk17, h⟩ := hq14
  have h := h hk17
  have hk18 := kp_trans wo_X1_wholesNow hk10 hk17 (fun _ q => q) (by decide)
  have hg19 : tg σ15 a0 = 1 := kp_tg hk17 wo_X1_wholesFrom hg11 (by decide)
  exact z_iret (pc := 19) K hw16 hr13 ⟨hk18, h⟩ dX1_wholesNow_19
def ws_X5_be : List (Int × Nat) := [(5, 0), (5, 1), (5, 2)]
theorem wo_X5_be : wsOk ws_X5_be = true := rfl
def wp_X5_be (σ : St) (a0 : Int) (o1 : Int) (Q : St → Prop) : Prop :=
  ∀ σ2 : St, σ2 = cpy σ o1 0 a0 0 24 → ∀ σ9 : St, σ9 = cpy σ2 o1 1 a0 1 24 → ∀ σ16 : St, σ16 = st σ9 a0 2 0 (σ9 o1 2 0) → Q σ16
set_option maxHeartbeats 4000000 in
theorem met_X5_be (X : Cxt) (l : Launch) (σ : St) (a0 : Int) (o1 : Int) (ht0 : tg σ a0 = 5) (ht1 : tg σ o1 = 5) (Q : St → Prop) (h : wp_X5_be σ a0 o1 Q) : MetT l yX5_be (ws_ yX5_be cX5_be 2 (none)) (zrm 1 0 0) (ZP X σ [jR X a0, jR X o1]) (ZQ X (qV (fun σ' => Kp ws_X5_be σ σ' ∧ Q σ')) (fun _ _ => False)) 0 0 (zA X) := by
  refine z_start (own := "CombTable$Minutes") (lv := [(0, jR X a0), (1, jR X o1)]) (by decide) rfl (by simp [lv_args, jR_cat, jI_cat, jL_cat]) (by simp [lg_sl, jR_cat, jI_cat, jL_cat]) (fun p e s m below meth c ls K _ _ hw hl => ?_)
  have hk : Kp ws_X5_be σ σ := kp_rf σ
  refine z_aload_n (pc := 0) K dX5_be_0 rfl (lv_at hl 1 rfl) ?_
  refine z_get (pc := 1) (t := 5) (k := 0) K hw (ob ht1) zq5 (by decide) q353 (fun _ h => h) dX5_be_1 (zval_p (κ := 1) kf_5_0) ?_
  refine z_iconst (pc := 4) K dX5_be_4 ?_
  refine z_aload_n (pc := 5) K dX5_be_5 rfl (lv_at hl 0 rfl) ?_
  refine z_get (pc := 6) (t := 5) (k := 0) K hw (ob ht0) zq5 (by decide) q353 (fun _ h => h) dX5_be_6 (zval_p (κ := 1) kf_5_0) ?_
  refine z_iconst (pc := 9) K dX5_be_9 ?_
  refine z_bipush (pc := 10) K dX5_be_10 (by decide) ?_
  refine z_copyi (pc := 12) (t1 := 5) (t2 := 5) K hw ht1 ⟨by decide, by decide⟩ kf_5_0 ht0 ⟨by decide, by decide⟩ kf_5_0 kl_5_0 kl_5_0 ⟨by decide, by decide, by decide⟩ (by decide) q1066 q997 q996 q112 ⟨by decide, by decide⟩ hl.1 (Nat.le_of_ble_eq_true rfl) dX5_be_12 (fun _ _ hw1 => ?_)
  obtain ⟨σ2, e3⟩ : ∃ z, z = cpy σ o1 0 a0 0 24 := ⟨_, rfl⟩
  have h := h σ2 e3
  have hw1 := wc_e e3 hw1
  have hk4 : Kp [(5, 0)] σ σ2 := kp_cpy e3 ht0
  have hk5 := kp_trans wo_X5_be hk hk4 (fun _ q => q) (by decide)
  have hg6 : tg σ2 a0 = 5 := kp_tg hk4 (by decide) ht0 (by decide)
  have hg7 : tg σ2 o1 = 5 := kp_tg hk4 (by decide) ht1 (by decide)
  refine z_aload_n (pc := 15) K dX5_be_15 rfl (lv_at hl 1 rfl) ?_
  refine z_get (pc := 16) (t := 5) (k := 1) K hw1 (ob hg7) zq5 (by decide) q356 (fun _ h => h) dX5_be_16 (zval_p (κ := 1) kf_5_1) ?_
  refine z_iconst (pc := 19) K dX5_be_19 ?_
  refine z_aload_n (pc := 20) K dX5_be_20 rfl (lv_at hl 0 rfl) ?_
  refine z_get (pc := 21) (t := 5) (k := 1) K hw1 (ob hg6) zq5 (by decide) q356 (fun _ h => h) dX5_be_21 (zval_p (κ := 1) kf_5_1) ?_
  refine z_iconst (pc := 24) K dX5_be_24 ?_
  refine z_bipush (pc := 25) K dX5_be_25 (by decide) ?_
  refine z_copyi (pc := 27) (t1 := 5) (t2 := 5) K hw1 hg7 ⟨by decide, by decide⟩ kf_5_1 hg6 ⟨by decide, by decide⟩ kf_5_1 kl_5_1 kl_5_1 ⟨by decide, by decide, by decide⟩ (by decide) q1066 q997 q996 q112 ⟨by decide, by decide⟩ hl.1 (Nat.le_of_ble_eq_true rfl) dX5_be_27 (fun _ _ hw8 => ?_)
  obtain ⟨σ9, e10⟩ : ∃ z, z = cpy σ2 o1 1 a0 1 24 := ⟨_, rfl⟩
  have h := h σ9 e10
  have hw8 := wc_e e10 hw8
  have hk11 : Kp [(5, 1)] σ2 σ9 := kp_cpy e10 hg6
  have hk12 := kp_trans wo_X5_be hk5 hk11 (fun _ q => q) (by decide)
  have hg13 : tg σ9 a0 = 5 := kp_tg hk11 (by decide) hg6 (by decide)
  have hg14 : tg σ9 o1 = 5 := kp_tg hk11 (by decide) hg7 (by decide)
  refine z_aload_n (pc := 30) K dX5_be_30 rfl (lv_at hl 0 rfl) ?_
  refine z_aload_n (pc := 31) K dX5_be_31 rfl (lv_at hl 1 rfl) ?_
  refine z_get (pc := 32) (t := 5) (k := 2) K hw8 (ob hg14) zq5 (by decide) q360 (fun _ h => h) dX5_be_32 (zval_i kf_5_2) ?_
  refine z_puti (pc := 35) (t := 5) 2 K hw8 (ob hg13) zq5 (by decide) kf_5_2 zt_5_2 (z_rI hw8 (ob (t := 5) hg14) kf_5_2) q360 (fun _ h => h) rfl dX5_be_35 (fun _ _ hw15 => ?_)
  obtain ⟨σ16, e17⟩ : ∃ z, z = st σ9 a0 2 0 (σ9 o1 2 0) := ⟨_, rfl⟩
  have h := h σ16 e17
  have hw15 := wc_e e17 hw15
  have hk18 := kp_e e17 hk12 wo_X5_be (by decide) hg13 (t := 5) (by decide)
  have hg19 : tg σ16 a0 = 5 := (tg_e e17 (by decide)).trans hg13
  have hg20 : tg σ16 o1 = 5 := (tg_e e17 (by decide)).trans hg14
  exact z_vret (pc := 38) K hw15 ⟨hk18, h⟩ dX5_be_38
def ws_X1_hangs : List (Int × Nat) := [(1, 19), (1, 20), (1, 21), (1, 23), (3, 0), (3, 1), (3, 2), (3, 3), (3, 4), (3, 5), (3, 6), (3, 7), (3, 8), (3, 9), (5, 0), (5, 1), (5, 2)]
theorem wo_X1_hangs : wsOk ws_X1_hangs = true := rfl
def lp_X1_hangs_77 (a0 : Int) (Q : Int → St → Prop) (σ0 : St) : Nat → St → Int → Int → Int → Prop
  | 0 => fun _ _ _ _ => False
  | n + 1 => fun σ v1 v2 v3 => 
    Kp ws_X1_hangs σ0 σ → (if v3 < σ (σ a0 11 0) 2 0 then
      (0 ≤ v3 ∧ v3 < 24) ∧ (if σ (σ a0 11 0) 0 v3 = (-1) then
        rng (v3 + 1) ∧ (lp_X1_hangs_77 a0 Q σ0 n σ v1 v2 (v3 + 1))
        else
        (if σ (σ a0 11 0) 1 v3 = (-1) then
          rng (v3 + 1) ∧ (lp_X1_hangs_77 a0 Q σ0 n σ v1 v2 (v3 + 1))
          else
          wp_X5_be σ (σ a0 13 0) (σ a0 11 0) (fun σ12 => Kp ws_X5_be σ σ12 → ∀ σ19 : St, σ19 = st σ12 (σ12 a0 13 0) 0 v3 (-1) → ∀ σ25 : St, σ25 = st σ19 (σ19 a0 13 0) 1 v3 (-1) → wp_X1_wholesNow σ25 a0 (fun r29 σ32 => Kp ws_X1_wholesNow σ25 σ32 → (if v1 < r29 then
            rng (v3 + 1) ∧ (lp_X1_hangs_77 a0 Q σ0 n σ32 v1 (zor v2 (zshl 1 v3)) (v3 + 1))
            else
            rng (v3 + 1) ∧ (lp_X1_hangs_77 a0 Q σ0 n σ32 v1 (zor v2 0) (v3 + 1)))))))
      else
      Q v2 σ)
def wp_X1_hangs (σ : St) (a0 : Int) (Q : Int → St → Prop) : Prop :=
  wp_X1_ways σ a0 (σ a0 11 0) 100000 (fun r2 => rngL ((r2 * (σ (σ (σ a0 8 0) 0 0) 3 0)) * (σ (σ (σ a0 8 0) 0 0) 4 0)) ∧ (if 100000 < (r2 * (σ (σ (σ a0 8 0) 0 0) 3 0)) * (σ (σ (σ a0 8 0) 0 0) 4 0) then
    Q (-2) σ
    else
    ∀ σ12 : St, σ12 = st σ a0 23 0 0 → wp_X5_be σ12 (σ12 a0 13 0) (σ12 a0 11 0) (fun σ21 => Kp ws_X5_be σ12 σ21 → wp_X1_wholesNow σ21 a0 (fun r26 σ29 => Kp ws_X1_wholesNow σ21 σ29 → (if r26 = 0 then
      Q (-1) σ29
      else
      (∃ kk, lp_X1_hangs_77 a0 Q σ kk σ29 r26 0 0))))))
set_option maxHeartbeats 4000000 in
theorem wk_X1_hangs_77 {X : Cxt} {p : Program} {l : Launch} {e : Env} {s : State} {m : MethodId} {args : Array Value} {below : List Frame} {meth : Method} {c : Code} (a0 : Int) (Q : Int → St → Prop) (σ0 : St) (K : MCx X p s m args meth c cX1_hangs 4 "CombTable" (some .int)) : ∀ (n : Nat), ∀ (σ : St) (v1 : Int) (v2 : Int) (v3 : Int) (H : Heap) (locs : List Loc) (ls : Array Slot), lp_X1_hangs_77 a0 Q σ0 n σ v1 v2 v3 → Wc X σ s.heap H locs → Kp ws_X1_hangs σ0 σ → tg σ a0 = 1 → rng v1 → rng v2 → rng v3 → lv_has ls 4 [(0, jR X a0), (1, jI v1), (2, jI v2), (3, jI v3)] → W p l e (zrm 70 0 0) s m args below meth c H locs 0 0 (MQT below (ZQ X (qI (fun r σ' => Kp ws_X1_hangs σ0 σ' ∧ Q r σ')) (fun _ _ => False)) args s 0 0 (zA X)) (F0 m 77 ls []) := by
  intro n
  induction n with
  | zero => intro σ v1 v2 v3 H locs ls h; exact h.elim
  | succ n ih =>
    intro σ v1 v2 v3 H locs ls h hw hk ht0 hv1 hv2 hv3 hl
    have h := h hk
    refine lv_iload_n (pc := 77) K.x K.b dX1_hangs_77 rfl (lv_at hl 3 rfl) ?_
    refine z_aload_n (pc := 78) K dX1_hangs_78 rfl (lv_at hl 0 rfl) ?_
    refine z_get (pc := 79) (t := 1) (k := 11) K hw (ob ht0) zq1 (by decide) q529 (fun _ h => h) dX1_hangs_79 (zval_r kf_1_11) ?_
    have hg1 : tg σ (σ a0 11 0) = 5 := (z_tg (t := 1) (r := 5) hw ht0 ⟨by decide, by decide⟩ kf_1_11 kn_1_11 kt_1_11 (by decide) (by decide))
    refine z_getN (pc := 82) (t := 5) (k := 2) K hw (ob hg1) zq5 (by decide) q361 (fun _ h => h) dX1_hangs_82 (zval_i kf_5_2) ?_
    refine z_icmp_ge (pc := 85) (tgt := 172) K hv3 (z_rI hw (ob (t := 5) hg1) kf_5_2) dX1_hangs_85 (by decide) (fun hc2 => ?_) (fun hc2 => ?_)
    · have h := ite_t h hc2
      refine z_aload_n (pc := 88) K dX1_hangs_88 rfl (lv_at hl 0 rfl) ?_
      refine z_get (pc := 89) (t := 1) (k := 11) K hw (ob ht0) zq1 (by decide) q529 (fun _ h => h) dX1_hangs_89 (zval_r kf_1_11) ?_
      refine z_getN (pc := 92) (t := 5) (k := 0) K hw (ob hg1) zq5 (by decide) q355 (fun _ h => h) dX1_hangs_92 (zval_p (κ := 1) kf_5_0) ?_
      refine lv_iload_n (pc := 95) K.x K.b dX1_hangs_95 rfl (lv_at hl 3 rfl) ?_
      obtain ⟨hj3, h⟩ := h
      refine z_iald (pc := 96) (t := 5) K hw hg1 ⟨by decide, by decide⟩ kf_5_0 kl_5_0 hj3 (by decide) dX1_hangs_96 ?_
      refine z_iconst (pc := 97) K dX1_hangs_97 ?_
      refine z_icmp_eq (pc := 98) (tgt := 166) K (z_elI (t := 5) hw hg1 ⟨by decide, by decide⟩ kf_5_0 kl_5_0 hj3) ⟨by decide, by decide⟩ dX1_hangs_98 (by decide) (fun hc4 => ?_) (fun hc4 => ?_)
      · have h := ite_t h hc4
        refine z_iinc (pc := 166) (k := 3) (lv' := [(3, jI (v3 + 1)), (0, jR X a0), (1, jI v1), (2, jI v2)]) K dX1_hangs_166 hl rfl (by decide) rfl (fun ls hl => ?_)
        refine z_goto (pc := 169) (tgt := 77) K dX1_hangs_169 (by decide) ?_
        obtain ⟨hr5, h⟩ := h
        exact ih σ v1 v2 (v3 + 1) _ _ _ h hw hk ht0 hv1 hv2 hr5 (lv_sub hl [1, 2, 3, 0] rfl)
      · have h := ite_f h hc4
        refine z_aload_n (pc := 101) K dX1_hangs_101 rfl (lv_at hl 0 rfl) ?_
        refine z_get (pc := 102) (t := 1) (k := 11) K hw (ob ht0) zq1 (by decide) q529 (fun _ h => h) dX1_hangs_102 (zval_r kf_1_11) ?_
        refine z_getN (pc := 105) (t := 5) (k := 1) K hw (ob hg1) zq5 (by decide) q358 (fun _ h => h) dX1_hangs_105 (zval_p (κ := 1) kf_5_1) ?_
        refine lv_iload_n (pc := 108) K.x K.b dX1_hangs_108 rfl (lv_at hl 3 rfl) ?_
        refine z_iald (pc := 109) (t := 5) K hw hg1 ⟨by decide, by decide⟩ kf_5_1 kl_5_1 hj3 (by decide) dX1_hangs_109 ?_
        refine z_iconst (pc := 110) K dX1_hangs_110 ?_
        refine z_icmp_ne (pc := 111) (tgt := 117) K (z_elI (t := 5) hw hg1 ⟨by decide, by decide⟩ kf_5_1 kl_5_1 hj3) ⟨by decide, by decide⟩ dX1_hangs_111 (by decide) (fun hc6 => ?_) (fun hc6 => ?_)
        · have h := ite_t h hc6
          refine z_goto (pc := 114) (tgt := 166) K dX1_hangs_114 (by decide) ?_
          refine z_iinc (pc := 166) (k := 3) (lv' := [(3, jI (v3 + 1)), (0, jR X a0), (1, jI v1), (2, jI v2)]) K dX1_hangs_166 hl rfl (by decide) rfl (fun ls hl => ?_)
          refine z_goto (pc := 169) (tgt := 77) K dX1_hangs_169 (by decide) ?_
          obtain ⟨hr7, h⟩ := h
          exact ih σ v1 v2 (v3 + 1) _ _ _ h hw hk ht0 hv1 hv2 hr7 (lv_sub hl [1, 2, 3, 0] rfl)
        · have h := ite_f h hc6
          refine z_aload_n (pc := 117) K dX1_hangs_117 rfl (lv_at hl 0 rfl) ?_
          refine z_get (pc := 118) (t := 1) (k := 13) K hw (ob ht0) zq1 (by decide) q531 (fun _ h => h) dX1_hangs_118 (zval_r kf_1_13) ?_
          refine z_aload_n (pc := 121) K dX1_hangs_121 rfl (lv_at hl 0 rfl) ?_
          refine z_get (pc := 122) (t := 1) (k := 11) K hw (ob ht0) zq1 (by decide) q529 (fun _ h => h) dX1_hangs_122 (zval_r kf_1_11) ?_
          have hg8 : tg σ (σ a0 13 0) = 5 := (z_tg (t := 1) (r := 5) hw ht0 ⟨by decide, by decide⟩ kf_1_13 kn_1_13 kt_1_13 (by decide) (by decide))
          refine zc_v (pc := 125) (maxL := 2) K hw (met_X5_be X l σ (σ a0 13 0) (σ a0 11 0) hg8 hg1 _ h) (i_V (n := 1) (t := 5) (As := [jR X (σ a0 11 0)]) K hw (ob hg8) zq5 (by decide) q1062 q1063 q1064 (sg_of K q1065) rfl rfl dX1_hangs_125) (locw K q1065 q96) ⟨by decide, by decide⟩ hl.1 dX1_hangs_125 (Nat.le_of_ble_eq_true rfl) ⟨Nat.le_refl _, Nat.le_refl _⟩ (fun σ12 _ _ hq11 hw13 => ?_)
          obtain ⟨hk14, h⟩ := hq11
          have h := h hk14
          have hk15 := kp_trans wo_X1_hangs hk hk14 (fun _ q => q) (by decide)
          have hg16 : tg σ12 a0 = 1 := kp_tg hk14 wo_X5_be ht0 (by decide)
          refine z_aload_n (pc := 128) K dX1_hangs_128 rfl (lv_at hl 0 rfl) ?_
          refine z_get (pc := 129) (t := 1) (k := 13) K hw13 (ob hg16) zq1 (by decide) q531 (fun _ h => h) dX1_hangs_129 (zval_r kf_1_13) ?_
          have hg17 : tg σ12 (σ12 a0 13 0) = 5 := (z_tg (t := 1) (r := 5) hw13 hg16 ⟨by decide, by decide⟩ kf_1_13 kn_1_13 kt_1_13 (by decide) (by decide))
          refine z_getN (pc := 132) (t := 5) (k := 0) K hw13 (ob hg17) zq5 (by decide) q355 (fun _ h => h) dX1_hangs_132 (zval_p (κ := 1) kf_5_0) ?_
          refine lv_iload_n (pc := 135) K.x K.b dX1_hangs_135 rfl (lv_at hl 3 rfl) ?_
          refine z_iconst (pc := 136) K dX1_hangs_136 ?_
          refine z_iast (pc := 137) (t := 5) K hw13 hg17 ⟨by decide, by decide⟩ kf_5_0 kl_5_0 hj3 (by decide) ⟨by decide, by decide⟩ dX1_hangs_137 (fun _ _ hw18 => ?_)
          obtain ⟨σ19, e20⟩ : ∃ z, z = st σ12 (σ12 a0 13 0) 0 v3 (-1) := ⟨_, rfl⟩
          have h := h σ19 e20
          have hw18 := wc_e e20 hw18
          have hk21 := kp_e e20 hk15 wo_X1_hangs hj3.1 hg17 (t := 5) (by decide)
          have hg22 : tg σ19 a0 = 1 := (tg_e e20 (by decide)).trans hg16
          refine z_aload_n (pc := 138) K dX1_hangs_138 rfl (lv_at hl 0 rfl) ?_
          refine z_get (pc := 139) (t := 1) (k := 13) K hw18 (ob hg22) zq1 (by decide) q531 (fun _ h => h) dX1_hangs_139 (zval_r kf_1_13) ?_
          have hg23 : tg σ19 (σ19 a0 13 0) = 5 := (z_tg (t := 1) (r := 5) hw18 hg22 ⟨by decide, by decide⟩ kf_1_13 kn_1_13 kt_1_13 (by decide) (by decide))
          refine z_getN (pc := 142) (t := 5) (k := 1) K hw18 (ob hg23) zq5 (by decide) q358 (fun _ h => h) dX1_hangs_142 (zval_p (κ := 1) kf_5_1) ?_
          refine lv_iload_n (pc := 145) K.x K.b dX1_hangs_145 rfl (lv_at hl 3 rfl) ?_
          refine z_iconst (pc := 146) K dX1_hangs_146 ?_
          refine z_iast (pc := 147) (t := 5) K hw18 hg23 ⟨by decide, by decide⟩ kf_5_1 kl_5_1 hj3 (by decide) ⟨by decide, by decide⟩ dX1_hangs_147 (fun _ _ hw24 => ?_)
          obtain ⟨σ25, e26⟩ : ∃ z, z = st σ19 (σ19 a0 13 0) 1 v3 (-1) := ⟨_, rfl⟩
          have h := h σ25 e26
          have hw24 := wc_e e26 hw24
          have hk27 := kp_e e26 hk21 wo_X1_hangs hj3.1 hg23 (t := 5) (by decide)
          have hg28 : tg σ25 a0 = 1 := (tg_e e26 (by decide)).trans hg22
          refine lv_iload_n (pc := 148) K.x K.b dX1_hangs_148 rfl (lv_at hl 2 rfl) ?_
          refine z_aload_n (pc := 149) K dX1_hangs_149 rfl (lv_at hl 0 rfl) ?_
          refine zc_i (pc := 150) (maxL := 1) K hw24 (met_X1_wholesNow X l σ25 a0 hg28 _ h) (i_V (n := 0) (t := 1) (As := []) K hw24 (ob hg28) zq1 (by decide) q1089 q1091 qs10 (sg_of K q1092) rfl rfl dX1_hangs_150) (locw K q1092 q90) ⟨by decide, by decide⟩ hl.1 dX1_hangs_150 (Nat.le_of_ble_eq_true rfl) ⟨Nat.le_refl _, Nat.le_refl _⟩ (fun r29 σ32 _ _ hr30 hq31 hw33 => ?_)
          obtain ⟨hk34, h⟩ := hq31
          have h := h hk34
          have hk35 := kp_trans wo_X1_hangs hk27 hk34 (fun _ q => q) (by decide)
          have hg36 : tg σ32 a0 = 1 := kp_tg hk34 wo_X1_wholesNow hg28 (by decide)
          refine lv_iload_n (pc := 153) K.x K.b dX1_hangs_153 rfl (lv_at hl 1 rfl) ?_
          refine z_icmp_le (pc := 154) (tgt := 163) K hr30 hv1 dX1_hangs_154 (by decide) (fun hc37 => ?_) (fun hc37 => ?_)
          · have h := ite_t h hc37
            refine z_iconst (pc := 157) K dX1_hangs_157 ?_
            refine lv_iload_n (pc := 158) K.x K.b dX1_hangs_158 rfl (lv_at hl 3 rfl) ?_
            refine z_ishl (pc := 159) K dX1_hangs_159 ?_
            refine z_goto (pc := 160) (tgt := 164) K dX1_hangs_160 (by decide) ?_
            refine z_ior (pc := 164) K dX1_hangs_164 ?_
            refine lv_istore_n (pc := 165) (lv' := [(2, jI (zor v2 (zshl 1 v3))), (0, jR X a0), (1, jI v1), (3, jI v3)]) K.x K.b dX1_hangs_165 rfl hl (by decide) rfl (fun ls hl => ?_)
            refine z_iinc (pc := 166) (k := 3) (lv' := [(3, jI (v3 + 1)), (2, jI (zor v2 (zshl 1 v3))), (0, jR X a0), (1, jI v1)]) K dX1_hangs_166 hl rfl (by decide) rfl (fun ls hl => ?_)
            refine z_goto (pc := 169) (tgt := 77) K dX1_hangs_169 (by decide) ?_
            obtain ⟨hr38, h⟩ := h
            exact ih σ32 v1 (zor v2 (zshl 1 v3)) (v3 + 1) _ _ _ h hw33 hk35 hg36 hv1 (rng_toInt _) hr38 (lv_sub hl [2, 3, 1, 0] rfl)
          · have h := ite_f h hc37
            refine z_iconst (pc := 163) K dX1_hangs_163 ?_
            refine z_ior (pc := 164) K dX1_hangs_164 ?_
            refine lv_istore_n (pc := 165) (lv' := [(2, jI (zor v2 0)), (0, jR X a0), (1, jI v1), (3, jI v3)]) K.x K.b dX1_hangs_165 rfl hl (by decide) rfl (fun ls hl => ?_)
            refine z_iinc (pc := 166) (k := 3) (lv' := [(3, jI (v3 + 1)), (2, jI (zor v2 0)), (0, jR X a0), (1, jI v1)]) K dX1_hangs_166 hl rfl (by decide) rfl (fun ls hl => ?_)
            refine z_goto (pc := 169) (tgt := 77) K dX1_hangs_169 (by decide) ?_
            obtain ⟨hr39, h⟩ := h
            exact ih σ32 v1 (zor v2 0) (v3 + 1) _ _ _ h hw33 hk35 hg36 hv1 (rng_toInt _) hr39 (lv_sub hl [2, 3, 1, 0] rfl)
    · have h := ite_f h hc2
      refine lv_iload_n (pc := 172) K.x K.b dX1_hangs_172 rfl (lv_at hl 2 rfl) ?_
      exact z_iret (pc := 173) K hw hv2 ⟨hk, h⟩ dX1_hangs_173
set_option maxHeartbeats 4000000 in
theorem met_X1_hangs (X : Cxt) (l : Launch) (σ : St) (a0 : Int) (ht0 : tg σ a0 = 1) (Q : Int → St → Prop) (h : wp_X1_hangs σ a0 Q) : MetT l yX1_hangs (ws_ yX1_hangs cX1_hangs 4 (some .int)) (zrm 70 0 0) (ZP X σ [jR X a0]) (ZQ X (qI (fun r σ' => Kp ws_X1_hangs σ σ' ∧ Q r σ')) (fun _ _ => False)) 0 0 (zA X) := by
  refine z_start (own := "CombTable") (lv := [(0, jR X a0)]) (by decide) rfl (by simp [lv_args, jR_cat, jI_cat, jL_cat]) (by simp [lg_sl, jR_cat, jI_cat, jL_cat]) (fun p e s m below meth c ls K _ _ hw hl => ?_)
  have hk : Kp ws_X1_hangs σ σ := kp_rf σ
  refine z_aload_n (pc := 0) K dX1_hangs_0 rfl (lv_at hl 0 rfl) ?_
  refine z_aload_n (pc := 1) K dX1_hangs_1 rfl (lv_at hl 0 rfl) ?_
  refine z_get (pc := 2) (t := 1) (k := 11) K hw (ob ht0) zq1 (by decide) q529 (fun _ h => h) dX1_hangs_2 (zval_r kf_1_11) ?_
  refine z_ldcw (pc := 5) (z := 100000) K q1105 (by decide) dX1_hangs_5 ?_
  have hg1 : tg σ (σ a0 11 0) = 5 := (z_tg (t := 1) (r := 5) hw ht0 ⟨by decide, by decide⟩ kf_1_11 kn_1_11 kt_1_11 (by decide) (by decide))
  refine zr_i (pc := 8) (maxL := 6) K hw (met_X1_ways X l σ a0 (σ a0 11 0) 100000 ht0 hg1 ⟨by decide, by decide⟩ _ h) (i_V (n := 2) (t := 1) (As := [jR X (σ a0 11 0), jI 100000]) K hw (ob ht0) zq1 (by decide) q1071 q1073 qs9 (sg_of K q1074) rfl rfl dX1_hangs_8) (locw K q1074 q90) ⟨by decide, by decide⟩ hl.1 dX1_hangs_8 (Nat.le_of_ble_eq_true rfl) ⟨Nat.le_refl _, Nat.le_refl _⟩ (fun r2 _ _ hr3 h hw6 => ?_)
  refine z_i2l (pc := 11) K hr3 dX1_hangs_11 ?_
  refine z_aload_n (pc := 12) K dX1_hangs_12 rfl (lv_at hl 0 rfl) ?_
  refine z_get (pc := 13) (t := 1) (k := 8) K hw6 (ob ht0) zq1 (by decide) q524 (fun _ h => h) dX1_hangs_13 (zval_r kf_1_8) ?_
  have hg7 : tg σ (σ a0 8 0) = 3 := (z_tg (t := 1) (r := 3) hw6 ht0 ⟨by decide, by decide⟩ kf_1_8 kn_1_8 kt_1_8 (by decide) (by decide))
  refine z_getN (pc := 16) (t := 3) (k := 0) K hw6 (ob hg7) zq3 (by decide) q303 (fun _ h => h) dX1_hangs_16 (zval_r kf_3_0) ?_
  have hg8 : tg σ (σ (σ a0 8 0) 0 0) = 4 := (z_tg (t := 3) (r := 4) hw6 hg7 ⟨by decide, by decide⟩ kf_3_0 kn_3_0 kt_3_0 (by decide) (by decide))
  refine z_getN (pc := 19) (t := 4) (k := 3) K hw6 (ob hg8) zq4 (by decide) q261 (fun _ h => h) dX1_hangs_19 (zval_i kf_4_3) ?_
  refine z_i2l (pc := 22) K (z_rI hw6 (ob (t := 4) hg8) kf_4_3) dX1_hangs_22 ?_
  refine z_lmul (pc := 23) K dX1_hangs_23 ?_
  refine z_aload_n (pc := 24) K dX1_hangs_24 rfl (lv_at hl 0 rfl) ?_
  refine z_get (pc := 25) (t := 1) (k := 8) K hw6 (ob ht0) zq1 (by decide) q524 (fun _ h => h) dX1_hangs_25 (zval_r kf_1_8) ?_
  refine z_getN (pc := 28) (t := 3) (k := 0) K hw6 (ob hg7) zq3 (by decide) q303 (fun _ h => h) dX1_hangs_28 (zval_r kf_3_0) ?_
  refine z_getN (pc := 31) (t := 4) (k := 4) K hw6 (ob hg8) zq4 (by decide) q267 (fun _ h => h) dX1_hangs_31 (zval_i kf_4_4) ?_
  refine z_i2l (pc := 34) K (z_rI hw6 (ob (t := 4) hg8) kf_4_4) dX1_hangs_34 ?_
  refine z_lmul (pc := 35) K dX1_hangs_35 ?_
  refine z_ldc2 (pc := 36) (z := 100000) K q1106 (by decide) dX1_hangs_36 ?_
  obtain ⟨hr9, h⟩ := h
  refine z_lcmp (pc := 39) K hr9 ⟨by decide, by decide⟩ dX1_hangs_39 ?_
  refine z_if_le (pc := 40) (tgt := 46) K (rng_zcmp _ _) dX1_hangs_40 (by decide) (fun hc10 => ?_) (fun hc10 => ?_)
  · have hc10 := zcmp_gt.mp hc10
    have h := ite_t h hc10
    refine z_bipush (pc := 43) K dX1_hangs_43 (by decide) ?_
    exact z_iret (pc := 45) K hw6 ⟨by decide, by decide⟩ ⟨hk, h⟩ dX1_hangs_45
  · have hc10 := fun q => hc10 (zcmp_gt.mpr q)
    have h := ite_f h hc10
    refine z_aload_n (pc := 46) K dX1_hangs_46 rfl (lv_at hl 0 rfl) ?_
    refine z_iconst (pc := 47) K dX1_hangs_47 ?_
    refine z_putz (pc := 48) (t := 1) 23 K hw6 (ob ht0) zq1 (by decide) kf_1_23 zt_1_23 ⟨by decide, by decide⟩ q541 (fun _ h => h) rfl dX1_hangs_48 (fun _ _ hw11 => ?_)
    obtain ⟨σ12, e13⟩ : ∃ z, z = st σ a0 23 0 0 := ⟨_, rfl⟩
    have h := h σ12 e13
    have hw11 := wc_e e13 hw11
    have hk14 := kp_e e13 hk wo_X1_hangs (by decide) ht0 (t := 1) (by decide)
    have hg15 : tg σ12 a0 = 1 := (tg_e e13 (by decide)).trans ht0
    refine z_aload_n (pc := 51) K dX1_hangs_51 rfl (lv_at hl 0 rfl) ?_
    refine z_get (pc := 52) (t := 1) (k := 13) K hw11 (ob hg15) zq1 (by decide) q531 (fun _ h => h) dX1_hangs_52 (zval_r kf_1_13) ?_
    refine z_aload_n (pc := 55) K dX1_hangs_55 rfl (lv_at hl 0 rfl) ?_
    refine z_get (pc := 56) (t := 1) (k := 11) K hw11 (ob hg15) zq1 (by decide) q529 (fun _ h => h) dX1_hangs_56 (zval_r kf_1_11) ?_
    have hg16 : tg σ12 (σ12 a0 13 0) = 5 := (z_tg (t := 1) (r := 5) hw11 hg15 ⟨by decide, by decide⟩ kf_1_13 kn_1_13 kt_1_13 (by decide) (by decide))
    have hg17 : tg σ12 (σ12 a0 11 0) = 5 := (z_tg (t := 1) (r := 5) hw11 hg15 ⟨by decide, by decide⟩ kf_1_11 kn_1_11 kt_1_11 (by decide) (by decide))
    refine zc_v (pc := 59) (maxL := 2) K hw11 (met_X5_be X l σ12 (σ12 a0 13 0) (σ12 a0 11 0) hg16 hg17 _ h) (i_V (n := 1) (t := 5) (As := [jR X (σ12 a0 11 0)]) K hw11 (ob hg16) zq5 (by decide) q1062 q1063 q1064 (sg_of K q1065) rfl rfl dX1_hangs_59) (locw K q1065 q96) ⟨by decide, by decide⟩ hl.1 dX1_hangs_59 (Nat.le_of_ble_eq_true rfl) ⟨Nat.le_refl _, Nat.le_refl _⟩ (fun σ21 _ _ hq20 hw22 => ?_)
    obtain ⟨hk23, h⟩ := hq20
    have h := h hk23
    have hk24 := kp_trans wo_X1_hangs hk14 hk23 (fun _ q => q) (by decide)
    have hg25 : tg σ21 a0 = 1 := kp_tg hk23 wo_X5_be hg15 (by decide)
    refine z_aload_n (pc := 62) K dX1_hangs_62 rfl (lv_at hl 0 rfl) ?_
    refine zc_i (pc := 63) (maxL := 1) K hw22 (met_X1_wholesNow X l σ21 a0 hg25 _ h) (i_V (n := 0) (t := 1) (As := []) K hw22 (ob hg25) zq1 (by decide) q1089 q1091 qs10 (sg_of K q1092) rfl rfl dX1_hangs_63) (locw K q1092 q90) ⟨by decide, by decide⟩ hl.1 dX1_hangs_63 (Nat.le_of_ble_eq_true rfl) ⟨Nat.le_refl _, Nat.le_refl _⟩ (fun r26 σ29 _ _ hr27 hq28 hw30 => ?_)
    obtain ⟨hk31, h⟩ := hq28
    have h := h hk31
    have hk32 := kp_trans wo_X1_hangs hk24 hk31 (fun _ q => q) (by decide)
    have hg33 : tg σ29 a0 = 1 := kp_tg hk31 wo_X1_wholesNow hg25 (by decide)
    refine lv_istore_n (pc := 66) (lv' := [(1, jI r26), (0, jR X a0)]) K.x K.b dX1_hangs_66 rfl hl (by decide) (by simp [jR_cat]) (fun ls hl => ?_)
    refine lv_iload_n (pc := 67) K.x K.b dX1_hangs_67 rfl (lv_at hl 0 rfl) ?_
    refine z_if_ne (pc := 68) (tgt := 73) K hr27 dX1_hangs_68 (by decide) (fun hc34 => ?_) (fun hc34 => ?_)
    · have h := ite_t h hc34
      refine z_iconst (pc := 71) K dX1_hangs_71 ?_
      exact z_iret (pc := 72) K hw30 ⟨by decide, by decide⟩ ⟨hk32, h⟩ dX1_hangs_72
    · have h := ite_f h hc34
      refine z_iconst (pc := 73) K dX1_hangs_73 ?_
      refine lv_istore_n (pc := 74) (lv' := [(2, jI 0), (1, jI r26), (0, jR X a0)]) K.x K.b dX1_hangs_74 rfl hl (by decide) rfl (fun ls hl => ?_)
      refine z_iconst (pc := 75) K dX1_hangs_75 ?_
      refine lv_istore_n (pc := 76) (lv' := [(3, jI 0), (2, jI 0), (1, jI r26), (0, jR X a0)]) K.x K.b dX1_hangs_76 rfl hl (by decide) rfl (fun ls hl => ?_)
      obtain ⟨n35, h⟩ := h
      exact wk_X1_hangs_77 a0 Q σ K n35 σ29 r26 0 0 _ _ _ h hw30 hk32 hg33 hr27 ⟨by decide, by decide⟩ ⟨by decide, by decide⟩ (lv_sub hl [3, 2, 1, 0] rfl)
def ws_X1_isTalk : List (Int × Nat) := [(3, 0), (3, 1), (3, 2), (3, 3), (3, 4), (3, 5), (3, 6), (3, 7), (3, 8), (3, 9)]
theorem wo_X1_isTalk : wsOk ws_X1_isTalk = true := rfl
def lp_X1_isTalk_16 (a0 : Int) (x1 : Int) (Q : Int → St → Prop) (σ0 : St) : Nat → St → Int → Prop
  | 0 => fun _ _ => False
  | n + 1 => fun σ v2 => 
    Kp ws_X1_isTalk σ0 σ → (if v2 < σ (σ a0 11 0) 2 0 then
      wp_X1_has σ x1 v2 (fun r3 => (if r3 = 0 then
        (0 ≤ v2 ∧ v2 < 24) ∧ wp_X3_tries σ (σ a0 9 0) (σ (σ a0 11 0) 0 v2) (σ (σ a0 11 0) 1 v2) (fun r11 σ14 => Kp ws_X3_tries σ σ14 → (if 0 < r11 then
          Q 0 σ14
          else
          rng (v2 + 1) ∧ (lp_X1_isTalk_16 a0 x1 Q σ0 n σ14 (v2 + 1))))
        else
        rng (v2 + 1) ∧ (lp_X1_isTalk_16 a0 x1 Q σ0 n σ (v2 + 1))))
      else
      Q 1 σ)
def wp_X1_isTalk (σ : St) (a0 : Int) (x1 : Int) (Q : Int → St → Prop) : Prop :=
  wp_X3_begin σ (σ a0 9 0) (σ (σ a0 8 0) 0 0) (fun σ7 => Kp ws_X3_begin σ σ7 → (∃ kk, lp_X1_isTalk_16 a0 x1 Q σ kk σ7 0))
set_option maxHeartbeats 4000000 in
theorem wk_X1_isTalk_16 {X : Cxt} {p : Program} {l : Launch} {e : Env} {s : State} {m : MethodId} {args : Array Value} {below : List Frame} {meth : Method} {c : Code} (a0 : Int) (x1 : Int) (Q : Int → St → Prop) (σ0 : St) (K : MCx X p s m args meth c cX1_isTalk 3 "CombTable" (some .boolean)) (hx1 : rng x1) : ∀ (n : Nat), ∀ (σ : St) (v2 : Int) (H : Heap) (locs : List Loc) (ls : Array Slot), lp_X1_isTalk_16 a0 x1 Q σ0 n σ v2 → Wc X σ s.heap H locs → Kp ws_X1_isTalk σ0 σ → tg σ a0 = 1 → rng v2 → lv_has ls 3 [(0, jR X a0), (1, jI x1), (2, jI v2)] → W p l e (zrm 5 0 0) s m args below meth c H locs 0 0 (MQT below (ZQ X (qZ (fun r σ' => Kp ws_X1_isTalk σ0 σ' ∧ Q r σ')) (fun _ _ => False)) args s 0 0 (zA X)) (F0 m 16 ls []) := by
  intro n
  induction n with
  | zero => intro σ v2 H locs ls h; exact h.elim
  | succ n ih =>
    intro σ v2 H locs ls h hw hk ht0 hv2 hl
    have h := h hk
    refine lv_iload_n (pc := 16) K.x K.b dX1_isTalk_16 rfl (lv_at hl 2 rfl) ?_
    refine z_aload_n (pc := 17) K dX1_isTalk_17 rfl (lv_at hl 0 rfl) ?_
    refine z_get (pc := 18) (t := 1) (k := 11) K hw (ob ht0) zq1 (by decide) q529 (fun _ h => h) dX1_isTalk_18 (zval_r kf_1_11) ?_
    have hg1 : tg σ (σ a0 11 0) = 5 := (z_tg (t := 1) (r := 5) hw ht0 ⟨by decide, by decide⟩ kf_1_11 kn_1_11 kt_1_11 (by decide) (by decide))
    refine z_getN (pc := 21) (t := 5) (k := 2) K hw (ob hg1) zq5 (by decide) q361 (fun _ h => h) dX1_isTalk_21 (zval_i kf_5_2) ?_
    refine z_icmp_ge (pc := 24) (tgt := 71) K hv2 (z_rI hw (ob (t := 5) hg1) kf_5_2) dX1_isTalk_24 (by decide) (fun hc2 => ?_) (fun hc2 => ?_)
    · have h := ite_t h hc2
      refine lv_iload_n (pc := 27) K.x K.b dX1_isTalk_27 rfl (lv_at hl 1 rfl) ?_
      refine lv_iload_n (pc := 28) K.x K.b dX1_isTalk_28 rfl (lv_at hl 2 rfl) ?_
      refine zr_z (pc := 29) (maxL := 2) K hw (met_X1_has X l σ x1 v2 hx1 hv2 _ h) (i_S (n := 2) (As := [jI x1, jI v2]) K (by decide) q1125 q866 q90 (sg_of K q867) rfl rfl dX1_isTalk_29) (locw K q867 q90) ⟨by decide, by decide⟩ hl.1 dX1_isTalk_29 (Nat.le_of_ble_eq_true rfl) ⟨Nat.le_refl _, Nat.le_refl _⟩ (fun r3 _ _ hr4 h hw7 => ?_)
      refine z_if_ne (pc := 32) (tgt := 65) K (b01r hr4) dX1_isTalk_32 (by decide) (fun hc8 => ?_) (fun hc8 => ?_)
      · have h := ite_t h hc8
        refine z_aload_n (pc := 35) K dX1_isTalk_35 rfl (lv_at hl 0 rfl) ?_
        refine z_get (pc := 36) (t := 1) (k := 9) K hw7 (ob ht0) zq1 (by decide) q527 (fun _ h => h) dX1_isTalk_36 (zval_r kf_1_9) ?_
        refine z_aload_n (pc := 39) K dX1_isTalk_39 rfl (lv_at hl 0 rfl) ?_
        refine z_get (pc := 40) (t := 1) (k := 11) K hw7 (ob ht0) zq1 (by decide) q529 (fun _ h => h) dX1_isTalk_40 (zval_r kf_1_11) ?_
        refine z_getN (pc := 43) (t := 5) (k := 0) K hw7 (ob hg1) zq5 (by decide) q355 (fun _ h => h) dX1_isTalk_43 (zval_p (κ := 1) kf_5_0) ?_
        refine lv_iload_n (pc := 46) K.x K.b dX1_isTalk_46 rfl (lv_at hl 2 rfl) ?_
        obtain ⟨hj9, h⟩ := h
        refine z_iald (pc := 47) (t := 5) K hw7 hg1 ⟨by decide, by decide⟩ kf_5_0 kl_5_0 hj9 (by decide) dX1_isTalk_47 ?_
        refine z_aload_n (pc := 48) K dX1_isTalk_48 rfl (lv_at hl 0 rfl) ?_
        refine z_get (pc := 49) (t := 1) (k := 11) K hw7 (ob ht0) zq1 (by decide) q529 (fun _ h => h) dX1_isTalk_49 (zval_r kf_1_11) ?_
        refine z_getN (pc := 52) (t := 5) (k := 1) K hw7 (ob hg1) zq5 (by decide) q358 (fun _ h => h) dX1_isTalk_52 (zval_p (κ := 1) kf_5_1) ?_
        refine lv_iload_n (pc := 55) K.x K.b dX1_isTalk_55 rfl (lv_at hl 2 rfl) ?_
        refine z_iald (pc := 56) (t := 5) K hw7 hg1 ⟨by decide, by decide⟩ kf_5_1 kl_5_1 hj9 (by decide) dX1_isTalk_56 ?_
        have hg10 : tg σ (σ a0 9 0) = 3 := (z_tg (t := 1) (r := 3) hw7 ht0 ⟨by decide, by decide⟩ kf_1_9 kn_1_9 kt_1_9 (by decide) (by decide))
        refine zc_i (pc := 57) (maxL := 4) K hw7 (met_X3_tries X l σ (σ a0 9 0) (σ (σ a0 11 0) 0 v2) (σ (σ a0 11 0) 1 v2) hg10 (z_elI (t := 5) hw7 hg1 ⟨by decide, by decide⟩ kf_5_0 kl_5_0 hj9) (z_elI (t := 5) hw7 hg1 ⟨by decide, by decide⟩ kf_5_1 kl_5_1 hj9) _ h) (i_V (n := 2) (t := 3) (As := [jI (σ (σ a0 11 0) 0 v2), jI (σ (σ a0 11 0) 1 v2)]) K hw7 (ob hg10) zq3 (by decide) q911 q912 q913 (sg_of K q914) rfl rfl dX1_isTalk_57) (locw K q914 q94) ⟨by decide, by decide⟩ hl.1 dX1_isTalk_57 (Nat.le_of_ble_eq_true rfl) ⟨Nat.le_refl _, Nat.le_refl _⟩ (fun r11 σ14 _ _ hr12 hq13 hw15 => ?_)
        obtain ⟨hk16, h⟩ := hq13
        have h := h hk16
        have hk17 := kp_trans wo_X1_isTalk hk hk16 (fun _ q => q) (by decide)
        have hg18 : tg σ14 a0 = 1 := kp_tg hk16 wo_X3_tries ht0 (by decide)
        refine z_if_le (pc := 60) (tgt := 65) K hr12 dX1_isTalk_60 (by decide) (fun hc19 => ?_) (fun hc19 => ?_)
        · have h := ite_t h hc19
          refine z_iconst (pc := 63) K dX1_isTalk_63 ?_
          exact z_zret (pc := 64) K hw15 ⟨by decide, by decide⟩ ⟨hk17, h⟩ dX1_isTalk_64
        · have h := ite_f h hc19
          refine z_iinc (pc := 65) (k := 2) (lv' := [(2, jI (v2 + 1)), (0, jR X a0), (1, jI x1)]) K dX1_isTalk_65 hl rfl (by decide) rfl (fun ls hl => ?_)
          refine z_goto (pc := 68) (tgt := 16) K dX1_isTalk_68 (by decide) ?_
          obtain ⟨hr20, h⟩ := h
          exact ih σ14 (v2 + 1) _ _ _ h hw15 hk17 hg18 hr20 (lv_sub hl [1, 2, 0] rfl)
      · have h := ite_f h hc8
        refine z_iinc (pc := 65) (k := 2) (lv' := [(2, jI (v2 + 1)), (0, jR X a0), (1, jI x1)]) K dX1_isTalk_65 hl rfl (by decide) rfl (fun ls hl => ?_)
        refine z_goto (pc := 68) (tgt := 16) K dX1_isTalk_68 (by decide) ?_
        obtain ⟨hr21, h⟩ := h
        exact ih σ (v2 + 1) _ _ _ h hw7 hk ht0 hr21 (lv_sub hl [1, 2, 0] rfl)
    · have h := ite_f h hc2
      refine z_iconst (pc := 71) K dX1_isTalk_71 ?_
      exact z_zret (pc := 72) K hw ⟨by decide, by decide⟩ ⟨hk, h⟩ dX1_isTalk_72
set_option maxHeartbeats 4000000 in
theorem met_X1_isTalk (X : Cxt) (l : Launch) (σ : St) (a0 : Int) (x1 : Int) (ht0 : tg σ a0 = 1) (hx1 : rng x1) (Q : Int → St → Prop) (h : wp_X1_isTalk σ a0 x1 Q) : MetT l yX1_isTalk (ws_ yX1_isTalk cX1_isTalk 3 (some .boolean)) (zrm 5 0 0) (ZP X σ [jR X a0, jI x1]) (ZQ X (qZ (fun r σ' => Kp ws_X1_isTalk σ σ' ∧ Q r σ')) (fun _ _ => False)) 0 0 (zA X) := by
  refine z_start (own := "CombTable") (lv := [(0, jR X a0), (1, jI x1)]) (by decide) rfl (by simp [lv_args, jR_cat, jI_cat, jL_cat]) (by simp [lg_sl, jR_cat, jI_cat, jL_cat]) (fun p e s m below meth c ls K _ _ hw hl => ?_)
  have hk : Kp ws_X1_isTalk σ σ := kp_rf σ
  refine z_aload_n (pc := 0) K dX1_isTalk_0 rfl (lv_at hl 0 rfl) ?_
  refine z_get (pc := 1) (t := 1) (k := 9) K hw (ob ht0) zq1 (by decide) q527 (fun _ h => h) dX1_isTalk_1 (zval_r kf_1_9) ?_
  refine z_aload_n (pc := 4) K dX1_isTalk_4 rfl (lv_at hl 0 rfl) ?_
  refine z_get (pc := 5) (t := 1) (k := 8) K hw (ob ht0) zq1 (by decide) q524 (fun _ h => h) dX1_isTalk_5 (zval_r kf_1_8) ?_
  have hg1 : tg σ (σ a0 8 0) = 3 := (z_tg (t := 1) (r := 3) hw ht0 ⟨by decide, by decide⟩ kf_1_8 kn_1_8 kt_1_8 (by decide) (by decide))
  refine z_getN (pc := 8) (t := 3) (k := 0) K hw (ob hg1) zq3 (by decide) q303 (fun _ h => h) dX1_isTalk_8 (zval_r kf_3_0) ?_
  have hg2 : tg σ (σ a0 9 0) = 3 := (z_tg (t := 1) (r := 3) hw ht0 ⟨by decide, by decide⟩ kf_1_9 kn_1_9 kt_1_9 (by decide) (by decide))
  have hg3 : tg σ (σ (σ a0 8 0) 0 0) = 4 := (z_tg (t := 3) (r := 4) hw hg1 ⟨by decide, by decide⟩ kf_3_0 kn_3_0 kt_3_0 (by decide) (by decide))
  refine zc_v (pc := 11) (maxL := 2) K hw (met_X3_begin X l σ (σ a0 9 0) (σ (σ a0 8 0) 0 0) hg2 hg3 _ h) (i_V (n := 1) (t := 3) (As := [jR X (σ (σ a0 8 0) 0 0)]) K hw (ob hg2) zq3 (by decide) q886 q887 q888 (sg_of K q889) rfl rfl dX1_isTalk_11) (locw K q889 q94) ⟨by decide, by decide⟩ hl.1 dX1_isTalk_11 (Nat.le_of_ble_eq_true rfl) ⟨Nat.le_refl _, Nat.le_refl _⟩ (fun σ7 _ _ hq6 hw8 => ?_)
  obtain ⟨hk9, h⟩ := hq6
  have h := h hk9
  have hk10 := kp_trans wo_X1_isTalk hk hk9 (fun _ q => q) (by decide)
  have hg11 : tg σ7 a0 = 1 := kp_tg hk9 wo_X3_begin ht0 (by decide)
  refine z_iconst (pc := 14) K dX1_isTalk_14 ?_
  refine lv_istore_n (pc := 15) (lv' := [(2, jI 0), (0, jR X a0), (1, jI x1)]) K.x K.b dX1_isTalk_15 rfl hl (by decide) rfl (fun ls hl => ?_)
  obtain ⟨n12, h⟩ := h
  exact wk_X1_isTalk_16 a0 x1 Q σ K hx1 n12 σ7 0 _ _ _ h hw8 hk10 hg11 ⟨by decide, by decide⟩ (lv_sub hl [1, 2, 0] rfl)
def lp_X1_isTold_19 (σ : St) (a0 : Int) (x1 : Int) (Q : Int → Prop) : Nat → Int → Int → Prop
  | 0 => fun _ _ => False
  | n + 1 => fun v2 v3 => 
    (if v3 < σ (σ a0 11 0) 2 0 then
      (if v2 = 0 then
        rng (v3 + 1) ∧ (lp_X1_isTold_19 σ a0 x1 Q n 0 (v3 + 1))
        else
        (0 ≤ v3 ∧ v3 < 24) ∧ (if σ (σ a0 11 0) 0 v3 = (-1) then
          rng (v3 + 1) ∧ (lp_X1_isTold_19 σ a0 x1 Q n 0 (v3 + 1))
          else
          (if σ (σ a0 11 0) 1 v3 = (-1) then
            rng (v3 + 1) ∧ (lp_X1_isTold_19 σ a0 x1 Q n 0 (v3 + 1))
            else
            rng (v3 + 1) ∧ (lp_X1_isTold_19 σ a0 x1 Q n 1 (v3 + 1)))))
      else
      Q v2)
def wp_X1_isTold (σ : St) (a0 : Int) (x1 : Int) (Q : Int → Prop) : Prop :=
  (if σ (σ a0 11 0) 2 0 ≤ x1 then
    (∃ kk, lp_X1_isTold_19 σ a0 x1 Q kk 1 0)
    else
    (∃ kk, lp_X1_isTold_19 σ a0 x1 Q kk 0 0))
set_option maxHeartbeats 4000000 in
theorem wk_X1_isTold_19 {X : Cxt} {p : Program} {l : Launch} {e : Env} {s : State} {m : MethodId} {args : Array Value} {below : List Frame} {meth : Method} {c : Code} (σ : St) (a0 : Int) (x1 : Int) (Q : Int → Prop) (K : MCx X p s m args meth c cX1_isTold 4 "CombTable" (some .boolean)) (hx1 : rng x1) : ∀ (n : Nat), ∀ (v2 : Int) (v3 : Int) (H : Heap) (locs : List Loc) (ls : Array Slot), lp_X1_isTold_19 σ a0 x1 Q n v2 v3 → Wc X σ s.heap H locs → tg σ a0 = 1 → (0 ≤ v2 ∧ v2 ≤ 1) → rng v3 → lv_has ls 4 [(0, jR X a0), (2, jI v2), (3, jI v3)] → W p l e (zrm 1 0 0) s m args below meth c H locs 0 0 (MQT below (ZQ X (qZ (fun r σ' => σ' = σ ∧ Q r)) (fun _ _ => False)) args s 0 0 (zA X)) (F0 m 19 ls []) := by
  intro n
  induction n with
  | zero => intro v2 v3 H locs ls h; exact h.elim
  | succ n ih =>
    intro v2 v3 H locs ls h hw ht0 hv2 hv3 hl
    refine lv_iload_n (pc := 19) K.x K.b dX1_isTold_19 rfl (lv_at hl 2 rfl) ?_
    refine z_aload_n (pc := 20) K dX1_isTold_20 rfl (lv_at hl 0 rfl) ?_
    refine z_get (pc := 21) (t := 1) (k := 11) K hw (ob ht0) zq1 (by decide) q529 (fun _ h => h) dX1_isTold_21 (zval_r kf_1_11) ?_
    have hg1 : tg σ (σ a0 11 0) = 5 := (z_tg (t := 1) (r := 5) hw ht0 ⟨by decide, by decide⟩ kf_1_11 kn_1_11 kt_1_11 (by decide) (by decide))
    refine z_getN (pc := 24) (t := 5) (k := 2) K hw (ob hg1) zq5 (by decide) q361 (fun _ h => h) dX1_isTold_24 (zval_i kf_5_2) ?_
    refine z_icmp_ge (pc := 27) (tgt := 72) K hv3 (z_rI hw (ob (t := 5) hg1) kf_5_2) dX1_isTold_27 (by decide) (fun hc2 => ?_) (fun hc2 => ?_)
    · have h := ite_t h hc2
      refine lv_iload_n (pc := 30) K.x K.b dX1_isTold_30 rfl (lv_at hl 1 rfl) ?_
      refine z_if_eq (pc := 31) (tgt := 64) K (b01r hv2) dX1_isTold_31 (by decide) (fun hc3 => ?_) (fun hc3 => ?_)
      · have h := ite_t h hc3
        refine z_iconst (pc := 64) K dX1_isTold_64 ?_
        refine lv_istore_n (pc := 65) (lv' := [(2, jI 0), (0, jR X a0), (3, jI v3)]) K.x K.b dX1_isTold_65 rfl hl (by decide) rfl (fun ls hl => ?_)
        refine z_iinc (pc := 66) (k := 2) (lv' := [(3, jI (v3 + 1)), (2, jI 0), (0, jR X a0)]) K dX1_isTold_66 hl rfl (by decide) rfl (fun ls hl => ?_)
        refine z_goto (pc := 69) (tgt := 19) K dX1_isTold_69 (by decide) ?_
        obtain ⟨hr4, h⟩ := h
        exact ih 0 (v3 + 1) _ _ _ h hw ht0 ⟨by decide, by decide⟩ hr4 (lv_sub hl [2, 1, 0] rfl)
      · have h := ite_f h hc3
        refine z_aload_n (pc := 34) K dX1_isTold_34 rfl (lv_at hl 0 rfl) ?_
        refine z_get (pc := 35) (t := 1) (k := 11) K hw (ob ht0) zq1 (by decide) q529 (fun _ h => h) dX1_isTold_35 (zval_r kf_1_11) ?_
        refine z_getN (pc := 38) (t := 5) (k := 0) K hw (ob hg1) zq5 (by decide) q355 (fun _ h => h) dX1_isTold_38 (zval_p (κ := 1) kf_5_0) ?_
        refine lv_iload_n (pc := 41) K.x K.b dX1_isTold_41 rfl (lv_at hl 2 rfl) ?_
        obtain ⟨hj5, h⟩ := h
        refine z_iald (pc := 42) (t := 5) K hw hg1 ⟨by decide, by decide⟩ kf_5_0 kl_5_0 hj5 (by decide) dX1_isTold_42 ?_
        refine z_iconst (pc := 43) K dX1_isTold_43 ?_
        refine z_icmp_eq (pc := 44) (tgt := 64) K (z_elI (t := 5) hw hg1 ⟨by decide, by decide⟩ kf_5_0 kl_5_0 hj5) ⟨by decide, by decide⟩ dX1_isTold_44 (by decide) (fun hc6 => ?_) (fun hc6 => ?_)
        · have h := ite_t h hc6
          refine z_iconst (pc := 64) K dX1_isTold_64 ?_
          refine lv_istore_n (pc := 65) (lv' := [(2, jI 0), (0, jR X a0), (3, jI v3)]) K.x K.b dX1_isTold_65 rfl hl (by decide) rfl (fun ls hl => ?_)
          refine z_iinc (pc := 66) (k := 2) (lv' := [(3, jI (v3 + 1)), (2, jI 0), (0, jR X a0)]) K dX1_isTold_66 hl rfl (by decide) rfl (fun ls hl => ?_)
          refine z_goto (pc := 69) (tgt := 19) K dX1_isTold_69 (by decide) ?_
          obtain ⟨hr7, h⟩ := h
          exact ih 0 (v3 + 1) _ _ _ h hw ht0 ⟨by decide, by decide⟩ hr7 (lv_sub hl [2, 1, 0] rfl)
        · have h := ite_f h hc6
          refine z_aload_n (pc := 47) K dX1_isTold_47 rfl (lv_at hl 0 rfl) ?_
          refine z_get (pc := 48) (t := 1) (k := 11) K hw (ob ht0) zq1 (by decide) q529 (fun _ h => h) dX1_isTold_48 (zval_r kf_1_11) ?_
          refine z_getN (pc := 51) (t := 5) (k := 1) K hw (ob hg1) zq5 (by decide) q358 (fun _ h => h) dX1_isTold_51 (zval_p (κ := 1) kf_5_1) ?_
          refine lv_iload_n (pc := 54) K.x K.b dX1_isTold_54 rfl (lv_at hl 2 rfl) ?_
          refine z_iald (pc := 55) (t := 5) K hw hg1 ⟨by decide, by decide⟩ kf_5_1 kl_5_1 hj5 (by decide) dX1_isTold_55 ?_
          refine z_iconst (pc := 56) K dX1_isTold_56 ?_
          refine z_icmp_eq (pc := 57) (tgt := 64) K (z_elI (t := 5) hw hg1 ⟨by decide, by decide⟩ kf_5_1 kl_5_1 hj5) ⟨by decide, by decide⟩ dX1_isTold_57 (by decide) (fun hc8 => ?_) (fun hc8 => ?_)
          · have h := ite_t h hc8
            refine z_iconst (pc := 64) K dX1_isTold_64 ?_
            refine lv_istore_n (pc := 65) (lv' := [(2, jI 0), (0, jR X a0), (3, jI v3)]) K.x K.b dX1_isTold_65 rfl hl (by decide) rfl (fun ls hl => ?_)
            refine z_iinc (pc := 66) (k := 2) (lv' := [(3, jI (v3 + 1)), (2, jI 0), (0, jR X a0)]) K dX1_isTold_66 hl rfl (by decide) rfl (fun ls hl => ?_)
            refine z_goto (pc := 69) (tgt := 19) K dX1_isTold_69 (by decide) ?_
            obtain ⟨hr9, h⟩ := h
            exact ih 0 (v3 + 1) _ _ _ h hw ht0 ⟨by decide, by decide⟩ hr9 (lv_sub hl [2, 1, 0] rfl)
          · have h := ite_f h hc8
            refine z_iconst (pc := 60) K dX1_isTold_60 ?_
            refine z_goto (pc := 61) (tgt := 65) K dX1_isTold_61 (by decide) ?_
            refine lv_istore_n (pc := 65) (lv' := [(2, jI 1), (0, jR X a0), (3, jI v3)]) K.x K.b dX1_isTold_65 rfl hl (by decide) rfl (fun ls hl => ?_)
            refine z_iinc (pc := 66) (k := 2) (lv' := [(3, jI (v3 + 1)), (2, jI 1), (0, jR X a0)]) K dX1_isTold_66 hl rfl (by decide) rfl (fun ls hl => ?_)
            refine z_goto (pc := 69) (tgt := 19) K dX1_isTold_69 (by decide) ?_
            obtain ⟨hr10, h⟩ := h
            exact ih 1 (v3 + 1) _ _ _ h hw ht0 ⟨by decide, by decide⟩ hr10 (lv_sub hl [2, 1, 0] rfl)
    · have h := ite_f h hc2
      refine lv_iload_n (pc := 72) K.x K.b dX1_isTold_72 rfl (lv_at hl 1 rfl) ?_
      exact z_zret (pc := 73) K hw hv2 ⟨rfl, h⟩ dX1_isTold_73
set_option maxHeartbeats 4000000 in
theorem met_X1_isTold (X : Cxt) (l : Launch) (σ : St) (a0 : Int) (x1 : Int) (ht0 : tg σ a0 = 1) (hx1 : rng x1) (Q : Int → Prop) (h : wp_X1_isTold σ a0 x1 Q) : MetT l yX1_isTold (ws_ yX1_isTold cX1_isTold 4 (some .boolean)) (zrm 1 0 0) (ZP X σ [jR X a0, jI x1]) (ZQ X (qZ (fun r σ' => σ' = σ ∧ Q r)) (fun _ _ => False)) 0 0 (zA X) := by
  refine z_start (own := "CombTable") (lv := [(0, jR X a0), (1, jI x1)]) (by decide) rfl (by simp [lv_args, jR_cat, jI_cat, jL_cat]) (by simp [lg_sl, jR_cat, jI_cat, jL_cat]) (fun p e s m below meth c ls K _ _ hw hl => ?_)
  refine z_aload_n (pc := 0) K dX1_isTold_0 rfl (lv_at hl 0 rfl) ?_
  refine z_get (pc := 1) (t := 1) (k := 11) K hw (ob ht0) zq1 (by decide) q529 (fun _ h => h) dX1_isTold_1 (zval_r kf_1_11) ?_
  have hg1 : tg σ (σ a0 11 0) = 5 := (z_tg (t := 1) (r := 5) hw ht0 ⟨by decide, by decide⟩ kf_1_11 kn_1_11 kt_1_11 (by decide) (by decide))
  refine z_getN (pc := 4) (t := 5) (k := 2) K hw (ob hg1) zq5 (by decide) q361 (fun _ h => h) dX1_isTold_4 (zval_i kf_5_2) ?_
  refine lv_iload_n (pc := 7) K.x K.b dX1_isTold_7 rfl (lv_at hl 1 rfl) ?_
  refine z_icmp_gt (pc := 8) (tgt := 15) K (z_rI hw (ob (t := 5) hg1) kf_5_2) hx1 dX1_isTold_8 (by decide) (fun hc2 => ?_) (fun hc2 => ?_)
  · have h := ite_t h hc2
    refine z_iconst (pc := 11) K dX1_isTold_11 ?_
    refine z_goto (pc := 12) (tgt := 16) K dX1_isTold_12 (by decide) ?_
    refine lv_istore_n (pc := 16) (lv' := [(2, jI 1), (0, jR X a0), (1, jI x1)]) K.x K.b dX1_isTold_16 rfl hl (by decide) rfl (fun ls hl => ?_)
    refine z_iconst (pc := 17) K dX1_isTold_17 ?_
    refine lv_istore_n (pc := 18) (lv' := [(3, jI 0), (2, jI 1), (0, jR X a0), (1, jI x1)]) K.x K.b dX1_isTold_18 rfl hl (by decide) rfl (fun ls hl => ?_)
    obtain ⟨n3, h⟩ := h
    exact wk_X1_isTold_19 σ a0 x1 Q K hx1 n3 1 0 _ _ _ h hw ht0 ⟨by decide, by decide⟩ ⟨by decide, by decide⟩ (lv_sub hl [2, 1, 0] rfl)
  · have h := ite_f h hc2
    refine z_iconst (pc := 15) K dX1_isTold_15 ?_
    refine lv_istore_n (pc := 16) (lv' := [(2, jI 0), (0, jR X a0), (1, jI x1)]) K.x K.b dX1_isTold_16 rfl hl (by decide) rfl (fun ls hl => ?_)
    refine z_iconst (pc := 17) K dX1_isTold_17 ?_
    refine lv_istore_n (pc := 18) (lv' := [(3, jI 0), (2, jI 0), (0, jR X a0), (1, jI x1)]) K.x K.b dX1_isTold_18 rfl hl (by decide) rfl (fun ls hl => ?_)
    obtain ⟨n4, h⟩ := h
    exact wk_X1_isTold_19 σ a0 x1 Q K hx1 n4 0 0 _ _ _ h hw ht0 ⟨by decide, by decide⟩ ⟨by decide, by decide⟩ (lv_sub hl [2, 1, 0] rfl)
def wp_X3_isKind (σ : St) (a0 : Int) (x1 : Int) (Q : Int → Prop) : Prop :=
  rng ((σ (σ a0 0 0) 4 0) - 1) ∧ wp_X1_isIn σ x1 0 ((σ (σ a0 0 0) 4 0) - 1) (fun r3 => Q r3)
set_option maxHeartbeats 4000000 in
theorem met_X3_isKind (X : Cxt) (l : Launch) (σ : St) (a0 : Int) (x1 : Int) (ht0 : tg σ a0 = 3) (hx1 : rng x1) (Q : Int → Prop) (h : wp_X3_isKind σ a0 x1 Q) : MetT l yX3_isKind (ws_ yX3_isKind cX3_isKind 2 (some .boolean)) (zrm 2 0 0) (ZP X σ [jR X a0, jI x1]) (ZQ X (qZ (fun r σ' => σ' = σ ∧ Q r)) (fun _ _ => False)) 0 0 (zA X) := by
  refine z_start (own := "CombTable$Talk") (lv := [(0, jR X a0), (1, jI x1)]) (by decide) rfl (by simp [lv_args, jR_cat, jI_cat, jL_cat]) (by simp [lg_sl, jR_cat, jI_cat, jL_cat]) (fun p e s m below meth c ls K _ _ hw hl => ?_)
  refine lv_iload_n (pc := 0) K.x K.b dX3_isKind_0 rfl (lv_at hl 1 rfl) ?_
  refine z_iconst (pc := 1) K dX3_isKind_1 ?_
  refine z_aload_n (pc := 2) K dX3_isKind_2 rfl (lv_at hl 0 rfl) ?_
  refine z_get (pc := 3) (t := 3) (k := 0) K hw (ob ht0) zq3 (by decide) q299 (fun _ h => h) dX3_isKind_3 (zval_r kf_3_0) ?_
  have hg1 : tg σ (σ a0 0 0) = 4 := (z_tg (t := 3) (r := 4) hw ht0 ⟨by decide, by decide⟩ kf_3_0 kn_3_0 kt_3_0 (by decide) (by decide))
  refine z_getN (pc := 6) (t := 4) (k := 4) K hw (ob hg1) zq4 (by decide) q265 (fun _ h => h) dX3_isKind_6 (zval_i kf_4_4) ?_
  refine z_iconst (pc := 9) K dX3_isKind_9 ?_
  refine z_isub (pc := 10) K dX3_isKind_10 ?_
  obtain ⟨hr2, h⟩ := h
  refine zr_z (pc := 11) (maxL := 3) K hw (met_X1_isIn X l σ x1 0 ((σ (σ a0 0 0) 4 0) - 1) hx1 ⟨by decide, by decide⟩ hr2 _ h) (i_SN (n := 3) (As := [jI x1, jI 0, jI ((σ (σ a0 0 0) 4 0) - 1)]) K (by decide) q902 q682 q90 (sg_of K q683) rfl rfl dX3_isKind_11) (locw K q683 q90) ⟨by decide, by decide⟩ hl.1 dX3_isKind_11 (Nat.le_of_ble_eq_true rfl) ⟨Nat.le_refl _, Nat.le_refl _⟩ (fun r3 _ _ hr4 h hw7 => ?_)
  exact z_zret (pc := 14) K hw7 hr4 ⟨rfl, h⟩ dX3_isKind_14
def wp_X3_isWho (σ : St) (a0 : Int) (x1 : Int) (Q : Int → Prop) : Prop :=
  rng ((σ (σ a0 0 0) 3 0) - 1) ∧ wp_X1_isIn σ x1 0 ((σ (σ a0 0 0) 3 0) - 1) (fun r3 => Q r3)
set_option maxHeartbeats 4000000 in
theorem met_X3_isWho (X : Cxt) (l : Launch) (σ : St) (a0 : Int) (x1 : Int) (ht0 : tg σ a0 = 3) (hx1 : rng x1) (Q : Int → Prop) (h : wp_X3_isWho σ a0 x1 Q) : MetT l yX3_isWho (ws_ yX3_isWho cX3_isWho 2 (some .boolean)) (zrm 2 0 0) (ZP X σ [jR X a0, jI x1]) (ZQ X (qZ (fun r σ' => σ' = σ ∧ Q r)) (fun _ _ => False)) 0 0 (zA X) := by
  refine z_start (own := "CombTable$Talk") (lv := [(0, jR X a0), (1, jI x1)]) (by decide) rfl (by simp [lv_args, jR_cat, jI_cat, jL_cat]) (by simp [lg_sl, jR_cat, jI_cat, jL_cat]) (fun p e s m below meth c ls K _ _ hw hl => ?_)
  refine lv_iload_n (pc := 0) K.x K.b dX3_isWho_0 rfl (lv_at hl 1 rfl) ?_
  refine z_iconst (pc := 1) K dX3_isWho_1 ?_
  refine z_aload_n (pc := 2) K dX3_isWho_2 rfl (lv_at hl 0 rfl) ?_
  refine z_get (pc := 3) (t := 3) (k := 0) K hw (ob ht0) zq3 (by decide) q299 (fun _ h => h) dX3_isWho_3 (zval_r kf_3_0) ?_
  have hg1 : tg σ (σ a0 0 0) = 4 := (z_tg (t := 3) (r := 4) hw ht0 ⟨by decide, by decide⟩ kf_3_0 kn_3_0 kt_3_0 (by decide) (by decide))
  refine z_getN (pc := 6) (t := 4) (k := 3) K hw (ob hg1) zq4 (by decide) q259 (fun _ h => h) dX3_isWho_6 (zval_i kf_4_3) ?_
  refine z_iconst (pc := 9) K dX3_isWho_9 ?_
  refine z_isub (pc := 10) K dX3_isWho_10 ?_
  obtain ⟨hr2, h⟩ := h
  refine zr_z (pc := 11) (maxL := 3) K hw (met_X1_isIn X l σ x1 0 ((σ (σ a0 0 0) 3 0) - 1) hx1 ⟨by decide, by decide⟩ hr2 _ h) (i_SN (n := 3) (As := [jI x1, jI 0, jI ((σ (σ a0 0 0) 3 0) - 1)]) K (by decide) q902 q682 q90 (sg_of K q683) rfl rfl dX3_isWho_11) (locw K q683 q90) ⟨by decide, by decide⟩ hl.1 dX3_isWho_11 (Nat.le_of_ble_eq_true rfl) ⟨Nat.le_refl _, Nat.le_refl _⟩ (fun r3 _ _ hr4 h hw7 => ?_)
  exact z_zret (pc := 14) K hw7 hr4 ⟨rfl, h⟩ dX3_isWho_14
def ws_X1_isUnlike : List (Int × Nat) := [(1, 32), (3, 1), (3, 2), (3, 3), (3, 4), (3, 5), (3, 6), (3, 7), (3, 8), (3, 9)]
theorem wo_X1_isUnlike : wsOk ws_X1_isUnlike = true := rfl
def wp_X1_isUnlike_b163 (a0 : Int) (x1 : Int) (x2 : Int) (x3 : Int) (Q : Int → St → Prop) (σ0 : St) (Rc : Nat → St → Int → Int → Int → Int → (Int → St → Prop) → Prop) (σ : St) (s1 : Int) : Prop :=
  ∀ σ2 : St, σ2 = st σ a0 32 0 s1 → Q 1 σ2
def wp_X1_isUnlike_b139 (a0 : Int) (x1 : Int) (x2 : Int) (x3 : Int) (Q : Int → St → Prop) (σ0 : St) (Rc : Nat → St → Int → Int → Int → Int → (Int → St → Prop) → Prop) (σ : St) (v4 : Int) (v5 : Int) (v6 : Int) (s0 : Int) : Prop :=
  wp_X3_say σ s0 v4 v5 (fun σ4 => Kp ws_X3_say σ σ4 → (if v6 = 0 then
    (wp_X1_isUnlike_b163 a0 x1 x2 x3 Q σ0 Rc σ4 (σ4 a0 10 0))
    else
    (wp_X1_isUnlike_b163 a0 x1 x2 x3 Q σ0 Rc σ4 (σ4 a0 9 0))))
def wp_X1_isUnlike_b106 (a0 : Int) (x1 : Int) (x2 : Int) (x3 : Int) (Q : Int → St → Prop) (σ0 : St) (Rc : Nat → St → Int → Int → Int → Int → (Int → St → Prop) → Prop) (L3 : St → Int → Prop) (L12 : St → Int → Int → Prop) (σ : St) (v4 : Int) (v5 : Int) (v6 : Int) (s0 : Int) : Prop :=
  (if x3 = 1 then
    (if v6 = s0 then
      rng (v5 + 1) ∧ (L12 σ v4 (v5 + 1))
      else
      (if v6 = 0 then
        (wp_X1_isUnlike_b139 a0 x1 x2 x3 Q σ0 Rc σ v4 v5 v6 (σ a0 10 0))
        else
        (wp_X1_isUnlike_b139 a0 x1 x2 x3 Q σ0 Rc σ v4 v5 v6 (σ a0 9 0))))
    else
    (if v6 = 0 then
      rng (v5 + 1) ∧ (L12 σ v4 (v5 + 1))
      else
      (if s0 = 0 then
        rng (v5 + 1) ∧ (L12 σ v4 (v5 + 1))
        else
        wp_X3_say σ (σ a0 9 0) v4 v5 (fun σ15 => Kp ws_X3_say σ σ15 → wp_X3_say σ15 (σ15 a0 10 0) v4 v5 (fun σ24 => Kp ws_X3_say σ15 σ24 → rng (x3 - 1) ∧ Rc 0 σ24 a0 x1 x2 (x3 - 1) (fun r30 σ33 => Kp ws_X1_isUnlike σ24 σ33 → (if r30 = 0 then
          wp_X3_undo σ33 (σ33 a0 9 0) (fun σ43 => Kp ws_X3_undo σ33 σ43 → wp_X3_undo σ43 (σ43 a0 10 0) (fun σ52 => Kp ws_X3_undo σ43 σ52 → rng (v5 + 1) ∧ (L12 σ52 v4 (v5 + 1))))
          else
          Q 1 σ33)))))))
def wp_X1_isUnlike_b105 (a0 : Int) (x1 : Int) (x2 : Int) (x3 : Int) (Q : Int → St → Prop) (σ0 : St) (Rc : Nat → St → Int → Int → Int → Int → (Int → St → Prop) → Prop) (L3 : St → Int → Prop) (L12 : St → Int → Int → Prop) (σ : St) (v4 : Int) (v5 : Int) (v6 : Int) : Prop :=
  (wp_X1_isUnlike_b106 a0 x1 x2 x3 Q σ0 Rc L3 L12 σ v4 v5 v6 0)
def wp_X1_isUnlike_b61 (a0 : Int) (x1 : Int) (x2 : Int) (x3 : Int) (Q : Int → St → Prop) (σ0 : St) (Rc : Nat → St → Int → Int → Int → Int → (Int → St → Prop) → Prop) (L3 : St → Int → Prop) (L12 : St → Int → Int → Prop) (σ : St) (v4 : Int) (v5 : Int) (s0 : Int) : Prop :=
  wp_X3_isWho σ (σ a0 10 0) v4 (fun r2 => (if r2 = 0 then
    (wp_X1_isUnlike_b105 a0 x1 x2 x3 Q σ0 Rc L3 L12 σ v4 v5 s0)
    else
    wp_X3_isKind σ (σ a0 10 0) v5 (fun r8 => (if r8 = 0 then
      (wp_X1_isUnlike_b105 a0 x1 x2 x3 Q σ0 Rc L3 L12 σ v4 v5 s0)
      else
      wp_X3_why σ (σ a0 10 0) v4 v5 (fun r14 => (if r14 = 0 then
        (wp_X1_isUnlike_b106 a0 x1 x2 x3 Q σ0 Rc L3 L12 σ v4 v5 s0 1)
        else
        (wp_X1_isUnlike_b105 a0 x1 x2 x3 Q σ0 Rc L3 L12 σ v4 v5 s0)))))))
def wp_X1_isUnlike_b60 (a0 : Int) (x1 : Int) (x2 : Int) (x3 : Int) (Q : Int → St → Prop) (σ0 : St) (Rc : Nat → St → Int → Int → Int → Int → (Int → St → Prop) → Prop) (L3 : St → Int → Prop) (L12 : St → Int → Int → Prop) (σ : St) (v4 : Int) (v5 : Int) : Prop :=
  (wp_X1_isUnlike_b61 a0 x1 x2 x3 Q σ0 Rc L3 L12 σ v4 v5 0)
def lp_X1_isUnlike_12 (a0 : Int) (x1 : Int) (x2 : Int) (x3 : Int) (Q : Int → St → Prop) (σ0 : St) (Rc : Nat → St → Int → Int → Int → Int → (Int → St → Prop) → Prop) (L3 : St → Int → Prop) : Nat → St → Int → Int → Prop
  | 0 => fun _ _ _ => False
  | n + 1 => fun σ v4 v5 => 
    Kp ws_X1_isUnlike σ0 σ → (if v5 < x2 then
      wp_X3_isWho σ (σ a0 9 0) v4 (fun r3 => (if r3 = 0 then
        (wp_X1_isUnlike_b60 a0 x1 x2 x3 Q σ0 Rc L3 (lp_X1_isUnlike_12 a0 x1 x2 x3 Q σ0 Rc L3 n) σ v4 v5)
        else
        wp_X3_isKind σ (σ a0 9 0) v5 (fun r9 => (if r9 = 0 then
          (wp_X1_isUnlike_b60 a0 x1 x2 x3 Q σ0 Rc L3 (lp_X1_isUnlike_12 a0 x1 x2 x3 Q σ0 Rc L3 n) σ v4 v5)
          else
          wp_X3_why σ (σ a0 9 0) v4 v5 (fun r15 => (if r15 = 0 then
            (wp_X1_isUnlike_b61 a0 x1 x2 x3 Q σ0 Rc L3 (lp_X1_isUnlike_12 a0 x1 x2 x3 Q σ0 Rc L3 n) σ v4 v5 1)
            else
            (wp_X1_isUnlike_b60 a0 x1 x2 x3 Q σ0 Rc L3 (lp_X1_isUnlike_12 a0 x1 x2 x3 Q σ0 Rc L3 n) σ v4 v5)))))))
      else
      rng (v4 + 1) ∧ (L3 σ (v4 + 1)))
def lp_X1_isUnlike_3 (a0 : Int) (x1 : Int) (x2 : Int) (x3 : Int) (Q : Int → St → Prop) (σ0 : St) (Rc : Nat → St → Int → Int → Int → Int → (Int → St → Prop) → Prop) : Nat → St → Int → Prop
  | 0 => fun _ _ => False
  | n + 1 => fun σ v4 => 
    Kp ws_X1_isUnlike σ0 σ → (if v4 < x1 then
      (∃ kk, lp_X1_isUnlike_12 a0 x1 x2 x3 Q σ0 Rc (lp_X1_isUnlike_3 a0 x1 x2 x3 Q σ0 Rc n) kk σ v4 0)
      else
      Q 0 σ)
def bd_X1_isUnlike (Rc : Nat → St → Int → Int → Int → Int → (Int → St → Prop) → Prop) (σ : St) (a0 : Int) (x1 : Int) (x2 : Int) (x3 : Int) (Q : Int → St → Prop) : Prop :=
  (∃ kk, lp_X1_isUnlike_3 a0 x1 x2 x3 Q σ Rc kk σ 0)
def wg_X1_isUnlike : Nat → Nat → St → Int → Int → Int → Int → (Int → St → Prop) → Prop
  | 0 => fun _ _ _ _ _ _ _ => False
  | n + 1 => fun i => match i with
    | _ => bd_X1_isUnlike (wg_X1_isUnlike n)
set_option maxHeartbeats 4000000 in
theorem wk_X1_isUnlike_b163 {X : Cxt} {p : Program} {l : Launch} {e : Env} {s : State} {m : MethodId} {args : Array Value} {below : List Frame} {meth : Method} {c : Code} (a0 : Int) (x1 : Int) (x2 : Int) (x3 : Int) (Q : Int → St → Prop) (σ0 : St) (Rc : Nat → St → Int → Int → Int → Int → (Int → St → Prop) → Prop) (K : MCx X p s m args meth c cX1_isUnlike 8 "CombTable" (some .boolean)) (hx1 : rng x1) (hx2 : rng x2) (hx3 : rng x3) (nr : Nat) (hRc0 : ∀ (σ : St) (a0 : Int) (x1 : Int) (x2 : Int) (x3 : Int) (ht0 : tg σ a0 = 1) (hx1 : rng x1) (hx2 : rng x2) (hx3 : rng x3) (Q : Int → St → Prop), Rc 0 σ a0 x1 x2 x3 Q → MetT l yX1_isUnlike (ws_ yX1_isUnlike cX1_isUnlike 8 (some .boolean)) (zrm (3 + nr) 0 0) (ZP X σ [jR X a0, jI x1, jI x2, jI x3]) (ZQ X (qZ (fun r σ' => Kp ws_X1_isUnlike σ σ' ∧ Q r σ')) (fun _ _ => False)) 0 0 (zA X)) : ∀ (σ : St) (s1 : Int) (H : Heap) (locs : List Loc) (ls : Array Slot), wp_X1_isUnlike_b163 a0 x1 x2 x3 Q σ0 Rc σ s1 → Wc X σ s.heap H locs → Kp ws_X1_isUnlike σ0 σ → tg σ a0 = 1 → tg σ s1 = 3 → lv_has ls 8 [] → W p l e (zrm (3 + nr + 1) 0 0) s m args below meth c H locs 0 0 (MQT below (ZQ X (qZ (fun r σ' => Kp ws_X1_isUnlike σ0 σ' ∧ Q r σ')) (fun _ _ => False)) args s 0 0 (zA X)) (F0 m 163 ls [jR X s1, jR X a0]) := by
  intro σ s1 H locs ls h hw hk hts0 hts1 hl
  refine z_putr (pc := 163) (t := 1) 32 K hw (ob hts0) zq1 (by decide) kf_1_32 zt_1_32 (Or.inr (tg_okR (r := 3) (by decide) (by decide) hts1)) q550 (fun _ h => h) rfl dX1_isUnlike_163 (fun _ _ hw1 => ?_)
  obtain ⟨σ2, e3⟩ : ∃ z, z = st σ a0 32 0 s1 := ⟨_, rfl⟩
  have h := h σ2 e3
  have hw1 := wc_e e3 hw1
  have hk4 := kp_e e3 hk wo_X1_isUnlike (by decide) hts0 (t := 1) (by decide)
  refine z_iconst (pc := 166) K dX1_isUnlike_166 ?_
  exact z_zret (pc := 167) K hw1 ⟨by decide, by decide⟩ ⟨hk4, h⟩ dX1_isUnlike_167
set_option maxHeartbeats 4000000 in
theorem wk_X1_isUnlike_b139 {X : Cxt} {p : Program} {l : Launch} {e : Env} {s : State} {m : MethodId} {args : Array Value} {below : List Frame} {meth : Method} {c : Code} (a0 : Int) (x1 : Int) (x2 : Int) (x3 : Int) (Q : Int → St → Prop) (σ0 : St) (Rc : Nat → St → Int → Int → Int → Int → (Int → St → Prop) → Prop) (K : MCx X p s m args meth c cX1_isUnlike 8 "CombTable" (some .boolean)) (hx1 : rng x1) (hx2 : rng x2) (hx3 : rng x3) (nr : Nat) (hRc0 : ∀ (σ : St) (a0 : Int) (x1 : Int) (x2 : Int) (x3 : Int) (ht0 : tg σ a0 = 1) (hx1 : rng x1) (hx2 : rng x2) (hx3 : rng x3) (Q : Int → St → Prop), Rc 0 σ a0 x1 x2 x3 Q → MetT l yX1_isUnlike (ws_ yX1_isUnlike cX1_isUnlike 8 (some .boolean)) (zrm (3 + nr) 0 0) (ZP X σ [jR X a0, jI x1, jI x2, jI x3]) (ZQ X (qZ (fun r σ' => Kp ws_X1_isUnlike σ σ' ∧ Q r σ')) (fun _ _ => False)) 0 0 (zA X)) : ∀ (σ : St) (v4 : Int) (v5 : Int) (v6 : Int) (s0 : Int) (H : Heap) (locs : List Loc) (ls : Array Slot), wp_X1_isUnlike_b139 a0 x1 x2 x3 Q σ0 Rc σ v4 v5 v6 s0 → Wc X σ s.heap H locs → Kp ws_X1_isUnlike σ0 σ → tg σ a0 = 1 → rng v4 → rng v5 → (0 ≤ v6 ∧ v6 ≤ 1) → tg σ s0 = 3 → lv_has ls 8 [(0, jR X a0), (4, jI v4), (5, jI v5), (6, jI v6)] → W p l e (zrm (3 + nr + 1) 0 0) s m args below meth c H locs 0 0 (MQT below (ZQ X (qZ (fun r σ' => Kp ws_X1_isUnlike σ0 σ' ∧ Q r σ')) (fun _ _ => False)) args s 0 0 (zA X)) (F0 m 139 ls [jR X s0]) := by
  intro σ v4 v5 v6 s0 H locs ls h hw hk ht0 hv4 hv5 hv6 hts0 hl
  refine lv_iload (pc := 139) K.x K.b dX1_isUnlike_139 (lv_at hl 1 rfl) ?_
  refine lv_iload (pc := 141) K.x K.b dX1_isUnlike_141 (lv_at hl 2 rfl) ?_
  refine zc_v (pc := 143) (maxL := 6) K hw (met_X3_say X l σ s0 v4 v5 hts0 hv4 hv5 _ h) (i_V (n := 2) (t := 3) (As := [jI v4, jI v5]) K hw (ob hts0) zq3 (by decide) q1151 q937 q938 (sg_of K q939) rfl rfl dX1_isUnlike_143) (locw K q939 q94) (zr_ok2 (by omega) (by omega)) hl.1 dX1_isUnlike_143 (Nat.le_of_ble_eq_true rfl) ⟨Nat.le_refl _, Nat.le_refl _⟩ (fun σ4 _ _ hq3 hw5 => ?_)
  obtain ⟨hk6, h⟩ := hq3
  have h := h hk6
  have hk7 := kp_trans wo_X1_isUnlike hk hk6 (fun _ q => q) (by decide)
  have hg8 : tg σ4 a0 = 1 := kp_tg hk6 wo_X3_say ht0 (by decide)
  refine z_aload_n (pc := 146) K dX1_isUnlike_146 rfl (lv_at hl 0 rfl) ?_
  refine lv_iload (pc := 147) K.x K.b dX1_isUnlike_147 (lv_at hl 3 rfl) ?_
  refine z_if_eq (pc := 149) (tgt := 159) K (b01r hv6) dX1_isUnlike_149 (by decide) (fun hc9 => ?_) (fun hc9 => ?_)
  · have h := ite_t h hc9
    refine z_aload_n (pc := 159) K dX1_isUnlike_159 rfl (lv_at hl 0 rfl) ?_
    refine z_get (pc := 160) (t := 1) (k := 10) K hw5 (ob hg8) zq1 (by decide) q528 (fun _ h => h) dX1_isUnlike_160 (zval_r kf_1_10) ?_
    have hg10 : tg σ4 (σ4 a0 10 0) = 3 := (z_tg (t := 1) (r := 3) hw5 hg8 ⟨by decide, by decide⟩ kf_1_10 kn_1_10 kt_1_10 (by decide) (by decide))
    exact wk_X1_isUnlike_b163 a0 x1 x2 x3 Q σ0 Rc K hx1 hx2 hx3 nr hRc0 σ4 (σ4 a0 10 0) _ _ _ h hw5 hk7 hg8 hg10 (lv_sub hl [] rfl)
  · have h := ite_f h hc9
    refine z_aload_n (pc := 152) K dX1_isUnlike_152 rfl (lv_at hl 0 rfl) ?_
    refine z_get (pc := 153) (t := 1) (k := 9) K hw5 (ob hg8) zq1 (by decide) q527 (fun _ h => h) dX1_isUnlike_153 (zval_r kf_1_9) ?_
    refine z_goto (pc := 156) (tgt := 163) K dX1_isUnlike_156 (by decide) ?_
    have hg11 : tg σ4 (σ4 a0 9 0) = 3 := (z_tg (t := 1) (r := 3) hw5 hg8 ⟨by decide, by decide⟩ kf_1_9 kn_1_9 kt_1_9 (by decide) (by decide))
    exact wk_X1_isUnlike_b163 a0 x1 x2 x3 Q σ0 Rc K hx1 hx2 hx3 nr hRc0 σ4 (σ4 a0 9 0) _ _ _ h hw5 hk7 hg8 hg11 (lv_sub hl [] rfl)
set_option maxHeartbeats 4000000 in
theorem wk_X1_isUnlike_b106 {X : Cxt} {p : Program} {l : Launch} {e : Env} {s : State} {m : MethodId} {args : Array Value} {below : List Frame} {meth : Method} {c : Code} (a0 : Int) (x1 : Int) (x2 : Int) (x3 : Int) (Q : Int → St → Prop) (σ0 : St) (Rc : Nat → St → Int → Int → Int → Int → (Int → St → Prop) → Prop) (K : MCx X p s m args meth c cX1_isUnlike 8 "CombTable" (some .boolean)) (hx1 : rng x1) (hx2 : rng x2) (hx3 : rng x3) (nr : Nat) (hRc0 : ∀ (σ : St) (a0 : Int) (x1 : Int) (x2 : Int) (x3 : Int) (ht0 : tg σ a0 = 1) (hx1 : rng x1) (hx2 : rng x2) (hx3 : rng x3) (Q : Int → St → Prop), Rc 0 σ a0 x1 x2 x3 Q → MetT l yX1_isUnlike (ws_ yX1_isUnlike cX1_isUnlike 8 (some .boolean)) (zrm (3 + nr) 0 0) (ZP X σ [jR X a0, jI x1, jI x2, jI x3]) (ZQ X (qZ (fun r σ' => Kp ws_X1_isUnlike σ σ' ∧ Q r σ')) (fun _ _ => False)) 0 0 (zA X)) (L3 : St → Int → Prop) (hL3 : ∀ (σ : St) (v4 : Int) (H : Heap) (locs : List Loc) (ls : Array Slot), L3 σ v4 → Wc X σ s.heap H locs → Kp ws_X1_isUnlike σ0 σ → tg σ a0 = 1 → rng v4 → lv_has ls 8 [(0, jR X a0), (1, jI x1), (2, jI x2), (3, jI x3), (4, jI v4)] → W p l e (zrm (3 + nr + 1) 0 0) s m args below meth c H locs 0 0 (MQT below (ZQ X (qZ (fun r σ' => Kp ws_X1_isUnlike σ0 σ' ∧ Q r σ')) (fun _ _ => False)) args s 0 0 (zA X)) (F0 m 3 ls [])) (L12 : St → Int → Int → Prop) (hL12 : ∀ (σ : St) (v4 : Int) (v5 : Int) (H : Heap) (locs : List Loc) (ls : Array Slot), L12 σ v4 v5 → Wc X σ s.heap H locs → Kp ws_X1_isUnlike σ0 σ → tg σ a0 = 1 → rng v4 → rng v5 → lv_has ls 8 [(0, jR X a0), (1, jI x1), (2, jI x2), (3, jI x3), (4, jI v4), (5, jI v5)] → W p l e (zrm (3 + nr + 1) 0 0) s m args below meth c H locs 0 0 (MQT below (ZQ X (qZ (fun r σ' => Kp ws_X1_isUnlike σ0 σ' ∧ Q r σ')) (fun _ _ => False)) args s 0 0 (zA X)) (F0 m 12 ls [])) : ∀ (σ : St) (v4 : Int) (v5 : Int) (v6 : Int) (s0 : Int) (H : Heap) (locs : List Loc) (ls : Array Slot), wp_X1_isUnlike_b106 a0 x1 x2 x3 Q σ0 Rc L3 L12 σ v4 v5 v6 s0 → Wc X σ s.heap H locs → Kp ws_X1_isUnlike σ0 σ → tg σ a0 = 1 → rng v4 → rng v5 → (0 ≤ v6 ∧ v6 ≤ 1) → (0 ≤ s0 ∧ s0 ≤ 1) → lv_has ls 8 [(0, jR X a0), (1, jI x1), (2, jI x2), (3, jI x3), (4, jI v4), (5, jI v5), (6, jI v6)] → W p l e (zrm (3 + nr + 1) 0 0) s m args below meth c H locs 0 0 (MQT below (ZQ X (qZ (fun r σ' => Kp ws_X1_isUnlike σ0 σ' ∧ Q r σ')) (fun _ _ => False)) args s 0 0 (zA X)) (F0 m 106 ls [jI s0]) := by
  intro σ v4 v5 v6 s0 H locs ls h hw hk ht0 hv4 hv5 hv6 hs0 hl
  refine lv_istore (pc := 106) (lv' := [(7, jI s0), (0, jR X a0), (1, jI x1), (2, jI x2), (3, jI x3), (4, jI v4), (5, jI v5), (6, jI v6)]) K.x K.b dX1_isUnlike_106 hl (by decide) rfl (fun ls hl => ?_)
  refine lv_iload_n (pc := 108) K.x K.b dX1_isUnlike_108 rfl (lv_at hl 4 rfl) ?_
  refine z_iconst (pc := 109) K dX1_isUnlike_109 ?_
  refine z_icmp_ne (pc := 110) (tgt := 168) K hx3 ⟨by decide, by decide⟩ dX1_isUnlike_110 (by decide) (fun hc1 => ?_) (fun hc1 => ?_)
  · have h := ite_t h hc1
    refine lv_iload (pc := 113) K.x K.b dX1_isUnlike_113 (lv_at hl 7 rfl) ?_
    refine lv_iload (pc := 115) K.x K.b dX1_isUnlike_115 (lv_at hl 0 rfl) ?_
    refine z_icmp_ne (pc := 117) (tgt := 123) K (b01r hv6) (b01r hs0) dX1_isUnlike_117 (by decide) (fun hc2 => ?_) (fun hc2 => ?_)
    · have h := ite_t h hc2
      refine z_goto (pc := 120) (tgt := 231) K dX1_isUnlike_120 (by decide) ?_
      refine z_iinc (pc := 231) (k := 6) (lv' := [(5, jI (v5 + 1)), (7, jI s0), (0, jR X a0), (1, jI x1), (2, jI x2), (3, jI x3), (4, jI v4), (6, jI v6)]) K dX1_isUnlike_231 hl rfl (by decide) rfl (fun ls hl => ?_)
      refine z_goto (pc := 234) (tgt := 12) K dX1_isUnlike_234 (by decide) ?_
      obtain ⟨hr3, h⟩ := h
      exact hL12 σ v4 (v5 + 1) _ _ _ h hw hk ht0 hv4 hr3 (lv_sub hl [2, 3, 4, 5, 6, 0] rfl)
    · have h := ite_f h hc2
      refine lv_iload (pc := 123) K.x K.b dX1_isUnlike_123 (lv_at hl 7 rfl) ?_
      refine z_if_eq (pc := 125) (tgt := 135) K (b01r hv6) dX1_isUnlike_125 (by decide) (fun hc4 => ?_) (fun hc4 => ?_)
      · have h := ite_t h hc4
        refine z_aload_n (pc := 135) K dX1_isUnlike_135 rfl (lv_at hl 1 rfl) ?_
        refine z_get (pc := 136) (t := 1) (k := 10) K hw (ob ht0) zq1 (by decide) q528 (fun _ h => h) dX1_isUnlike_136 (zval_r kf_1_10) ?_
        have hg5 : tg σ (σ a0 10 0) = 3 := (z_tg (t := 1) (r := 3) hw ht0 ⟨by decide, by decide⟩ kf_1_10 kn_1_10 kt_1_10 (by decide) (by decide))
        exact wk_X1_isUnlike_b139 a0 x1 x2 x3 Q σ0 Rc K hx1 hx2 hx3 nr hRc0 σ v4 v5 v6 (σ a0 10 0) _ _ _ h hw hk ht0 hv4 hv5 hv6 hg5 (lv_sub hl [1, 5, 6, 7] rfl)
      · have h := ite_f h hc4
        refine z_aload_n (pc := 128) K dX1_isUnlike_128 rfl (lv_at hl 1 rfl) ?_
        refine z_get (pc := 129) (t := 1) (k := 9) K hw (ob ht0) zq1 (by decide) q527 (fun _ h => h) dX1_isUnlike_129 (zval_r kf_1_9) ?_
        refine z_goto (pc := 132) (tgt := 139) K dX1_isUnlike_132 (by decide) ?_
        have hg6 : tg σ (σ a0 9 0) = 3 := (z_tg (t := 1) (r := 3) hw ht0 ⟨by decide, by decide⟩ kf_1_9 kn_1_9 kt_1_9 (by decide) (by decide))
        exact wk_X1_isUnlike_b139 a0 x1 x2 x3 Q σ0 Rc K hx1 hx2 hx3 nr hRc0 σ v4 v5 v6 (σ a0 9 0) _ _ _ h hw hk ht0 hv4 hv5 hv6 hg6 (lv_sub hl [1, 5, 6, 7] rfl)
  · have h := ite_f h hc1
    refine lv_iload (pc := 168) K.x K.b dX1_isUnlike_168 (lv_at hl 7 rfl) ?_
    refine z_if_eq (pc := 170) (tgt := 231) K (b01r hv6) dX1_isUnlike_170 (by decide) (fun hc7 => ?_) (fun hc7 => ?_)
    · have h := ite_t h hc7
      refine z_iinc (pc := 231) (k := 6) (lv' := [(5, jI (v5 + 1)), (7, jI s0), (0, jR X a0), (1, jI x1), (2, jI x2), (3, jI x3), (4, jI v4), (6, jI v6)]) K dX1_isUnlike_231 hl rfl (by decide) rfl (fun ls hl => ?_)
      refine z_goto (pc := 234) (tgt := 12) K dX1_isUnlike_234 (by decide) ?_
      obtain ⟨hr8, h⟩ := h
      exact hL12 σ v4 (v5 + 1) _ _ _ h hw hk ht0 hv4 hr8 (lv_sub hl [2, 3, 4, 5, 6, 0] rfl)
    · have h := ite_f h hc7
      refine lv_iload (pc := 173) K.x K.b dX1_isUnlike_173 (lv_at hl 0 rfl) ?_
      refine z_if_ne (pc := 175) (tgt := 181) K (b01r hs0) dX1_isUnlike_175 (by decide) (fun hc9 => ?_) (fun hc9 => ?_)
      · have h := ite_t h hc9
        refine z_goto (pc := 178) (tgt := 231) K dX1_isUnlike_178 (by decide) ?_
        refine z_iinc (pc := 231) (k := 6) (lv' := [(5, jI (v5 + 1)), (7, jI s0), (0, jR X a0), (1, jI x1), (2, jI x2), (3, jI x3), (4, jI v4), (6, jI v6)]) K dX1_isUnlike_231 hl rfl (by decide) rfl (fun ls hl => ?_)
        refine z_goto (pc := 234) (tgt := 12) K dX1_isUnlike_234 (by decide) ?_
        obtain ⟨hr10, h⟩ := h
        exact hL12 σ v4 (v5 + 1) _ _ _ h hw hk ht0 hv4 hr10 (lv_sub hl [2, 3, 4, 5, 6, 0] rfl)
      · have h := ite_f h hc9
        refine z_aload_n (pc := 181) K dX1_isUnlike_181 rfl (lv_at hl 1 rfl) ?_
        refine z_get (pc := 182) (t := 1) (k := 9) K hw (ob ht0) zq1 (by decide) q527 (fun _ h => h) dX1_isUnlike_182 (zval_r kf_1_9) ?_
        refine lv_iload (pc := 185) K.x K.b dX1_isUnlike_185 (lv_at hl 5 rfl) ?_
        refine lv_iload (pc := 187) K.x K.b dX1_isUnlike_187 (lv_at hl 6 rfl) ?_
        have hg11 : tg σ (σ a0 9 0) = 3 := (z_tg (t := 1) (r := 3) hw ht0 ⟨by decide, by decide⟩ kf_1_9 kn_1_9 kt_1_9 (by decide) (by decide))
        refine zc_v (pc := 189) (maxL := 6) K hw (met_X3_say X l σ (σ a0 9 0) v4 v5 hg11 hv4 hv5 _ h) (i_V (n := 2) (t := 3) (As := [jI v4, jI v5]) K hw (ob hg11) zq3 (by decide) q1151 q937 q938 (sg_of K q939) rfl rfl dX1_isUnlike_189) (locw K q939 q94) (zr_ok2 (by omega) (by omega)) hl.1 dX1_isUnlike_189 (Nat.le_of_ble_eq_true rfl) ⟨Nat.le_refl _, Nat.le_refl _⟩ (fun σ15 _ _ hq14 hw16 => ?_)
        obtain ⟨hk17, h⟩ := hq14
        have h := h hk17
        have hk18 := kp_trans wo_X1_isUnlike hk hk17 (fun _ q => q) (by decide)
        have hg19 : tg σ15 a0 = 1 := kp_tg hk17 wo_X3_say ht0 (by decide)
        refine z_aload_n (pc := 192) K dX1_isUnlike_192 rfl (lv_at hl 1 rfl) ?_
        refine z_get (pc := 193) (t := 1) (k := 10) K hw16 (ob hg19) zq1 (by decide) q528 (fun _ h => h) dX1_isUnlike_193 (zval_r kf_1_10) ?_
        refine lv_iload (pc := 196) K.x K.b dX1_isUnlike_196 (lv_at hl 5 rfl) ?_
        refine lv_iload (pc := 198) K.x K.b dX1_isUnlike_198 (lv_at hl 6 rfl) ?_
        have hg20 : tg σ15 (σ15 a0 10 0) = 3 := (z_tg (t := 1) (r := 3) hw16 hg19 ⟨by decide, by decide⟩ kf_1_10 kn_1_10 kt_1_10 (by decide) (by decide))
        refine zc_v (pc := 200) (maxL := 6) K hw16 (met_X3_say X l σ15 (σ15 a0 10 0) v4 v5 hg20 hv4 hv5 _ h) (i_V (n := 2) (t := 3) (As := [jI v4, jI v5]) K hw16 (ob hg20) zq3 (by decide) q1151 q937 q938 (sg_of K q939) rfl rfl dX1_isUnlike_200) (locw K q939 q94) (zr_ok2 (by omega) (by omega)) hl.1 dX1_isUnlike_200 (Nat.le_of_ble_eq_true rfl) ⟨Nat.le_refl _, Nat.le_refl _⟩ (fun σ24 _ _ hq23 hw25 => ?_)
        obtain ⟨hk26, h⟩ := hq23
        have h := h hk26
        have hk27 := kp_trans wo_X1_isUnlike hk18 hk26 (fun _ q => q) (by decide)
        have hg28 : tg σ24 a0 = 1 := kp_tg hk26 wo_X3_say hg19 (by decide)
        refine z_aload_n (pc := 203) K dX1_isUnlike_203 rfl (lv_at hl 1 rfl) ?_
        refine lv_iload_n (pc := 204) K.x K.b dX1_isUnlike_204 rfl (lv_at hl 2 rfl) ?_
        refine lv_iload_n (pc := 205) K.x K.b dX1_isUnlike_205 rfl (lv_at hl 3 rfl) ?_
        refine lv_iload_n (pc := 206) K.x K.b dX1_isUnlike_206 rfl (lv_at hl 4 rfl) ?_
        refine z_iconst (pc := 207) K dX1_isUnlike_207 ?_
        refine z_isub (pc := 208) K dX1_isUnlike_208 ?_
        obtain ⟨hr29, h⟩ := h
        refine zc_z (pc := 209) (maxL := 8) K hw25 (hRc0 σ24 a0 x1 x2 (x3 - 1) hg28 hx1 hx2 hr29 _ h) (i_V (n := 3) (t := 1) (As := [jI x1, jI x2, jI (x3 - 1)]) K hw25 (ob hg28) zq1 (by decide) q1201 q1203 qs22 (sg_of K q1204) rfl rfl dX1_isUnlike_209) (locw K q1204 q90) (zr_ok2 (by omega) (by omega)) hl.1 dX1_isUnlike_209 (Nat.le_of_ble_eq_true rfl) ⟨Nat.le_refl _, Nat.le_refl _⟩ (fun r30 σ33 _ _ hr31 hq32 hw34 => ?_)
        obtain ⟨hk35, h⟩ := hq32
        have h := h hk35
        have hk36 := kp_trans wo_X1_isUnlike hk27 hk35 (fun _ q => q) (by decide)
        have hg37 : tg σ33 a0 = 1 := kp_tg hk35 wo_X1_isUnlike hg28 (by decide)
        refine z_if_eq (pc := 212) (tgt := 217) K (b01r hr31) dX1_isUnlike_212 (by decide) (fun hc38 => ?_) (fun hc38 => ?_)
        · have h := ite_t h hc38
          refine z_aload_n (pc := 217) K dX1_isUnlike_217 rfl (lv_at hl 1 rfl) ?_
          refine z_get (pc := 218) (t := 1) (k := 9) K hw34 (ob hg37) zq1 (by decide) q527 (fun _ h => h) dX1_isUnlike_218 (zval_r kf_1_9) ?_
          have hg39 : tg σ33 (σ33 a0 9 0) = 3 := (z_tg (t := 1) (r := 3) hw34 hg37 ⟨by decide, by decide⟩ kf_1_9 kn_1_9 kt_1_9 (by decide) (by decide))
          refine zc_v (pc := 221) (maxL := 2) K hw34 (met_X3_undo X l σ33 (σ33 a0 9 0) hg39 _ h) (i_V (n := 0) (t := 3) (As := []) K hw34 (ob hg39) zq3 (by decide) q953 q954 q955 (sg_of K q956) rfl rfl dX1_isUnlike_221) (locw K q956 q94) (zr_ok2 (by omega) (by omega)) hl.1 dX1_isUnlike_221 (Nat.le_of_ble_eq_true rfl) ⟨Nat.le_refl _, Nat.le_refl _⟩ (fun σ43 _ _ hq42 hw44 => ?_)
          obtain ⟨hk45, h⟩ := hq42
          have h := h hk45
          have hk46 := kp_trans wo_X1_isUnlike hk36 hk45 (fun _ q => q) (by decide)
          have hg47 : tg σ43 a0 = 1 := kp_tg hk45 wo_X3_undo hg37 (by decide)
          refine z_aload_n (pc := 224) K dX1_isUnlike_224 rfl (lv_at hl 1 rfl) ?_
          refine z_get (pc := 225) (t := 1) (k := 10) K hw44 (ob hg47) zq1 (by decide) q528 (fun _ h => h) dX1_isUnlike_225 (zval_r kf_1_10) ?_
          have hg48 : tg σ43 (σ43 a0 10 0) = 3 := (z_tg (t := 1) (r := 3) hw44 hg47 ⟨by decide, by decide⟩ kf_1_10 kn_1_10 kt_1_10 (by decide) (by decide))
          refine zc_v (pc := 228) (maxL := 2) K hw44 (met_X3_undo X l σ43 (σ43 a0 10 0) hg48 _ h) (i_V (n := 0) (t := 3) (As := []) K hw44 (ob hg48) zq3 (by decide) q953 q954 q955 (sg_of K q956) rfl rfl dX1_isUnlike_228) (locw K q956 q94) (zr_ok2 (by omega) (by omega)) hl.1 dX1_isUnlike_228 (Nat.le_of_ble_eq_true rfl) ⟨Nat.le_refl _, Nat.le_refl _⟩ (fun σ52 _ _ hq51 hw53 => ?_)
          obtain ⟨hk54, h⟩ := hq51
          have h := h hk54
          have hk55 := kp_trans wo_X1_isUnlike hk46 hk54 (fun _ q => q) (by decide)
          have hg56 : tg σ52 a0 = 1 := kp_tg hk54 wo_X3_undo hg47 (by decide)
          refine z_iinc (pc := 231) (k := 6) (lv' := [(5, jI (v5 + 1)), (7, jI s0), (0, jR X a0), (1, jI x1), (2, jI x2), (3, jI x3), (4, jI v4), (6, jI v6)]) K dX1_isUnlike_231 hl rfl (by decide) rfl (fun ls hl => ?_)
          refine z_goto (pc := 234) (tgt := 12) K dX1_isUnlike_234 (by decide) ?_
          obtain ⟨hr57, h⟩ := h
          exact hL12 σ52 v4 (v5 + 1) _ _ _ h hw53 hk55 hg56 hv4 hr57 (lv_sub hl [2, 3, 4, 5, 6, 0] rfl)
        · have h := ite_f h hc38
          refine z_iconst (pc := 215) K dX1_isUnlike_215 ?_
          exact z_zret (pc := 216) K hw34 ⟨by decide, by decide⟩ ⟨hk36, h⟩ dX1_isUnlike_216
set_option maxHeartbeats 4000000 in
theorem wk_X1_isUnlike_b105 {X : Cxt} {p : Program} {l : Launch} {e : Env} {s : State} {m : MethodId} {args : Array Value} {below : List Frame} {meth : Method} {c : Code} (a0 : Int) (x1 : Int) (x2 : Int) (x3 : Int) (Q : Int → St → Prop) (σ0 : St) (Rc : Nat → St → Int → Int → Int → Int → (Int → St → Prop) → Prop) (K : MCx X p s m args meth c cX1_isUnlike 8 "CombTable" (some .boolean)) (hx1 : rng x1) (hx2 : rng x2) (hx3 : rng x3) (nr : Nat) (hRc0 : ∀ (σ : St) (a0 : Int) (x1 : Int) (x2 : Int) (x3 : Int) (ht0 : tg σ a0 = 1) (hx1 : rng x1) (hx2 : rng x2) (hx3 : rng x3) (Q : Int → St → Prop), Rc 0 σ a0 x1 x2 x3 Q → MetT l yX1_isUnlike (ws_ yX1_isUnlike cX1_isUnlike 8 (some .boolean)) (zrm (3 + nr) 0 0) (ZP X σ [jR X a0, jI x1, jI x2, jI x3]) (ZQ X (qZ (fun r σ' => Kp ws_X1_isUnlike σ σ' ∧ Q r σ')) (fun _ _ => False)) 0 0 (zA X)) (L3 : St → Int → Prop) (hL3 : ∀ (σ : St) (v4 : Int) (H : Heap) (locs : List Loc) (ls : Array Slot), L3 σ v4 → Wc X σ s.heap H locs → Kp ws_X1_isUnlike σ0 σ → tg σ a0 = 1 → rng v4 → lv_has ls 8 [(0, jR X a0), (1, jI x1), (2, jI x2), (3, jI x3), (4, jI v4)] → W p l e (zrm (3 + nr + 1) 0 0) s m args below meth c H locs 0 0 (MQT below (ZQ X (qZ (fun r σ' => Kp ws_X1_isUnlike σ0 σ' ∧ Q r σ')) (fun _ _ => False)) args s 0 0 (zA X)) (F0 m 3 ls [])) (L12 : St → Int → Int → Prop) (hL12 : ∀ (σ : St) (v4 : Int) (v5 : Int) (H : Heap) (locs : List Loc) (ls : Array Slot), L12 σ v4 v5 → Wc X σ s.heap H locs → Kp ws_X1_isUnlike σ0 σ → tg σ a0 = 1 → rng v4 → rng v5 → lv_has ls 8 [(0, jR X a0), (1, jI x1), (2, jI x2), (3, jI x3), (4, jI v4), (5, jI v5)] → W p l e (zrm (3 + nr + 1) 0 0) s m args below meth c H locs 0 0 (MQT below (ZQ X (qZ (fun r σ' => Kp ws_X1_isUnlike σ0 σ' ∧ Q r σ')) (fun _ _ => False)) args s 0 0 (zA X)) (F0 m 12 ls [])) : ∀ (σ : St) (v4 : Int) (v5 : Int) (v6 : Int) (H : Heap) (locs : List Loc) (ls : Array Slot), wp_X1_isUnlike_b105 a0 x1 x2 x3 Q σ0 Rc L3 L12 σ v4 v5 v6 → Wc X σ s.heap H locs → Kp ws_X1_isUnlike σ0 σ → tg σ a0 = 1 → rng v4 → rng v5 → (0 ≤ v6 ∧ v6 ≤ 1) → lv_has ls 8 [(0, jR X a0), (1, jI x1), (2, jI x2), (3, jI x3), (4, jI v4), (5, jI v5), (6, jI v6)] → W p l e (zrm (3 + nr + 1) 0 0) s m args below meth c H locs 0 0 (MQT below (ZQ X (qZ (fun r σ' => Kp ws_X1_isUnlike σ0 σ' ∧ Q r σ')) (fun _ _ => False)) args s 0 0 (zA X)) (F0 m 105 ls []) := by
  intro σ v4 v5 v6 H locs ls h hw hk ht0 hv4 hv5 hv6 hl
  refine z_iconst (pc := 105) K dX1_isUnlike_105 ?_
  exact wk_X1_isUnlike_b106 a0 x1 x2 x3 Q σ0 Rc K hx1 hx2 hx3 nr hRc0 L3 hL3 L12 hL12 σ v4 v5 v6 0 _ _ _ h hw hk ht0 hv4 hv5 hv6 ⟨by decide, by decide⟩ (lv_sub hl [0, 1, 2, 3, 4, 5, 6] rfl)
set_option maxHeartbeats 4000000 in
theorem wk_X1_isUnlike_b61 {X : Cxt} {p : Program} {l : Launch} {e : Env} {s : State} {m : MethodId} {args : Array Value} {below : List Frame} {meth : Method} {c : Code} (a0 : Int) (x1 : Int) (x2 : Int) (x3 : Int) (Q : Int → St → Prop) (σ0 : St) (Rc : Nat → St → Int → Int → Int → Int → (Int → St → Prop) → Prop) (K : MCx X p s m args meth c cX1_isUnlike 8 "CombTable" (some .boolean)) (hx1 : rng x1) (hx2 : rng x2) (hx3 : rng x3) (nr : Nat) (hRc0 : ∀ (σ : St) (a0 : Int) (x1 : Int) (x2 : Int) (x3 : Int) (ht0 : tg σ a0 = 1) (hx1 : rng x1) (hx2 : rng x2) (hx3 : rng x3) (Q : Int → St → Prop), Rc 0 σ a0 x1 x2 x3 Q → MetT l yX1_isUnlike (ws_ yX1_isUnlike cX1_isUnlike 8 (some .boolean)) (zrm (3 + nr) 0 0) (ZP X σ [jR X a0, jI x1, jI x2, jI x3]) (ZQ X (qZ (fun r σ' => Kp ws_X1_isUnlike σ σ' ∧ Q r σ')) (fun _ _ => False)) 0 0 (zA X)) (L3 : St → Int → Prop) (hL3 : ∀ (σ : St) (v4 : Int) (H : Heap) (locs : List Loc) (ls : Array Slot), L3 σ v4 → Wc X σ s.heap H locs → Kp ws_X1_isUnlike σ0 σ → tg σ a0 = 1 → rng v4 → lv_has ls 8 [(0, jR X a0), (1, jI x1), (2, jI x2), (3, jI x3), (4, jI v4)] → W p l e (zrm (3 + nr + 1) 0 0) s m args below meth c H locs 0 0 (MQT below (ZQ X (qZ (fun r σ' => Kp ws_X1_isUnlike σ0 σ' ∧ Q r σ')) (fun _ _ => False)) args s 0 0 (zA X)) (F0 m 3 ls [])) (L12 : St → Int → Int → Prop) (hL12 : ∀ (σ : St) (v4 : Int) (v5 : Int) (H : Heap) (locs : List Loc) (ls : Array Slot), L12 σ v4 v5 → Wc X σ s.heap H locs → Kp ws_X1_isUnlike σ0 σ → tg σ a0 = 1 → rng v4 → rng v5 → lv_has ls 8 [(0, jR X a0), (1, jI x1), (2, jI x2), (3, jI x3), (4, jI v4), (5, jI v5)] → W p l e (zrm (3 + nr + 1) 0 0) s m args below meth c H locs 0 0 (MQT below (ZQ X (qZ (fun r σ' => Kp ws_X1_isUnlike σ0 σ' ∧ Q r σ')) (fun _ _ => False)) args s 0 0 (zA X)) (F0 m 12 ls [])) : ∀ (σ : St) (v4 : Int) (v5 : Int) (s0 : Int) (H : Heap) (locs : List Loc) (ls : Array Slot), wp_X1_isUnlike_b61 a0 x1 x2 x3 Q σ0 Rc L3 L12 σ v4 v5 s0 → Wc X σ s.heap H locs → Kp ws_X1_isUnlike σ0 σ → tg σ a0 = 1 → rng v4 → rng v5 → (0 ≤ s0 ∧ s0 ≤ 1) → lv_has ls 8 [(0, jR X a0), (1, jI x1), (2, jI x2), (3, jI x3), (4, jI v4), (5, jI v5)] → W p l e (zrm (3 + nr + 1) 0 0) s m args below meth c H locs 0 0 (MQT below (ZQ X (qZ (fun r σ' => Kp ws_X1_isUnlike σ0 σ' ∧ Q r σ')) (fun _ _ => False)) args s 0 0 (zA X)) (F0 m 61 ls [jI s0]) := by
  intro σ v4 v5 s0 H locs ls h hw hk ht0 hv4 hv5 hs0 hl
  refine lv_istore (pc := 61) (lv' := [(6, jI s0), (0, jR X a0), (1, jI x1), (2, jI x2), (3, jI x3), (4, jI v4), (5, jI v5)]) K.x K.b dX1_isUnlike_61 hl (by decide) rfl (fun ls hl => ?_)
  refine z_aload_n (pc := 63) K dX1_isUnlike_63 rfl (lv_at hl 1 rfl) ?_
  refine z_get (pc := 64) (t := 1) (k := 10) K hw (ob ht0) zq1 (by decide) q528 (fun _ h => h) dX1_isUnlike_64 (zval_r kf_1_10) ?_
  refine lv_iload (pc := 67) K.x K.b dX1_isUnlike_67 (lv_at hl 5 rfl) ?_
  have hg1 : tg σ (σ a0 10 0) = 3 := (z_tg (t := 1) (r := 3) hw ht0 ⟨by decide, by decide⟩ kf_1_10 kn_1_10 kt_1_10 (by decide) (by decide))
  refine zr_z (pc := 69) (maxL := 2) K hw (met_X3_isWho X l σ (σ a0 10 0) v4 hg1 hv4 _ h) (i_V (n := 1) (t := 3) (As := [jI v4]) K hw (ob hg1) zq3 (by decide) q898 q899 q900 (sg_of K q901) rfl rfl dX1_isUnlike_69) (locw K q901 q94) (zr_ok2 (by omega) (by omega)) hl.1 dX1_isUnlike_69 (Nat.le_of_ble_eq_true rfl) ⟨Nat.le_refl _, Nat.le_refl _⟩ (fun r2 _ _ hr3 h hw6 => ?_)
  refine z_if_eq (pc := 72) (tgt := 105) K (b01r hr3) dX1_isUnlike_72 (by decide) (fun hc7 => ?_) (fun hc7 => ?_)
  · have h := ite_t h hc7
    exact wk_X1_isUnlike_b105 a0 x1 x2 x3 Q σ0 Rc K hx1 hx2 hx3 nr hRc0 L3 hL3 L12 hL12 σ v4 v5 s0 _ _ _ h hw6 hk ht0 hv4 hv5 hs0 (lv_sub hl [1, 2, 3, 4, 5, 6, 0] rfl)
  · have h := ite_f h hc7
    refine z_aload_n (pc := 75) K dX1_isUnlike_75 rfl (lv_at hl 1 rfl) ?_
    refine z_get (pc := 76) (t := 1) (k := 10) K hw6 (ob ht0) zq1 (by decide) q528 (fun _ h => h) dX1_isUnlike_76 (zval_r kf_1_10) ?_
    refine lv_iload (pc := 79) K.x K.b dX1_isUnlike_79 (lv_at hl 6 rfl) ?_
    refine zr_z (pc := 81) (maxL := 2) K hw6 (met_X3_isKind X l σ (σ a0 10 0) v5 hg1 hv5 _ h) (i_V (n := 1) (t := 3) (As := [jI v5]) K hw6 (ob hg1) zq3 (by decide) q907 q908 q909 (sg_of K q910) rfl rfl dX1_isUnlike_81) (locw K q910 q94) (zr_ok2 (by omega) (by omega)) hl.1 dX1_isUnlike_81 (Nat.le_of_ble_eq_true rfl) ⟨Nat.le_refl _, Nat.le_refl _⟩ (fun r8 _ _ hr9 h hw12 => ?_)
    refine z_if_eq (pc := 84) (tgt := 105) K (b01r hr9) dX1_isUnlike_84 (by decide) (fun hc13 => ?_) (fun hc13 => ?_)
    · have h := ite_t h hc13
      exact wk_X1_isUnlike_b105 a0 x1 x2 x3 Q σ0 Rc K hx1 hx2 hx3 nr hRc0 L3 hL3 L12 hL12 σ v4 v5 s0 _ _ _ h hw12 hk ht0 hv4 hv5 hs0 (lv_sub hl [1, 2, 3, 4, 5, 6, 0] rfl)
    · have h := ite_f h hc13
      refine z_aload_n (pc := 87) K dX1_isUnlike_87 rfl (lv_at hl 1 rfl) ?_
      refine z_get (pc := 88) (t := 1) (k := 10) K hw12 (ob ht0) zq1 (by decide) q528 (fun _ h => h) dX1_isUnlike_88 (zval_r kf_1_10) ?_
      refine lv_iload (pc := 91) K.x K.b dX1_isUnlike_91 (lv_at hl 5 rfl) ?_
      refine lv_iload (pc := 93) K.x K.b dX1_isUnlike_93 (lv_at hl 6 rfl) ?_
      refine zr_i (pc := 95) (maxL := 5) K hw12 (met_X3_why X l σ (σ a0 10 0) v4 v5 hg1 hv4 hv5 _ h) (i_V (n := 2) (t := 3) (As := [jI v4, jI v5]) K hw12 (ob hg1) zq3 (by decide) q944 q916 q917 (sg_of K q918) rfl rfl dX1_isUnlike_95) (locw K q918 q94) (zr_ok2 (by omega) (by omega)) hl.1 dX1_isUnlike_95 (Nat.le_of_ble_eq_true rfl) ⟨Nat.le_refl _, Nat.le_refl _⟩ (fun r14 _ _ hr15 h hw18 => ?_)
      refine z_if_ne (pc := 98) (tgt := 105) K hr15 dX1_isUnlike_98 (by decide) (fun hc19 => ?_) (fun hc19 => ?_)
      · have h := ite_t h hc19
        refine z_iconst (pc := 101) K dX1_isUnlike_101 ?_
        refine z_goto (pc := 102) (tgt := 106) K dX1_isUnlike_102 (by decide) ?_
        exact wk_X1_isUnlike_b106 a0 x1 x2 x3 Q σ0 Rc K hx1 hx2 hx3 nr hRc0 L3 hL3 L12 hL12 σ v4 v5 s0 1 _ _ _ h hw18 hk ht0 hv4 hv5 hs0 ⟨by decide, by decide⟩ (lv_sub hl [1, 2, 3, 4, 5, 6, 0] rfl)
      · have h := ite_f h hc19
        exact wk_X1_isUnlike_b105 a0 x1 x2 x3 Q σ0 Rc K hx1 hx2 hx3 nr hRc0 L3 hL3 L12 hL12 σ v4 v5 s0 _ _ _ h hw18 hk ht0 hv4 hv5 hs0 (lv_sub hl [1, 2, 3, 4, 5, 6, 0] rfl)
set_option maxHeartbeats 4000000 in
theorem wk_X1_isUnlike_b60 {X : Cxt} {p : Program} {l : Launch} {e : Env} {s : State} {m : MethodId} {args : Array Value} {below : List Frame} {meth : Method} {c : Code} (a0 : Int) (x1 : Int) (x2 : Int) (x3 : Int) (Q : Int → St → Prop) (σ0 : St) (Rc : Nat → St → Int → Int → Int → Int → (Int → St → Prop) → Prop) (K : MCx X p s m args meth c cX1_isUnlike 8 "CombTable" (some .boolean)) (hx1 : rng x1) (hx2 : rng x2) (hx3 : rng x3) (nr : Nat) (hRc0 : ∀ (σ : St) (a0 : Int) (x1 : Int) (x2 : Int) (x3 : Int) (ht0 : tg σ a0 = 1) (hx1 : rng x1) (hx2 : rng x2) (hx3 : rng x3) (Q : Int → St → Prop), Rc 0 σ a0 x1 x2 x3 Q → MetT l yX1_isUnlike (ws_ yX1_isUnlike cX1_isUnlike 8 (some .boolean)) (zrm (3 + nr) 0 0) (ZP X σ [jR X a0, jI x1, jI x2, jI x3]) (ZQ X (qZ (fun r σ' => Kp ws_X1_isUnlike σ σ' ∧ Q r σ')) (fun _ _ => False)) 0 0 (zA X)) (L3 : St → Int → Prop) (hL3 : ∀ (σ : St) (v4 : Int) (H : Heap) (locs : List Loc) (ls : Array Slot), L3 σ v4 → Wc X σ s.heap H locs → Kp ws_X1_isUnlike σ0 σ → tg σ a0 = 1 → rng v4 → lv_has ls 8 [(0, jR X a0), (1, jI x1), (2, jI x2), (3, jI x3), (4, jI v4)] → W p l e (zrm (3 + nr + 1) 0 0) s m args below meth c H locs 0 0 (MQT below (ZQ X (qZ (fun r σ' => Kp ws_X1_isUnlike σ0 σ' ∧ Q r σ')) (fun _ _ => False)) args s 0 0 (zA X)) (F0 m 3 ls [])) (L12 : St → Int → Int → Prop) (hL12 : ∀ (σ : St) (v4 : Int) (v5 : Int) (H : Heap) (locs : List Loc) (ls : Array Slot), L12 σ v4 v5 → Wc X σ s.heap H locs → Kp ws_X1_isUnlike σ0 σ → tg σ a0 = 1 → rng v4 → rng v5 → lv_has ls 8 [(0, jR X a0), (1, jI x1), (2, jI x2), (3, jI x3), (4, jI v4), (5, jI v5)] → W p l e (zrm (3 + nr + 1) 0 0) s m args below meth c H locs 0 0 (MQT below (ZQ X (qZ (fun r σ' => Kp ws_X1_isUnlike σ0 σ' ∧ Q r σ')) (fun _ _ => False)) args s 0 0 (zA X)) (F0 m 12 ls [])) : ∀ (σ : St) (v4 : Int) (v5 : Int) (H : Heap) (locs : List Loc) (ls : Array Slot), wp_X1_isUnlike_b60 a0 x1 x2 x3 Q σ0 Rc L3 L12 σ v4 v5 → Wc X σ s.heap H locs → Kp ws_X1_isUnlike σ0 σ → tg σ a0 = 1 → rng v4 → rng v5 → lv_has ls 8 [(0, jR X a0), (1, jI x1), (2, jI x2), (3, jI x3), (4, jI v4), (5, jI v5)] → W p l e (zrm (3 + nr + 1) 0 0) s m args below meth c H locs 0 0 (MQT below (ZQ X (qZ (fun r σ' => Kp ws_X1_isUnlike σ0 σ' ∧ Q r σ')) (fun _ _ => False)) args s 0 0 (zA X)) (F0 m 60 ls []) := by
  intro σ v4 v5 H locs ls h hw hk ht0 hv4 hv5 hl
  refine z_iconst (pc := 60) K dX1_isUnlike_60 ?_
  exact wk_X1_isUnlike_b61 a0 x1 x2 x3 Q σ0 Rc K hx1 hx2 hx3 nr hRc0 L3 hL3 L12 hL12 σ v4 v5 0 _ _ _ h hw hk ht0 hv4 hv5 ⟨by decide, by decide⟩ (lv_sub hl [0, 1, 2, 3, 4, 5] rfl)
set_option maxHeartbeats 4000000 in
theorem wk_X1_isUnlike_12 {X : Cxt} {p : Program} {l : Launch} {e : Env} {s : State} {m : MethodId} {args : Array Value} {below : List Frame} {meth : Method} {c : Code} (a0 : Int) (x1 : Int) (x2 : Int) (x3 : Int) (Q : Int → St → Prop) (σ0 : St) (Rc : Nat → St → Int → Int → Int → Int → (Int → St → Prop) → Prop) (K : MCx X p s m args meth c cX1_isUnlike 8 "CombTable" (some .boolean)) (hx1 : rng x1) (hx2 : rng x2) (hx3 : rng x3) (nr : Nat) (hRc0 : ∀ (σ : St) (a0 : Int) (x1 : Int) (x2 : Int) (x3 : Int) (ht0 : tg σ a0 = 1) (hx1 : rng x1) (hx2 : rng x2) (hx3 : rng x3) (Q : Int → St → Prop), Rc 0 σ a0 x1 x2 x3 Q → MetT l yX1_isUnlike (ws_ yX1_isUnlike cX1_isUnlike 8 (some .boolean)) (zrm (3 + nr) 0 0) (ZP X σ [jR X a0, jI x1, jI x2, jI x3]) (ZQ X (qZ (fun r σ' => Kp ws_X1_isUnlike σ σ' ∧ Q r σ')) (fun _ _ => False)) 0 0 (zA X)) (L3 : St → Int → Prop) (hL3 : ∀ (σ : St) (v4 : Int) (H : Heap) (locs : List Loc) (ls : Array Slot), L3 σ v4 → Wc X σ s.heap H locs → Kp ws_X1_isUnlike σ0 σ → tg σ a0 = 1 → rng v4 → lv_has ls 8 [(0, jR X a0), (1, jI x1), (2, jI x2), (3, jI x3), (4, jI v4)] → W p l e (zrm (3 + nr + 1) 0 0) s m args below meth c H locs 0 0 (MQT below (ZQ X (qZ (fun r σ' => Kp ws_X1_isUnlike σ0 σ' ∧ Q r σ')) (fun _ _ => False)) args s 0 0 (zA X)) (F0 m 3 ls [])) : ∀ (n : Nat), ∀ (σ : St) (v4 : Int) (v5 : Int) (H : Heap) (locs : List Loc) (ls : Array Slot), lp_X1_isUnlike_12 a0 x1 x2 x3 Q σ0 Rc L3 n σ v4 v5 → Wc X σ s.heap H locs → Kp ws_X1_isUnlike σ0 σ → tg σ a0 = 1 → rng v4 → rng v5 → lv_has ls 8 [(0, jR X a0), (1, jI x1), (2, jI x2), (3, jI x3), (4, jI v4), (5, jI v5)] → W p l e (zrm (3 + nr + 1) 0 0) s m args below meth c H locs 0 0 (MQT below (ZQ X (qZ (fun r σ' => Kp ws_X1_isUnlike σ0 σ' ∧ Q r σ')) (fun _ _ => False)) args s 0 0 (zA X)) (F0 m 12 ls []) := by
  intro n
  induction n with
  | zero => intro σ v4 v5 H locs ls h; exact h.elim
  | succ n ih =>
    intro σ v4 v5 H locs ls h hw hk ht0 hv4 hv5 hl
    have h := h hk
    refine lv_iload (pc := 12) K.x K.b dX1_isUnlike_12 (lv_at hl 5 rfl) ?_
    refine lv_iload_n (pc := 14) K.x K.b dX1_isUnlike_14 rfl (lv_at hl 2 rfl) ?_
    refine z_icmp_ge (pc := 15) (tgt := 237) K hv5 hx2 dX1_isUnlike_15 (by decide) (fun hc1 => ?_) (fun hc1 => ?_)
    · have h := ite_t h hc1
      refine z_aload_n (pc := 18) K dX1_isUnlike_18 rfl (lv_at hl 0 rfl) ?_
      refine z_get (pc := 19) (t := 1) (k := 9) K hw (ob ht0) zq1 (by decide) q527 (fun _ h => h) dX1_isUnlike_19 (zval_r kf_1_9) ?_
      refine lv_iload (pc := 22) K.x K.b dX1_isUnlike_22 (lv_at hl 4 rfl) ?_
      have hg2 : tg σ (σ a0 9 0) = 3 := (z_tg (t := 1) (r := 3) hw ht0 ⟨by decide, by decide⟩ kf_1_9 kn_1_9 kt_1_9 (by decide) (by decide))
      refine zr_z (pc := 24) (maxL := 2) K hw (met_X3_isWho X l σ (σ a0 9 0) v4 hg2 hv4 _ h) (i_V (n := 1) (t := 3) (As := [jI v4]) K hw (ob hg2) zq3 (by decide) q898 q899 q900 (sg_of K q901) rfl rfl dX1_isUnlike_24) (locw K q901 q94) (zr_ok2 (by omega) (by omega)) hl.1 dX1_isUnlike_24 (Nat.le_of_ble_eq_true rfl) ⟨Nat.le_refl _, Nat.le_refl _⟩ (fun r3 _ _ hr4 h hw7 => ?_)
      refine z_if_eq (pc := 27) (tgt := 60) K (b01r hr4) dX1_isUnlike_27 (by decide) (fun hc8 => ?_) (fun hc8 => ?_)
      · have h := ite_t h hc8
        exact wk_X1_isUnlike_b60 a0 x1 x2 x3 Q σ0 Rc K hx1 hx2 hx3 nr hRc0 L3 hL3 (lp_X1_isUnlike_12 a0 x1 x2 x3 Q σ0 Rc L3 n) ih σ v4 v5 _ _ _ h hw7 hk ht0 hv4 hv5 (lv_sub hl [0, 1, 2, 3, 4, 5] rfl)
      · have h := ite_f h hc8
        refine z_aload_n (pc := 30) K dX1_isUnlike_30 rfl (lv_at hl 0 rfl) ?_
        refine z_get (pc := 31) (t := 1) (k := 9) K hw7 (ob ht0) zq1 (by decide) q527 (fun _ h => h) dX1_isUnlike_31 (zval_r kf_1_9) ?_
        refine lv_iload (pc := 34) K.x K.b dX1_isUnlike_34 (lv_at hl 5 rfl) ?_
        refine zr_z (pc := 36) (maxL := 2) K hw7 (met_X3_isKind X l σ (σ a0 9 0) v5 hg2 hv5 _ h) (i_V (n := 1) (t := 3) (As := [jI v5]) K hw7 (ob hg2) zq3 (by decide) q907 q908 q909 (sg_of K q910) rfl rfl dX1_isUnlike_36) (locw K q910 q94) (zr_ok2 (by omega) (by omega)) hl.1 dX1_isUnlike_36 (Nat.le_of_ble_eq_true rfl) ⟨Nat.le_refl _, Nat.le_refl _⟩ (fun r9 _ _ hr10 h hw13 => ?_)
        refine z_if_eq (pc := 39) (tgt := 60) K (b01r hr10) dX1_isUnlike_39 (by decide) (fun hc14 => ?_) (fun hc14 => ?_)
        · have h := ite_t h hc14
          exact wk_X1_isUnlike_b60 a0 x1 x2 x3 Q σ0 Rc K hx1 hx2 hx3 nr hRc0 L3 hL3 (lp_X1_isUnlike_12 a0 x1 x2 x3 Q σ0 Rc L3 n) ih σ v4 v5 _ _ _ h hw13 hk ht0 hv4 hv5 (lv_sub hl [0, 1, 2, 3, 4, 5] rfl)
        · have h := ite_f h hc14
          refine z_aload_n (pc := 42) K dX1_isUnlike_42 rfl (lv_at hl 0 rfl) ?_
          refine z_get (pc := 43) (t := 1) (k := 9) K hw13 (ob ht0) zq1 (by decide) q527 (fun _ h => h) dX1_isUnlike_43 (zval_r kf_1_9) ?_
          refine lv_iload (pc := 46) K.x K.b dX1_isUnlike_46 (lv_at hl 4 rfl) ?_
          refine lv_iload (pc := 48) K.x K.b dX1_isUnlike_48 (lv_at hl 5 rfl) ?_
          refine zr_i (pc := 50) (maxL := 5) K hw13 (met_X3_why X l σ (σ a0 9 0) v4 v5 hg2 hv4 hv5 _ h) (i_V (n := 2) (t := 3) (As := [jI v4, jI v5]) K hw13 (ob hg2) zq3 (by decide) q944 q916 q917 (sg_of K q918) rfl rfl dX1_isUnlike_50) (locw K q918 q94) (zr_ok2 (by omega) (by omega)) hl.1 dX1_isUnlike_50 (Nat.le_of_ble_eq_true rfl) ⟨Nat.le_refl _, Nat.le_refl _⟩ (fun r15 _ _ hr16 h hw19 => ?_)
          refine z_if_ne (pc := 53) (tgt := 60) K hr16 dX1_isUnlike_53 (by decide) (fun hc20 => ?_) (fun hc20 => ?_)
          · have h := ite_t h hc20
            refine z_iconst (pc := 56) K dX1_isUnlike_56 ?_
            refine z_goto (pc := 57) (tgt := 61) K dX1_isUnlike_57 (by decide) ?_
            exact wk_X1_isUnlike_b61 a0 x1 x2 x3 Q σ0 Rc K hx1 hx2 hx3 nr hRc0 L3 hL3 (lp_X1_isUnlike_12 a0 x1 x2 x3 Q σ0 Rc L3 n) ih σ v4 v5 1 _ _ _ h hw19 hk ht0 hv4 hv5 ⟨by decide, by decide⟩ (lv_sub hl [0, 1, 2, 3, 4, 5] rfl)
          · have h := ite_f h hc20
            exact wk_X1_isUnlike_b60 a0 x1 x2 x3 Q σ0 Rc K hx1 hx2 hx3 nr hRc0 L3 hL3 (lp_X1_isUnlike_12 a0 x1 x2 x3 Q σ0 Rc L3 n) ih σ v4 v5 _ _ _ h hw19 hk ht0 hv4 hv5 (lv_sub hl [0, 1, 2, 3, 4, 5] rfl)
    · have h := ite_f h hc1
      refine z_iinc (pc := 237) (k := 4) (lv' := [(4, jI (v4 + 1)), (0, jR X a0), (1, jI x1), (2, jI x2), (3, jI x3), (5, jI v5)]) K dX1_isUnlike_237 hl rfl (by decide) rfl (fun ls hl => ?_)
      refine z_goto (pc := 240) (tgt := 3) K dX1_isUnlike_240 (by decide) ?_
      obtain ⟨hr21, h⟩ := h
      exact hL3 σ (v4 + 1) _ _ _ h hw hk ht0 hr21 (lv_sub hl [1, 2, 3, 4, 0] rfl)
set_option maxHeartbeats 4000000 in
theorem wk_X1_isUnlike_3 {X : Cxt} {p : Program} {l : Launch} {e : Env} {s : State} {m : MethodId} {args : Array Value} {below : List Frame} {meth : Method} {c : Code} (a0 : Int) (x1 : Int) (x2 : Int) (x3 : Int) (Q : Int → St → Prop) (σ0 : St) (Rc : Nat → St → Int → Int → Int → Int → (Int → St → Prop) → Prop) (K : MCx X p s m args meth c cX1_isUnlike 8 "CombTable" (some .boolean)) (hx1 : rng x1) (hx2 : rng x2) (hx3 : rng x3) (nr : Nat) (hRc0 : ∀ (σ : St) (a0 : Int) (x1 : Int) (x2 : Int) (x3 : Int) (ht0 : tg σ a0 = 1) (hx1 : rng x1) (hx2 : rng x2) (hx3 : rng x3) (Q : Int → St → Prop), Rc 0 σ a0 x1 x2 x3 Q → MetT l yX1_isUnlike (ws_ yX1_isUnlike cX1_isUnlike 8 (some .boolean)) (zrm (3 + nr) 0 0) (ZP X σ [jR X a0, jI x1, jI x2, jI x3]) (ZQ X (qZ (fun r σ' => Kp ws_X1_isUnlike σ σ' ∧ Q r σ')) (fun _ _ => False)) 0 0 (zA X)) : ∀ (n : Nat), ∀ (σ : St) (v4 : Int) (H : Heap) (locs : List Loc) (ls : Array Slot), lp_X1_isUnlike_3 a0 x1 x2 x3 Q σ0 Rc n σ v4 → Wc X σ s.heap H locs → Kp ws_X1_isUnlike σ0 σ → tg σ a0 = 1 → rng v4 → lv_has ls 8 [(0, jR X a0), (1, jI x1), (2, jI x2), (3, jI x3), (4, jI v4)] → W p l e (zrm (3 + nr + 1) 0 0) s m args below meth c H locs 0 0 (MQT below (ZQ X (qZ (fun r σ' => Kp ws_X1_isUnlike σ0 σ' ∧ Q r σ')) (fun _ _ => False)) args s 0 0 (zA X)) (F0 m 3 ls []) := by
  intro n
  induction n with
  | zero => intro σ v4 H locs ls h; exact h.elim
  | succ n ih =>
    intro σ v4 H locs ls h hw hk ht0 hv4 hl
    have h := h hk
    refine lv_iload (pc := 3) K.x K.b dX1_isUnlike_3 (lv_at hl 4 rfl) ?_
    refine lv_iload_n (pc := 5) K.x K.b dX1_isUnlike_5 rfl (lv_at hl 1 rfl) ?_
    refine z_icmp_ge (pc := 6) (tgt := 243) K hv4 hx1 dX1_isUnlike_6 (by decide) (fun hc1 => ?_) (fun hc1 => ?_)
    · have h := ite_t h hc1
      refine z_iconst (pc := 9) K dX1_isUnlike_9 ?_
      refine lv_istore (pc := 10) (lv' := [(5, jI 0), (0, jR X a0), (1, jI x1), (2, jI x2), (3, jI x3), (4, jI v4)]) K.x K.b dX1_isUnlike_10 hl (by decide) rfl (fun ls hl => ?_)
      obtain ⟨n2, h⟩ := h
      exact wk_X1_isUnlike_12 a0 x1 x2 x3 Q σ0 Rc K hx1 hx2 hx3 nr hRc0 (lp_X1_isUnlike_3 a0 x1 x2 x3 Q σ0 Rc n) ih n2 σ v4 0 _ _ _ h hw hk ht0 hv4 ⟨by decide, by decide⟩ (lv_sub hl [1, 2, 3, 4, 5, 0] rfl)
    · have h := ite_f h hc1
      refine z_iconst (pc := 243) K dX1_isUnlike_243 ?_
      exact z_zret (pc := 244) K hw ⟨by decide, by decide⟩ ⟨hk, h⟩ dX1_isUnlike_244
set_option maxHeartbeats 4000000 in
theorem mb_X1_isUnlike (X : Cxt) (l : Launch) (nr : Nat) (Rc : Nat → St → Int → Int → Int → Int → (Int → St → Prop) → Prop) (hRc0 : ∀ (σ : St) (a0 : Int) (x1 : Int) (x2 : Int) (x3 : Int) (ht0 : tg σ a0 = 1) (hx1 : rng x1) (hx2 : rng x2) (hx3 : rng x3) (Q : Int → St → Prop), Rc 0 σ a0 x1 x2 x3 Q → MetT l yX1_isUnlike (ws_ yX1_isUnlike cX1_isUnlike 8 (some .boolean)) (zrm (3 + nr) 0 0) (ZP X σ [jR X a0, jI x1, jI x2, jI x3]) (ZQ X (qZ (fun r σ' => Kp ws_X1_isUnlike σ σ' ∧ Q r σ')) (fun _ _ => False)) 0 0 (zA X)) (σ : St) (a0 : Int) (x1 : Int) (x2 : Int) (x3 : Int) (ht0 : tg σ a0 = 1) (hx1 : rng x1) (hx2 : rng x2) (hx3 : rng x3) (Q : Int → St → Prop) (h : bd_X1_isUnlike Rc σ a0 x1 x2 x3 Q) : MetT l yX1_isUnlike (ws_ yX1_isUnlike cX1_isUnlike 8 (some .boolean)) (zrm (3 + nr + 1) 0 0) (ZP X σ [jR X a0, jI x1, jI x2, jI x3]) (ZQ X (qZ (fun r σ' => Kp ws_X1_isUnlike σ σ' ∧ Q r σ')) (fun _ _ => False)) 0 0 (zA X) := by
  refine z_start (own := "CombTable") (lv := [(0, jR X a0), (1, jI x1), (2, jI x2), (3, jI x3)]) (by decide) rfl (by simp [lv_args, jR_cat, jI_cat, jL_cat]) (by simp [lg_sl, jR_cat, jI_cat, jL_cat]) (fun p e s m below meth c ls K _ _ hw hl => ?_)
  have hk : Kp ws_X1_isUnlike σ σ := kp_rf σ
  refine z_iconst (pc := 0) K dX1_isUnlike_0 ?_
  refine lv_istore (pc := 1) (lv' := [(4, jI 0), (0, jR X a0), (1, jI x1), (2, jI x2), (3, jI x3)]) K.x K.b dX1_isUnlike_1 hl (by decide) rfl (fun ls hl => ?_)
  obtain ⟨n1, h⟩ := h
  exact wk_X1_isUnlike_3 a0 x1 x2 x3 Q σ Rc K hx1 hx2 hx3 nr hRc0 n1 σ 0 _ _ _ h hw hk ht0 ⟨by decide, by decide⟩ (lv_sub hl [1, 2, 3, 4, 0] rfl)
theorem mg_X1_isUnlike (X : Cxt) (l : Launch) : ∀ n : Nat, (∀ (σ : St) (a0 : Int) (x1 : Int) (x2 : Int) (x3 : Int) (ht0 : tg σ a0 = 1) (hx1 : rng x1) (hx2 : rng x2) (hx3 : rng x3) (Q : Int → St → Prop), wg_X1_isUnlike n 0 σ a0 x1 x2 x3 Q → MetT l yX1_isUnlike (ws_ yX1_isUnlike cX1_isUnlike 8 (some .boolean)) (zrm (3 + n) 0 0) (ZP X σ [jR X a0, jI x1, jI x2, jI x3]) (ZQ X (qZ (fun r σ' => Kp ws_X1_isUnlike σ σ' ∧ Q r σ')) (fun _ _ => False)) 0 0 (zA X)) := by
  intro n
  induction n with
  | zero => exact fun σ a0 x1 x2 x3 ht0 hx1 hx2 hx3 Q h => h.elim
  | succ n ih => exact fun σ a0 x1 x2 x3 ht0 hx1 hx2 hx3 Q h => mb_X1_isUnlike X l n (wg_X1_isUnlike n) ih σ a0 x1 x2 x3 ht0 hx1 hx2 hx3 Q h
theorem met_X1_isUnlike (X : Cxt) (l : Launch) (n : Nat) (σ : St) (a0 : Int) (x1 : Int) (x2 : Int) (x3 : Int) (ht0 : tg σ a0 = 1) (hx1 : rng x1) (hx2 : rng x2) (hx3 : rng x3) (Q : Int → St → Prop) (h : wg_X1_isUnlike n 0 σ a0 x1 x2 x3 Q) : MetT l yX1_isUnlike (ws_ yX1_isUnlike cX1_isUnlike 8 (some .boolean)) (zrm (3 + n) 0 0) (ZP X σ [jR X a0, jI x1, jI x2, jI x3]) (ZQ X (qZ (fun r σ' => Kp ws_X1_isUnlike σ σ' ∧ Q r σ')) (fun _ _ => False)) 0 0 (zA X) := (mg_X1_isUnlike X l n) σ a0 x1 x2 x3 ht0 hx1 hx2 hx3 Q h
def ws_X1_keepFound : List (Int × Nat) := [(1, 30), (1, 31)]
theorem wo_X1_keepFound : wsOk ws_X1_keepFound = true := rfl
def lp_X1_keepFound_7 (a0 : Int) (x1 : Int) (x2 : Int) (Q : St → Prop) (σ0 : St) : Nat → St → Int → Prop
  | 0 => fun _ _ => False
  | n + 1 => fun σ v3 => 
    Kp ws_X1_keepFound σ0 σ → (if v3 < x1 then
      (0 ≤ x2 + v3 ∧ x2 + v3 < 400) ∧ (0 ≤ v3 ∧ v3 < 8) ∧ rng ((16 * (σ (σ a0 9 0) 1 (x2 + v3))) + (σ (σ a0 9 0) 2 (x2 + v3))) ∧ ∀ σ7 : St, σ7 = st σ a0 30 v3 ((16 * (σ (σ a0 9 0) 1 (x2 + v3))) + (σ (σ a0 9 0) 2 (x2 + v3))) → rng (v3 + 1) ∧ (lp_X1_keepFound_7 a0 x1 x2 Q σ0 n σ7 (v3 + 1))
      else
      Q σ)
def wp_X1_keepFound (σ : St) (a0 : Int) (x1 : Int) (x2 : Int) (Q : St → Prop) : Prop :=
  ∀ σ2 : St, σ2 = st σ a0 31 0 x1 → (∃ kk, lp_X1_keepFound_7 a0 x1 x2 Q σ kk σ2 0)
set_option maxHeartbeats 4000000 in
theorem wk_X1_keepFound_7 {X : Cxt} {p : Program} {l : Launch} {e : Env} {s : State} {m : MethodId} {args : Array Value} {below : List Frame} {meth : Method} {c : Code} (a0 : Int) (x1 : Int) (x2 : Int) (Q : St → Prop) (σ0 : St) (K : MCx X p s m args meth c cX1_keepFound 4 "CombTable" (none)) (hx1 : rng x1) (hx2 : rng x2) : ∀ (n : Nat), ∀ (σ : St) (v3 : Int) (H : Heap) (locs : List Loc) (ls : Array Slot), lp_X1_keepFound_7 a0 x1 x2 Q σ0 n σ v3 → Wc X σ s.heap H locs → Kp ws_X1_keepFound σ0 σ → tg σ a0 = 1 → rng v3 → lv_has ls 4 [(0, jR X a0), (1, jI x1), (2, jI x2), (3, jI v3)] → W p l e (zrm 1 0 0) s m args below meth c H locs 0 0 (MQT below (ZQ X (qV (fun σ' => Kp ws_X1_keepFound σ0 σ' ∧ Q σ')) (fun _ _ => False)) args s 0 0 (zA X)) (F0 m 7 ls []) := by
  intro n
  induction n with
  | zero => intro σ v3 H locs ls h; exact h.elim
  | succ n ih =>
    intro σ v3 H locs ls h hw hk ht0 hv3 hl
    have h := h hk
    refine lv_iload_n (pc := 7) K.x K.b dX1_keepFound_7 rfl (lv_at hl 3 rfl) ?_
    refine lv_iload_n (pc := 8) K.x K.b dX1_keepFound_8 rfl (lv_at hl 1 rfl) ?_
    refine z_icmp_ge (pc := 9) (tgt := 50) K hv3 hx1 dX1_keepFound_9 (by decide) (fun hc1 => ?_) (fun hc1 => ?_)
    · have h := ite_t h hc1
      refine z_aload_n (pc := 12) K dX1_keepFound_12 rfl (lv_at hl 0 rfl) ?_
      refine z_get (pc := 13) (t := 1) (k := 30) K hw (ob ht0) zq1 (by decide) q548 (fun _ h => h) dX1_keepFound_13 (zval_p (κ := 1) kf_1_30) ?_
      refine lv_iload_n (pc := 16) K.x K.b dX1_keepFound_16 rfl (lv_at hl 3 rfl) ?_
      refine z_bipush (pc := 17) K dX1_keepFound_17 (by decide) ?_
      refine z_aload_n (pc := 19) K dX1_keepFound_19 rfl (lv_at hl 0 rfl) ?_
      refine z_get (pc := 20) (t := 1) (k := 9) K hw (ob ht0) zq1 (by decide) q527 (fun _ h => h) dX1_keepFound_20 (zval_r kf_1_9) ?_
      have hg2 : tg σ (σ a0 9 0) = 3 := (z_tg (t := 1) (r := 3) hw ht0 ⟨by decide, by decide⟩ kf_1_9 kn_1_9 kt_1_9 (by decide) (by decide))
      refine z_getN (pc := 23) (t := 3) (k := 1) K hw (ob hg2) zq3 (by decide) q306 (fun _ h => h) dX1_keepFound_23 (zval_p (κ := 1) kf_3_1) ?_
      refine lv_iload_n (pc := 26) K.x K.b dX1_keepFound_26 rfl (lv_at hl 2 rfl) ?_
      refine lv_iload_n (pc := 27) K.x K.b dX1_keepFound_27 rfl (lv_at hl 3 rfl) ?_
      refine z_iadd (pc := 28) K dX1_keepFound_28 ?_
      obtain ⟨hj3, h⟩ := h
      refine z_iald (pc := 29) (t := 3) K hw hg2 ⟨by decide, by decide⟩ kf_3_1 kl_3_1 hj3 (by decide) dX1_keepFound_29 ?_
      refine z_imul (pc := 30) K dX1_keepFound_30 ?_
      refine z_aload_n (pc := 31) K dX1_keepFound_31 rfl (lv_at hl 0 rfl) ?_
      refine z_get (pc := 32) (t := 1) (k := 9) K hw (ob ht0) zq1 (by decide) q527 (fun _ h => h) dX1_keepFound_32 (zval_r kf_1_9) ?_
      refine z_getN (pc := 35) (t := 3) (k := 2) K hw (ob hg2) zq3 (by decide) q309 (fun _ h => h) dX1_keepFound_35 (zval_p (κ := 1) kf_3_2) ?_
      refine lv_iload_n (pc := 38) K.x K.b dX1_keepFound_38 rfl (lv_at hl 2 rfl) ?_
      refine lv_iload_n (pc := 39) K.x K.b dX1_keepFound_39 rfl (lv_at hl 3 rfl) ?_
      refine z_iadd (pc := 40) K dX1_keepFound_40 ?_
      refine z_iald (pc := 41) (t := 3) K hw hg2 ⟨by decide, by decide⟩ kf_3_2 kl_3_2 hj3 (by decide) dX1_keepFound_41 ?_
      refine z_iadd (pc := 42) K dX1_keepFound_42 ?_
      obtain ⟨hj4, h⟩ := h
      obtain ⟨hr5, h⟩ := h
      refine z_iast (pc := 43) (t := 1) K hw ht0 ⟨by decide, by decide⟩ kf_1_30 kl_1_30 hj4 (by decide) hr5 dX1_keepFound_43 (fun _ _ hw6 => ?_)
      obtain ⟨σ7, e8⟩ : ∃ z, z = st σ a0 30 v3 ((16 * (σ (σ a0 9 0) 1 (x2 + v3))) + (σ (σ a0 9 0) 2 (x2 + v3))) := ⟨_, rfl⟩
      have h := h σ7 e8
      have hw6 := wc_e e8 hw6
      have hk9 := kp_e e8 hk wo_X1_keepFound hj4.1 ht0 (t := 1) (by decide)
      have hg10 : tg σ7 a0 = 1 := (tg_e e8 (by decide)).trans ht0
      refine z_iinc (pc := 44) (k := 3) (lv' := [(3, jI (v3 + 1)), (0, jR X a0), (1, jI x1), (2, jI x2)]) K dX1_keepFound_44 hl rfl (by decide) rfl (fun ls hl => ?_)
      refine z_goto (pc := 47) (tgt := 7) K dX1_keepFound_47 (by decide) ?_
      obtain ⟨hr11, h⟩ := h
      exact ih σ7 (v3 + 1) _ _ _ h hw6 hk9 hg10 hr11 (lv_sub hl [1, 2, 3, 0] rfl)
    · have h := ite_f h hc1
      exact z_vret (pc := 50) K hw ⟨hk, h⟩ dX1_keepFound_50
set_option maxHeartbeats 4000000 in
theorem met_X1_keepFound (X : Cxt) (l : Launch) (σ : St) (a0 : Int) (x1 : Int) (x2 : Int) (ht0 : tg σ a0 = 1) (hx1 : rng x1) (hx2 : rng x2) (Q : St → Prop) (h : wp_X1_keepFound σ a0 x1 x2 Q) : MetT l yX1_keepFound (ws_ yX1_keepFound cX1_keepFound 4 (none)) (zrm 1 0 0) (ZP X σ [jR X a0, jI x1, jI x2]) (ZQ X (qV (fun σ' => Kp ws_X1_keepFound σ σ' ∧ Q σ')) (fun _ _ => False)) 0 0 (zA X) := by
  refine z_start (own := "CombTable") (lv := [(0, jR X a0), (1, jI x1), (2, jI x2)]) (by decide) rfl (by simp [lv_args, jR_cat, jI_cat, jL_cat]) (by simp [lg_sl, jR_cat, jI_cat, jL_cat]) (fun p e s m below meth c ls K _ _ hw hl => ?_)
  have hk : Kp ws_X1_keepFound σ σ := kp_rf σ
  refine z_aload_n (pc := 0) K dX1_keepFound_0 rfl (lv_at hl 0 rfl) ?_
  refine lv_iload_n (pc := 1) K.x K.b dX1_keepFound_1 rfl (lv_at hl 1 rfl) ?_
  refine z_puti (pc := 2) (t := 1) 31 K hw (ob ht0) zq1 (by decide) kf_1_31 zt_1_31 hx1 q549 (fun _ h => h) rfl dX1_keepFound_2 (fun _ _ hw1 => ?_)
  obtain ⟨σ2, e3⟩ : ∃ z, z = st σ a0 31 0 x1 := ⟨_, rfl⟩
  have h := h σ2 e3
  have hw1 := wc_e e3 hw1
  have hk4 := kp_e e3 hk wo_X1_keepFound (by decide) ht0 (t := 1) (by decide)
  have hg5 : tg σ2 a0 = 1 := (tg_e e3 (by decide)).trans ht0
  refine z_iconst (pc := 5) K dX1_keepFound_5 ?_
  refine lv_istore_n (pc := 6) (lv' := [(3, jI 0), (0, jR X a0), (1, jI x1), (2, jI x2)]) K.x K.b dX1_keepFound_6 rfl hl (by decide) rfl (fun ls hl => ?_)
  obtain ⟨n6, h⟩ := h
  exact wk_X1_keepFound_7 a0 x1 x2 Q σ K hx1 hx2 n6 σ2 0 _ _ _ h hw1 hk4 hg5 ⟨by decide, by decide⟩ (lv_sub hl [1, 2, 3, 0] rfl)
def ws_X1_leads : List (Int × Nat) := [(3, 1), (3, 2), (3, 3), (3, 4), (3, 5), (3, 6), (3, 7), (3, 8), (3, 9)]
theorem wo_X1_leads : wsOk ws_X1_leads = true := rfl
def lp_X1_leads_67 (a0 : Int) (x1 : Int) (x2 : Int) (x3 : Int) (x4 : Int) (Q : Int → St → Prop) (σ0 : St) (Rc : Nat → St → Int → Int → Int → Int → Int → (Int → St → Prop) → Prop) (L36 : St → Int → Prop) : Nat → St → Int → Int → Prop
  | 0 => fun _ _ _ => False
  | n + 1 => fun σ v5 v6 => 
    Kp ws_X1_leads σ0 σ → (if v6 < σ (σ (σ a0 8 0) 0 0) 4 0 then
      (if v5 = x4 then
        rng (v5 + 1) ∧ (L36 σ (v5 + 1))
        else
        wp_X3_tries σ (σ a0 9 0) v5 v6 (fun r7 σ10 => Kp ws_X3_tries σ σ10 → (if 0 < r7 then
          rng (v6 + 1) ∧ (lp_X1_leads_67 a0 x1 x2 x3 x4 Q σ0 Rc L36 n σ10 v5 (v6 + 1))
          else
          rng (x3 - 1) ∧ Rc 0 σ10 a0 x1 x2 (x3 - 1) x4 (fun r18 σ21 => Kp ws_X1_leads σ10 σ21 → (if r18 = 0 then
            wp_X3_undo σ21 (σ21 a0 9 0) (fun σ31 => Kp ws_X3_undo σ21 σ31 → rng (v6 + 1) ∧ (lp_X1_leads_67 a0 x1 x2 x3 x4 Q σ0 Rc L36 n σ31 v5 (v6 + 1)))
            else
            Q 1 σ21)))))
      else
      rng (v5 + 1) ∧ (L36 σ (v5 + 1)))
def lp_X1_leads_36 (a0 : Int) (x1 : Int) (x2 : Int) (x3 : Int) (x4 : Int) (Q : Int → St → Prop) (σ0 : St) (Rc : Nat → St → Int → Int → Int → Int → Int → (Int → St → Prop) → Prop) : Nat → St → Int → Prop
  | 0 => fun _ _ => False
  | n + 1 => fun σ v5 => 
    Kp ws_X1_leads σ0 σ → (if v5 < σ (σ (σ a0 8 0) 0 0) 3 0 then
      (if σ (σ a0 9 0) 8 0 < 400 then
        (∃ kk, lp_X1_leads_67 a0 x1 x2 x3 x4 Q σ0 Rc (lp_X1_leads_36 a0 x1 x2 x3 x4 Q σ0 Rc n) kk σ v5 0)
        else
        Q 0 σ)
      else
      Q 0 σ)
def bd_X1_leads (Rc : Nat → St → Int → Int → Int → Int → Int → (Int → St → Prop) → Prop) (σ : St) (a0 : Int) (x1 : Int) (x2 : Int) (x3 : Int) (x4 : Int) (Q : Int → St → Prop) : Prop :=
  (if x3 = 0 then
    (if x1 < σ (σ a0 9 0) 8 0 then
      wp_X3_stateOf σ (σ a0 9 0) x1 (fun r4 => (if r4 = x2 then
        Q 1 σ
        else
        Q 0 σ))
      else
      Q 0 σ)
    else
    (∃ kk, lp_X1_leads_36 a0 x1 x2 x3 x4 Q σ Rc kk σ 0))
def wg_X1_leads : Nat → Nat → St → Int → Int → Int → Int → Int → (Int → St → Prop) → Prop
  | 0 => fun _ _ _ _ _ _ _ _ => False
  | n + 1 => fun i => match i with
    | _ => bd_X1_leads (wg_X1_leads n)
set_option maxHeartbeats 4000000 in
theorem wk_X1_leads_67 {X : Cxt} {p : Program} {l : Launch} {e : Env} {s : State} {m : MethodId} {args : Array Value} {below : List Frame} {meth : Method} {c : Code} (a0 : Int) (x1 : Int) (x2 : Int) (x3 : Int) (x4 : Int) (Q : Int → St → Prop) (σ0 : St) (Rc : Nat → St → Int → Int → Int → Int → Int → (Int → St → Prop) → Prop) (K : MCx X p s m args meth c cX1_leads 7 "CombTable" (some .boolean)) (hx1 : rng x1) (hx2 : rng x2) (hx3 : rng x3) (hx4 : rng x4) (nr : Nat) (hRc0 : ∀ (σ : St) (a0 : Int) (x1 : Int) (x2 : Int) (x3 : Int) (x4 : Int) (ht0 : tg σ a0 = 1) (hx1 : rng x1) (hx2 : rng x2) (hx3 : rng x3) (hx4 : rng x4) (Q : Int → St → Prop), Rc 0 σ a0 x1 x2 x3 x4 Q → MetT l yX1_leads (ws_ yX1_leads cX1_leads 7 (some .boolean)) (zrm (4 + nr) 0 0) (ZP X σ [jR X a0, jI x1, jI x2, jI x3, jI x4]) (ZQ X (qZ (fun r σ' => Kp ws_X1_leads σ σ' ∧ Q r σ')) (fun _ _ => False)) 0 0 (zA X)) (L36 : St → Int → Prop) (hL36 : ∀ (σ : St) (v5 : Int) (H : Heap) (locs : List Loc) (ls : Array Slot), L36 σ v5 → Wc X σ s.heap H locs → Kp ws_X1_leads σ0 σ → tg σ a0 = 1 → rng v5 → lv_has ls 7 [(0, jR X a0), (1, jI x1), (2, jI x2), (3, jI x3), (4, jI x4), (5, jI v5)] → W p l e (zrm (4 + nr + 1) 0 0) s m args below meth c H locs 0 0 (MQT below (ZQ X (qZ (fun r σ' => Kp ws_X1_leads σ0 σ' ∧ Q r σ')) (fun _ _ => False)) args s 0 0 (zA X)) (F0 m 36 ls [])) : ∀ (n : Nat), ∀ (σ : St) (v5 : Int) (v6 : Int) (H : Heap) (locs : List Loc) (ls : Array Slot), lp_X1_leads_67 a0 x1 x2 x3 x4 Q σ0 Rc L36 n σ v5 v6 → Wc X σ s.heap H locs → Kp ws_X1_leads σ0 σ → tg σ a0 = 1 → rng v5 → rng v6 → lv_has ls 7 [(0, jR X a0), (1, jI x1), (2, jI x2), (3, jI x3), (4, jI x4), (5, jI v5), (6, jI v6)] → W p l e (zrm (4 + nr + 1) 0 0) s m args below meth c H locs 0 0 (MQT below (ZQ X (qZ (fun r σ' => Kp ws_X1_leads σ0 σ' ∧ Q r σ')) (fun _ _ => False)) args s 0 0 (zA X)) (F0 m 67 ls []) := by
  intro n
  induction n with
  | zero => intro σ v5 v6 H locs ls h; exact h.elim
  | succ n ih =>
    intro σ v5 v6 H locs ls h hw hk ht0 hv5 hv6 hl
    have h := h hk
    refine lv_iload (pc := 67) K.x K.b dX1_leads_67 (lv_at hl 6 rfl) ?_
    refine z_aload_n (pc := 69) K dX1_leads_69 rfl (lv_at hl 0 rfl) ?_
    refine z_get (pc := 70) (t := 1) (k := 8) K hw (ob ht0) zq1 (by decide) q524 (fun _ h => h) dX1_leads_70 (zval_r kf_1_8) ?_
    have hg1 : tg σ (σ a0 8 0) = 3 := (z_tg (t := 1) (r := 3) hw ht0 ⟨by decide, by decide⟩ kf_1_8 kn_1_8 kt_1_8 (by decide) (by decide))
    refine z_getN (pc := 73) (t := 3) (k := 0) K hw (ob hg1) zq3 (by decide) q303 (fun _ h => h) dX1_leads_73 (zval_r kf_3_0) ?_
    have hg2 : tg σ (σ (σ a0 8 0) 0 0) = 4 := (z_tg (t := 3) (r := 4) hw hg1 ⟨by decide, by decide⟩ kf_3_0 kn_3_0 kt_3_0 (by decide) (by decide))
    refine z_getN (pc := 76) (t := 4) (k := 4) K hw (ob hg2) zq4 (by decide) q267 (fun _ h => h) dX1_leads_76 (zval_i kf_4_4) ?_
    refine z_icmp_ge (pc := 79) (tgt := 135) K hv6 (z_rI hw (ob (t := 4) hg2) kf_4_4) dX1_leads_79 (by decide) (fun hc3 => ?_) (fun hc3 => ?_)
    · have h := ite_t h hc3
      refine lv_iload (pc := 82) K.x K.b dX1_leads_82 (lv_at hl 5 rfl) ?_
      refine lv_iload (pc := 84) K.x K.b dX1_leads_84 (lv_at hl 4 rfl) ?_
      refine z_icmp_eq (pc := 86) (tgt := 135) K hv5 hx4 dX1_leads_86 (by decide) (fun hc4 => ?_) (fun hc4 => ?_)
      · have h := ite_t h hc4
        refine z_iinc (pc := 135) (k := 5) (lv' := [(5, jI (v5 + 1)), (0, jR X a0), (1, jI x1), (2, jI x2), (3, jI x3), (4, jI x4), (6, jI v6)]) K dX1_leads_135 hl rfl (by decide) rfl (fun ls hl => ?_)
        refine z_goto (pc := 138) (tgt := 36) K dX1_leads_138 (by decide) ?_
        obtain ⟨hr5, h⟩ := h
        exact hL36 σ (v5 + 1) _ _ _ h hw hk ht0 hr5 (lv_sub hl [1, 2, 3, 4, 5, 0] rfl)
      · have h := ite_f h hc4
        refine z_aload_n (pc := 89) K dX1_leads_89 rfl (lv_at hl 0 rfl) ?_
        refine z_get (pc := 90) (t := 1) (k := 9) K hw (ob ht0) zq1 (by decide) q527 (fun _ h => h) dX1_leads_90 (zval_r kf_1_9) ?_
        refine lv_iload (pc := 93) K.x K.b dX1_leads_93 (lv_at hl 5 rfl) ?_
        refine lv_iload (pc := 95) K.x K.b dX1_leads_95 (lv_at hl 6 rfl) ?_
        have hg6 : tg σ (σ a0 9 0) = 3 := (z_tg (t := 1) (r := 3) hw ht0 ⟨by decide, by decide⟩ kf_1_9 kn_1_9 kt_1_9 (by decide) (by decide))
        refine zc_i (pc := 97) (maxL := 4) K hw (met_X3_tries X l σ (σ a0 9 0) v5 v6 hg6 hv5 hv6 _ h) (i_V (n := 2) (t := 3) (As := [jI v5, jI v6]) K hw (ob hg6) zq3 (by decide) q911 q912 q913 (sg_of K q914) rfl rfl dX1_leads_97) (locw K q914 q94) (zr_ok2 (by omega) (by omega)) hl.1 dX1_leads_97 (Nat.le_of_ble_eq_true rfl) ⟨Nat.le_refl _, Nat.le_refl _⟩ (fun r7 σ10 _ _ hr8 hq9 hw11 => ?_)
        obtain ⟨hk12, h⟩ := hq9
        have h := h hk12
        have hk13 := kp_trans wo_X1_leads hk hk12 (fun _ q => q) (by decide)
        have hg14 : tg σ10 a0 = 1 := kp_tg hk12 wo_X3_tries ht0 (by decide)
        refine z_if_le (pc := 100) (tgt := 106) K hr8 dX1_leads_100 (by decide) (fun hc15 => ?_) (fun hc15 => ?_)
        · have h := ite_t h hc15
          refine z_goto (pc := 103) (tgt := 129) K dX1_leads_103 (by decide) ?_
          refine z_iinc (pc := 129) (k := 6) (lv' := [(6, jI (v6 + 1)), (0, jR X a0), (1, jI x1), (2, jI x2), (3, jI x3), (4, jI x4), (5, jI v5)]) K dX1_leads_129 hl rfl (by decide) rfl (fun ls hl => ?_)
          refine z_goto (pc := 132) (tgt := 67) K dX1_leads_132 (by decide) ?_
          obtain ⟨hr16, h⟩ := h
          exact ih σ10 v5 (v6 + 1) _ _ _ h hw11 hk13 hg14 hv5 hr16 (lv_sub hl [1, 2, 3, 4, 5, 6, 0] rfl)
        · have h := ite_f h hc15
          refine z_aload_n (pc := 106) K dX1_leads_106 rfl (lv_at hl 0 rfl) ?_
          refine lv_iload_n (pc := 107) K.x K.b dX1_leads_107 rfl (lv_at hl 1 rfl) ?_
          refine lv_iload_n (pc := 108) K.x K.b dX1_leads_108 rfl (lv_at hl 2 rfl) ?_
          refine lv_iload_n (pc := 109) K.x K.b dX1_leads_109 rfl (lv_at hl 3 rfl) ?_
          refine z_iconst (pc := 110) K dX1_leads_110 ?_
          refine z_isub (pc := 111) K dX1_leads_111 ?_
          refine lv_iload (pc := 112) K.x K.b dX1_leads_112 (lv_at hl 4 rfl) ?_
          obtain ⟨hr17, h⟩ := h
          refine zc_z (pc := 114) (maxL := 7) K hw11 (hRc0 σ10 a0 x1 x2 (x3 - 1) x4 hg14 hx1 hx2 hr17 hx4 _ h) (i_V (n := 4) (t := 1) (As := [jI x1, jI x2, jI (x3 - 1), jI x4]) K hw11 (ob hg14) zq1 (by decide) q1173 q1175 qs18 (sg_of K q1176) rfl rfl dX1_leads_114) (locw K q1176 q90) (zr_ok2 (by omega) (by omega)) hl.1 dX1_leads_114 (Nat.le_of_ble_eq_true rfl) ⟨Nat.le_refl _, Nat.le_refl _⟩ (fun r18 σ21 _ _ hr19 hq20 hw22 => ?_)
          obtain ⟨hk23, h⟩ := hq20
          have h := h hk23
          have hk24 := kp_trans wo_X1_leads hk13 hk23 (fun _ q => q) (by decide)
          have hg25 : tg σ21 a0 = 1 := kp_tg hk23 wo_X1_leads hg14 (by decide)
          refine z_if_eq (pc := 117) (tgt := 122) K (b01r hr19) dX1_leads_117 (by decide) (fun hc26 => ?_) (fun hc26 => ?_)
          · have h := ite_t h hc26
            refine z_aload_n (pc := 122) K dX1_leads_122 rfl (lv_at hl 0 rfl) ?_
            refine z_get (pc := 123) (t := 1) (k := 9) K hw22 (ob hg25) zq1 (by decide) q527 (fun _ h => h) dX1_leads_123 (zval_r kf_1_9) ?_
            have hg27 : tg σ21 (σ21 a0 9 0) = 3 := (z_tg (t := 1) (r := 3) hw22 hg25 ⟨by decide, by decide⟩ kf_1_9 kn_1_9 kt_1_9 (by decide) (by decide))
            refine zc_v (pc := 126) (maxL := 2) K hw22 (met_X3_undo X l σ21 (σ21 a0 9 0) hg27 _ h) (i_V (n := 0) (t := 3) (As := []) K hw22 (ob hg27) zq3 (by decide) q953 q954 q955 (sg_of K q956) rfl rfl dX1_leads_126) (locw K q956 q94) (zr_ok2 (by omega) (by omega)) hl.1 dX1_leads_126 (Nat.le_of_ble_eq_true rfl) ⟨Nat.le_refl _, Nat.le_refl _⟩ (fun σ31 _ _ hq30 hw32 => ?_)
            obtain ⟨hk33, h⟩ := hq30
            have h := h hk33
            have hk34 := kp_trans wo_X1_leads hk24 hk33 (fun _ q => q) (by decide)
            have hg35 : tg σ31 a0 = 1 := kp_tg hk33 wo_X3_undo hg25 (by decide)
            refine z_iinc (pc := 129) (k := 6) (lv' := [(6, jI (v6 + 1)), (0, jR X a0), (1, jI x1), (2, jI x2), (3, jI x3), (4, jI x4), (5, jI v5)]) K dX1_leads_129 hl rfl (by decide) rfl (fun ls hl => ?_)
            refine z_goto (pc := 132) (tgt := 67) K dX1_leads_132 (by decide) ?_
            obtain ⟨hr36, h⟩ := h
            exact ih σ31 v5 (v6 + 1) _ _ _ h hw32 hk34 hg35 hv5 hr36 (lv_sub hl [1, 2, 3, 4, 5, 6, 0] rfl)
          · have h := ite_f h hc26
            refine z_iconst (pc := 120) K dX1_leads_120 ?_
            exact z_zret (pc := 121) K hw22 ⟨by decide, by decide⟩ ⟨hk24, h⟩ dX1_leads_121
    · have h := ite_f h hc3
      refine z_iinc (pc := 135) (k := 5) (lv' := [(5, jI (v5 + 1)), (0, jR X a0), (1, jI x1), (2, jI x2), (3, jI x3), (4, jI x4), (6, jI v6)]) K dX1_leads_135 hl rfl (by decide) rfl (fun ls hl => ?_)
      refine z_goto (pc := 138) (tgt := 36) K dX1_leads_138 (by decide) ?_
      obtain ⟨hr37, h⟩ := h
      exact hL36 σ (v5 + 1) _ _ _ h hw hk ht0 hr37 (lv_sub hl [1, 2, 3, 4, 5, 0] rfl)
set_option maxHeartbeats 4000000 in
theorem wk_X1_leads_36 {X : Cxt} {p : Program} {l : Launch} {e : Env} {s : State} {m : MethodId} {args : Array Value} {below : List Frame} {meth : Method} {c : Code} (a0 : Int) (x1 : Int) (x2 : Int) (x3 : Int) (x4 : Int) (Q : Int → St → Prop) (σ0 : St) (Rc : Nat → St → Int → Int → Int → Int → Int → (Int → St → Prop) → Prop) (K : MCx X p s m args meth c cX1_leads 7 "CombTable" (some .boolean)) (hx1 : rng x1) (hx2 : rng x2) (hx3 : rng x3) (hx4 : rng x4) (nr : Nat) (hRc0 : ∀ (σ : St) (a0 : Int) (x1 : Int) (x2 : Int) (x3 : Int) (x4 : Int) (ht0 : tg σ a0 = 1) (hx1 : rng x1) (hx2 : rng x2) (hx3 : rng x3) (hx4 : rng x4) (Q : Int → St → Prop), Rc 0 σ a0 x1 x2 x3 x4 Q → MetT l yX1_leads (ws_ yX1_leads cX1_leads 7 (some .boolean)) (zrm (4 + nr) 0 0) (ZP X σ [jR X a0, jI x1, jI x2, jI x3, jI x4]) (ZQ X (qZ (fun r σ' => Kp ws_X1_leads σ σ' ∧ Q r σ')) (fun _ _ => False)) 0 0 (zA X)) : ∀ (n : Nat), ∀ (σ : St) (v5 : Int) (H : Heap) (locs : List Loc) (ls : Array Slot), lp_X1_leads_36 a0 x1 x2 x3 x4 Q σ0 Rc n σ v5 → Wc X σ s.heap H locs → Kp ws_X1_leads σ0 σ → tg σ a0 = 1 → rng v5 → lv_has ls 7 [(0, jR X a0), (1, jI x1), (2, jI x2), (3, jI x3), (4, jI x4), (5, jI v5)] → W p l e (zrm (4 + nr + 1) 0 0) s m args below meth c H locs 0 0 (MQT below (ZQ X (qZ (fun r σ' => Kp ws_X1_leads σ0 σ' ∧ Q r σ')) (fun _ _ => False)) args s 0 0 (zA X)) (F0 m 36 ls []) := by
  intro n
  induction n with
  | zero => intro σ v5 H locs ls h; exact h.elim
  | succ n ih =>
    intro σ v5 H locs ls h hw hk ht0 hv5 hl
    have h := h hk
    refine lv_iload (pc := 36) K.x K.b dX1_leads_36 (lv_at hl 5 rfl) ?_
    refine z_aload_n (pc := 38) K dX1_leads_38 rfl (lv_at hl 0 rfl) ?_
    refine z_get (pc := 39) (t := 1) (k := 8) K hw (ob ht0) zq1 (by decide) q524 (fun _ h => h) dX1_leads_39 (zval_r kf_1_8) ?_
    have hg1 : tg σ (σ a0 8 0) = 3 := (z_tg (t := 1) (r := 3) hw ht0 ⟨by decide, by decide⟩ kf_1_8 kn_1_8 kt_1_8 (by decide) (by decide))
    refine z_getN (pc := 42) (t := 3) (k := 0) K hw (ob hg1) zq3 (by decide) q303 (fun _ h => h) dX1_leads_42 (zval_r kf_3_0) ?_
    have hg2 : tg σ (σ (σ a0 8 0) 0 0) = 4 := (z_tg (t := 3) (r := 4) hw hg1 ⟨by decide, by decide⟩ kf_3_0 kn_3_0 kt_3_0 (by decide) (by decide))
    refine z_getN (pc := 45) (t := 4) (k := 3) K hw (ob hg2) zq4 (by decide) q261 (fun _ h => h) dX1_leads_45 (zval_i kf_4_3) ?_
    refine z_icmp_ge (pc := 48) (tgt := 141) K hv5 (z_rI hw (ob (t := 4) hg2) kf_4_3) dX1_leads_48 (by decide) (fun hc3 => ?_) (fun hc3 => ?_)
    · have h := ite_t h hc3
      refine z_aload_n (pc := 51) K dX1_leads_51 rfl (lv_at hl 0 rfl) ?_
      refine z_get (pc := 52) (t := 1) (k := 9) K hw (ob ht0) zq1 (by decide) q527 (fun _ h => h) dX1_leads_52 (zval_r kf_1_9) ?_
      have hg4 : tg σ (σ a0 9 0) = 3 := (z_tg (t := 1) (r := 3) hw ht0 ⟨by decide, by decide⟩ kf_1_9 kn_1_9 kt_1_9 (by decide) (by decide))
      refine z_getN (pc := 55) (t := 3) (k := 8) K hw (ob hg4) zq3 (by decide) q323 (fun _ h => h) dX1_leads_55 (zval_i kf_3_8) ?_
      refine z_sipush (pc := 58) K dX1_leads_58 (by decide) ?_
      refine z_icmp_ge (pc := 61) (tgt := 141) K (z_rI hw (ob (t := 3) hg4) kf_3_8) ⟨by decide, by decide⟩ dX1_leads_61 (by decide) (fun hc5 => ?_) (fun hc5 => ?_)
      · have h := ite_t h hc5
        refine z_iconst (pc := 64) K dX1_leads_64 ?_
        refine lv_istore (pc := 65) (lv' := [(6, jI 0), (0, jR X a0), (1, jI x1), (2, jI x2), (3, jI x3), (4, jI x4), (5, jI v5)]) K.x K.b dX1_leads_65 hl (by decide) rfl (fun ls hl => ?_)
        obtain ⟨n6, h⟩ := h
        exact wk_X1_leads_67 a0 x1 x2 x3 x4 Q σ0 Rc K hx1 hx2 hx3 hx4 nr hRc0 (lp_X1_leads_36 a0 x1 x2 x3 x4 Q σ0 Rc n) ih n6 σ v5 0 _ _ _ h hw hk ht0 hv5 ⟨by decide, by decide⟩ (lv_sub hl [1, 2, 3, 4, 5, 6, 0] rfl)
      · have h := ite_f h hc5
        refine z_iconst (pc := 141) K dX1_leads_141 ?_
        exact z_zret (pc := 142) K hw ⟨by decide, by decide⟩ ⟨hk, h⟩ dX1_leads_142
    · have h := ite_f h hc3
      refine z_iconst (pc := 141) K dX1_leads_141 ?_
      exact z_zret (pc := 142) K hw ⟨by decide, by decide⟩ ⟨hk, h⟩ dX1_leads_142
set_option maxHeartbeats 4000000 in
theorem mb_X1_leads (X : Cxt) (l : Launch) (nr : Nat) (Rc : Nat → St → Int → Int → Int → Int → Int → (Int → St → Prop) → Prop) (hRc0 : ∀ (σ : St) (a0 : Int) (x1 : Int) (x2 : Int) (x3 : Int) (x4 : Int) (ht0 : tg σ a0 = 1) (hx1 : rng x1) (hx2 : rng x2) (hx3 : rng x3) (hx4 : rng x4) (Q : Int → St → Prop), Rc 0 σ a0 x1 x2 x3 x4 Q → MetT l yX1_leads (ws_ yX1_leads cX1_leads 7 (some .boolean)) (zrm (4 + nr) 0 0) (ZP X σ [jR X a0, jI x1, jI x2, jI x3, jI x4]) (ZQ X (qZ (fun r σ' => Kp ws_X1_leads σ σ' ∧ Q r σ')) (fun _ _ => False)) 0 0 (zA X)) (σ : St) (a0 : Int) (x1 : Int) (x2 : Int) (x3 : Int) (x4 : Int) (ht0 : tg σ a0 = 1) (hx1 : rng x1) (hx2 : rng x2) (hx3 : rng x3) (hx4 : rng x4) (Q : Int → St → Prop) (h : bd_X1_leads Rc σ a0 x1 x2 x3 x4 Q) : MetT l yX1_leads (ws_ yX1_leads cX1_leads 7 (some .boolean)) (zrm (4 + nr + 1) 0 0) (ZP X σ [jR X a0, jI x1, jI x2, jI x3, jI x4]) (ZQ X (qZ (fun r σ' => Kp ws_X1_leads σ σ' ∧ Q r σ')) (fun _ _ => False)) 0 0 (zA X) := by
  refine z_start (own := "CombTable") (lv := [(0, jR X a0), (1, jI x1), (2, jI x2), (3, jI x3), (4, jI x4)]) (by decide) rfl (by simp [lv_args, jR_cat, jI_cat, jL_cat]) (by simp [lg_sl, jR_cat, jI_cat, jL_cat]) (fun p e s m below meth c ls K _ _ hw hl => ?_)
  have hk : Kp ws_X1_leads σ σ := kp_rf σ
  refine lv_iload_n (pc := 0) K.x K.b dX1_leads_0 rfl (lv_at hl 3 rfl) ?_
  refine z_if_ne (pc := 1) (tgt := 33) K hx3 dX1_leads_1 (by decide) (fun hc1 => ?_) (fun hc1 => ?_)
  · have h := ite_t h hc1
    refine lv_iload_n (pc := 4) K.x K.b dX1_leads_4 rfl (lv_at hl 1 rfl) ?_
    refine z_aload_n (pc := 5) K dX1_leads_5 rfl (lv_at hl 0 rfl) ?_
    refine z_get (pc := 6) (t := 1) (k := 9) K hw (ob ht0) zq1 (by decide) q527 (fun _ h => h) dX1_leads_6 (zval_r kf_1_9) ?_
    have hg2 : tg σ (σ a0 9 0) = 3 := (z_tg (t := 1) (r := 3) hw ht0 ⟨by decide, by decide⟩ kf_1_9 kn_1_9 kt_1_9 (by decide) (by decide))
    refine z_getN (pc := 9) (t := 3) (k := 8) K hw (ob hg2) zq3 (by decide) q323 (fun _ h => h) dX1_leads_9 (zval_i kf_3_8) ?_
    refine z_icmp_ge (pc := 12) (tgt := 31) K hx1 (z_rI hw (ob (t := 3) hg2) kf_3_8) dX1_leads_12 (by decide) (fun hc3 => ?_) (fun hc3 => ?_)
    · have h := ite_t h hc3
      refine z_aload_n (pc := 15) K dX1_leads_15 rfl (lv_at hl 0 rfl) ?_
      refine z_get (pc := 16) (t := 1) (k := 9) K hw (ob ht0) zq1 (by decide) q527 (fun _ h => h) dX1_leads_16 (zval_r kf_1_9) ?_
      refine lv_iload_n (pc := 19) K.x K.b dX1_leads_19 rfl (lv_at hl 1 rfl) ?_
      refine zr_i (pc := 20) (maxL := 2) K hw (met_X3_stateOf X l σ (σ a0 9 0) x1 hg2 hx1 _ h) (i_V (n := 1) (t := 3) (As := [jI x1]) K hw (ob hg2) zq3 (by decide) q1015 q1016 q1017 (sg_of K q1018) rfl rfl dX1_leads_20) (locw K q1018 q94) (zr_ok2 (by omega) (by omega)) hl.1 dX1_leads_20 (Nat.le_of_ble_eq_true rfl) ⟨Nat.le_refl _, Nat.le_refl _⟩ (fun r4 _ _ hr5 h hw8 => ?_)
      refine lv_iload_n (pc := 23) K.x K.b dX1_leads_23 rfl (lv_at hl 2 rfl) ?_
      refine z_icmp_ne (pc := 24) (tgt := 31) K hr5 hx2 dX1_leads_24 (by decide) (fun hc9 => ?_) (fun hc9 => ?_)
      · have h := ite_t h hc9
        refine z_iconst (pc := 27) K dX1_leads_27 ?_
        refine z_goto (pc := 28) (tgt := 32) K dX1_leads_28 (by decide) ?_
        exact z_zret (pc := 32) K hw8 ⟨by decide, by decide⟩ ⟨hk, h⟩ dX1_leads_32
      · have h := ite_f h hc9
        refine z_iconst (pc := 31) K dX1_leads_31 ?_
        exact z_zret (pc := 32) K hw8 ⟨by decide, by decide⟩ ⟨hk, h⟩ dX1_leads_32
    · have h := ite_f h hc3
      refine z_iconst (pc := 31) K dX1_leads_31 ?_
      exact z_zret (pc := 32) K hw ⟨by decide, by decide⟩ ⟨hk, h⟩ dX1_leads_32
  · have h := ite_f h hc1
    refine z_iconst (pc := 33) K dX1_leads_33 ?_
    refine lv_istore (pc := 34) (lv' := [(5, jI 0), (0, jR X a0), (1, jI x1), (2, jI x2), (3, jI x3), (4, jI x4)]) K.x K.b dX1_leads_34 hl (by decide) rfl (fun ls hl => ?_)
    obtain ⟨n10, h⟩ := h
    exact wk_X1_leads_36 a0 x1 x2 x3 x4 Q σ Rc K hx1 hx2 hx3 hx4 nr hRc0 n10 σ 0 _ _ _ h hw hk ht0 ⟨by decide, by decide⟩ (lv_sub hl [1, 2, 3, 4, 5, 0] rfl)
theorem mg_X1_leads (X : Cxt) (l : Launch) : ∀ n : Nat, (∀ (σ : St) (a0 : Int) (x1 : Int) (x2 : Int) (x3 : Int) (x4 : Int) (ht0 : tg σ a0 = 1) (hx1 : rng x1) (hx2 : rng x2) (hx3 : rng x3) (hx4 : rng x4) (Q : Int → St → Prop), wg_X1_leads n 0 σ a0 x1 x2 x3 x4 Q → MetT l yX1_leads (ws_ yX1_leads cX1_leads 7 (some .boolean)) (zrm (4 + n) 0 0) (ZP X σ [jR X a0, jI x1, jI x2, jI x3, jI x4]) (ZQ X (qZ (fun r σ' => Kp ws_X1_leads σ σ' ∧ Q r σ')) (fun _ _ => False)) 0 0 (zA X)) := by
  intro n
  induction n with
  | zero => exact fun σ a0 x1 x2 x3 x4 ht0 hx1 hx2 hx3 hx4 Q h => h.elim
  | succ n ih => exact fun σ a0 x1 x2 x3 x4 ht0 hx1 hx2 hx3 hx4 Q h => mb_X1_leads X l n (wg_X1_leads n) ih σ a0 x1 x2 x3 x4 ht0 hx1 hx2 hx3 hx4 Q h
theorem met_X1_leads (X : Cxt) (l : Launch) (n : Nat) (σ : St) (a0 : Int) (x1 : Int) (x2 : Int) (x3 : Int) (x4 : Int) (ht0 : tg σ a0 = 1) (hx1 : rng x1) (hx2 : rng x2) (hx3 : rng x3) (hx4 : rng x4) (Q : Int → St → Prop) (h : wg_X1_leads n 0 σ a0 x1 x2 x3 x4 Q) : MetT l yX1_leads (ws_ yX1_leads cX1_leads 7 (some .boolean)) (zrm (4 + n) 0 0) (ZP X σ [jR X a0, jI x1, jI x2, jI x3, jI x4]) (ZQ X (qZ (fun r σ' => Kp ws_X1_leads σ σ' ∧ Q r σ')) (fun _ _ => False)) 0 0 (zA X) := (mg_X1_leads X l n) σ a0 x1 x2 x3 x4 ht0 hx1 hx2 hx3 hx4 Q h
def ws_X1_leadsBy : List (Int × Nat) := [(3, 0), (3, 1), (3, 2), (3, 3), (3, 4), (3, 5), (3, 6), (3, 7), (3, 8), (3, 9)]
theorem wo_X1_leadsBy : wsOk ws_X1_leadsBy = true := rfl
def lp_X1_leadsBy_71 (a0 : Int) (x1 : Int) (x2 : Int) (x3 : Int) (x4 : Int) (Q : Int → St → Prop) (σ0 : St) : Nat → St → Int → Prop
  | 0 => fun _ _ => False
  | n + 1 => fun σ v5 => 
    Kp ws_X1_leadsBy σ0 σ → (if v5 ≤ x3 then
      wp_X3_be σ (σ a0 9 0) (σ a0 8 0) (fun σ7 => Kp ws_X3_be σ σ7 → wg_X1_leads 64 0 σ7 a0 x1 x2 v5 x4 (fun r12 σ15 => Kp ws_X1_leads σ7 σ15 → (if r12 = 0 then
        rng (v5 + 1) ∧ (lp_X1_leadsBy_71 a0 x1 x2 x3 x4 Q σ0 n σ15 (v5 + 1))
        else
        Q v5 σ15)))
      else
      Q (-1) σ)
def wp_X1_leadsBy (σ : St) (a0 : Int) (x1 : Int) (x2 : Int) (x3 : Int) (x4 : Int) (Q : Int → St → Prop) : Prop :=
  wp_X1_isIn σ x2 0 8 (fun r1 => (if r1 = 0 then
    Q (-3) σ
    else
    wp_X1_isIn σ x3 1 8 (fun r7 => (if r7 = 0 then
      Q (-3) σ
      else
      wp_X1_isIn σ x1 0 399 (fun r13 => (if r13 = 0 then
        Q (-3) σ
        else
        rng ((σ (σ (σ a0 8 0) 0 0) 3 0) * (σ (σ (σ a0 8 0) 0 0) 4 0)) ∧ wp_X1_isFar σ ((σ (σ (σ a0 8 0) 0 0) 3 0) * (σ (σ (σ a0 8 0) 0 0) 4 0)) x3 300000 (fun r22 => (if r22 = 0 then
          (∃ kk, lp_X1_leadsBy_71 a0 x1 x2 x3 x4 Q σ kk σ 0)
          else
          Q (-2) σ))))))))
set_option maxHeartbeats 4000000 in
theorem wk_X1_leadsBy_71 {X : Cxt} {p : Program} {l : Launch} {e : Env} {s : State} {m : MethodId} {args : Array Value} {below : List Frame} {meth : Method} {c : Code} (a0 : Int) (x1 : Int) (x2 : Int) (x3 : Int) (x4 : Int) (Q : Int → St → Prop) (σ0 : St) (K : MCx X p s m args meth c cX1_leadsBy 6 "CombTable" (some .int)) (hx1 : rng x1) (hx2 : rng x2) (hx3 : rng x3) (hx4 : rng x4) : ∀ (n : Nat), ∀ (σ : St) (v5 : Int) (H : Heap) (locs : List Loc) (ls : Array Slot), lp_X1_leadsBy_71 a0 x1 x2 x3 x4 Q σ0 n σ v5 → Wc X σ s.heap H locs → Kp ws_X1_leadsBy σ0 σ → tg σ a0 = 1 → rng v5 → lv_has ls 6 [(0, jR X a0), (1, jI x1), (2, jI x2), (3, jI x3), (4, jI x4), (5, jI v5)] → W p l e (zrm 69 0 0) s m args below meth c H locs 0 0 (MQT below (ZQ X (qI (fun r σ' => Kp ws_X1_leadsBy σ0 σ' ∧ Q r σ')) (fun _ _ => False)) args s 0 0 (zA X)) (F0 m 71 ls []) := by
  intro n
  induction n with
  | zero => intro σ v5 H locs ls h; exact h.elim
  | succ n ih =>
    intro σ v5 H locs ls h hw hk ht0 hv5 hl
    have h := h hk
    refine lv_iload (pc := 71) K.x K.b dX1_leadsBy_71 (lv_at hl 5 rfl) ?_
    refine lv_iload_n (pc := 73) K.x K.b dX1_leadsBy_73 rfl (lv_at hl 3 rfl) ?_
    refine z_icmp_gt (pc := 74) (tgt := 110) K hv5 hx3 dX1_leadsBy_74 (by decide) (fun hc1 => ?_) (fun hc1 => ?_)
    · have h := ite_t h hc1
      refine z_aload_n (pc := 77) K dX1_leadsBy_77 rfl (lv_at hl 0 rfl) ?_
      refine z_get (pc := 78) (t := 1) (k := 9) K hw (ob ht0) zq1 (by decide) q527 (fun _ h => h) dX1_leadsBy_78 (zval_r kf_1_9) ?_
      refine z_aload_n (pc := 81) K dX1_leadsBy_81 rfl (lv_at hl 0 rfl) ?_
      refine z_get (pc := 82) (t := 1) (k := 8) K hw (ob ht0) zq1 (by decide) q524 (fun _ h => h) dX1_leadsBy_82 (zval_r kf_1_8) ?_
      have hg2 : tg σ (σ a0 9 0) = 3 := (z_tg (t := 1) (r := 3) hw ht0 ⟨by decide, by decide⟩ kf_1_9 kn_1_9 kt_1_9 (by decide) (by decide))
      have hg3 : tg σ (σ a0 8 0) = 3 := (z_tg (t := 1) (r := 3) hw ht0 ⟨by decide, by decide⟩ kf_1_8 kn_1_8 kt_1_8 (by decide) (by decide))
      refine zc_v (pc := 85) (maxL := 2) K hw (met_X3_be X l σ (σ a0 9 0) (σ a0 8 0) hg2 hg3 _ h) (i_V (n := 1) (t := 3) (As := [jR X (σ a0 8 0)]) K hw (ob hg2) zq3 (by decide) q991 q992 q993 (sg_of K q994) rfl rfl dX1_leadsBy_85) (locw K q994 q94) ⟨by decide, by decide⟩ hl.1 dX1_leadsBy_85 (Nat.le_of_ble_eq_true rfl) ⟨Nat.le_refl _, Nat.le_refl _⟩ (fun σ7 _ _ hq6 hw8 => ?_)
      obtain ⟨hk9, h⟩ := hq6
      have h := h hk9
      have hk10 := kp_trans wo_X1_leadsBy hk hk9 (fun _ q => q) (by decide)
      have hg11 : tg σ7 a0 = 1 := kp_tg hk9 wo_X3_be ht0 (by decide)
      refine z_aload_n (pc := 88) K dX1_leadsBy_88 rfl (lv_at hl 0 rfl) ?_
      refine lv_iload_n (pc := 89) K.x K.b dX1_leadsBy_89 rfl (lv_at hl 1 rfl) ?_
      refine lv_iload_n (pc := 90) K.x K.b dX1_leadsBy_90 rfl (lv_at hl 2 rfl) ?_
      refine lv_iload (pc := 91) K.x K.b dX1_leadsBy_91 (lv_at hl 5 rfl) ?_
      refine lv_iload (pc := 93) K.x K.b dX1_leadsBy_93 (lv_at hl 4 rfl) ?_
      refine zc_z (pc := 95) (maxL := 7) K hw8 (met_X1_leads X l 64 σ7 a0 x1 x2 v5 x4 hg11 hx1 hx2 hv5 hx4 _ h) (i_V (n := 4) (t := 1) (As := [jI x1, jI x2, jI v5, jI x4]) K hw8 (ob hg11) zq1 (by decide) q1173 q1175 qs18 (sg_of K q1176) rfl rfl dX1_leadsBy_95) (locw K q1176 q90) ⟨by decide, by decide⟩ hl.1 dX1_leadsBy_95 (Nat.le_of_ble_eq_true rfl) ⟨Nat.le_refl _, Nat.le_refl _⟩ (fun r12 σ15 _ _ hr13 hq14 hw16 => ?_)
      obtain ⟨hk17, h⟩ := hq14
      have h := h hk17
      have hk18 := kp_trans wo_X1_leadsBy hk10 hk17 (fun _ q => q) (by decide)
      have hg19 : tg σ15 a0 = 1 := kp_tg hk17 wo_X1_leads hg11 (by decide)
      refine z_if_eq (pc := 98) (tgt := 104) K (b01r hr13) dX1_leadsBy_98 (by decide) (fun hc20 => ?_) (fun hc20 => ?_)
      · have h := ite_t h hc20
        refine z_iinc (pc := 104) (k := 5) (lv' := [(5, jI (v5 + 1)), (0, jR X a0), (1, jI x1), (2, jI x2), (3, jI x3), (4, jI x4)]) K dX1_leadsBy_104 hl rfl (by decide) rfl (fun ls hl => ?_)
        refine z_goto (pc := 107) (tgt := 71) K dX1_leadsBy_107 (by decide) ?_
        obtain ⟨hr21, h⟩ := h
        exact ih σ15 (v5 + 1) _ _ _ h hw16 hk18 hg19 hr21 (lv_sub hl [1, 2, 3, 4, 5, 0] rfl)
      · have h := ite_f h hc20
        refine lv_iload (pc := 101) K.x K.b dX1_leadsBy_101 (lv_at hl 5 rfl) ?_
        exact z_iret (pc := 103) K hw16 hv5 ⟨hk18, h⟩ dX1_leadsBy_103
    · have h := ite_f h hc1
      refine z_iconst (pc := 110) K dX1_leadsBy_110 ?_
      exact z_iret (pc := 111) K hw ⟨by decide, by decide⟩ ⟨hk, h⟩ dX1_leadsBy_111
set_option maxHeartbeats 4000000 in
theorem met_X1_leadsBy (X : Cxt) (l : Launch) (σ : St) (a0 : Int) (x1 : Int) (x2 : Int) (x3 : Int) (x4 : Int) (ht0 : tg σ a0 = 1) (hx1 : rng x1) (hx2 : rng x2) (hx3 : rng x3) (hx4 : rng x4) (Q : Int → St → Prop) (h : wp_X1_leadsBy σ a0 x1 x2 x3 x4 Q) : MetT l yX1_leadsBy (ws_ yX1_leadsBy cX1_leadsBy 6 (some .int)) (zrm 69 0 0) (ZP X σ [jR X a0, jI x1, jI x2, jI x3, jI x4]) (ZQ X (qI (fun r σ' => Kp ws_X1_leadsBy σ σ' ∧ Q r σ')) (fun _ _ => False)) 0 0 (zA X) := by
  refine z_start (own := "CombTable") (lv := [(0, jR X a0), (1, jI x1), (2, jI x2), (3, jI x3), (4, jI x4)]) (by decide) rfl (by simp [lv_args, jR_cat, jI_cat, jL_cat]) (by simp [lg_sl, jR_cat, jI_cat, jL_cat]) (fun p e s m below meth c ls K _ _ hw hl => ?_)
  have hk : Kp ws_X1_leadsBy σ σ := kp_rf σ
  refine lv_iload_n (pc := 0) K.x K.b dX1_leadsBy_0 rfl (lv_at hl 2 rfl) ?_
  refine z_iconst (pc := 1) K dX1_leadsBy_1 ?_
  refine z_bipush (pc := 2) K dX1_leadsBy_2 (by decide) ?_
  refine zr_z (pc := 4) (maxL := 3) K hw (met_X1_isIn X l σ x2 0 8 hx2 ⟨by decide, by decide⟩ ⟨by decide, by decide⟩ _ h) (i_S (n := 3) (As := [jI x2, jI 0, jI 8]) K (by decide) q1010 q682 q90 (sg_of K q683) rfl rfl dX1_leadsBy_4) (locw K q683 q90) ⟨by decide, by decide⟩ hl.1 dX1_leadsBy_4 (Nat.le_of_ble_eq_true rfl) ⟨Nat.le_refl _, Nat.le_refl _⟩ (fun r1 _ _ hr2 h hw5 => ?_)
  refine z_if_eq (pc := 7) (tgt := 31) K (b01r hr2) dX1_leadsBy_7 (by decide) (fun hc6 => ?_) (fun hc6 => ?_)
  · have h := ite_t h hc6
    refine z_bipush (pc := 31) K dX1_leadsBy_31 (by decide) ?_
    exact z_iret (pc := 33) K hw5 ⟨by decide, by decide⟩ ⟨hk, h⟩ dX1_leadsBy_33
  · have h := ite_f h hc6
    refine lv_iload_n (pc := 10) K.x K.b dX1_leadsBy_10 rfl (lv_at hl 3 rfl) ?_
    refine z_iconst (pc := 11) K dX1_leadsBy_11 ?_
    refine z_bipush (pc := 12) K dX1_leadsBy_12 (by decide) ?_
    refine zr_z (pc := 14) (maxL := 3) K hw5 (met_X1_isIn X l σ x3 1 8 hx3 ⟨by decide, by decide⟩ ⟨by decide, by decide⟩ _ h) (i_S (n := 3) (As := [jI x3, jI 1, jI 8]) K (by decide) q1010 q682 q90 (sg_of K q683) rfl rfl dX1_leadsBy_14) (locw K q683 q90) ⟨by decide, by decide⟩ hl.1 dX1_leadsBy_14 (Nat.le_of_ble_eq_true rfl) ⟨Nat.le_refl _, Nat.le_refl _⟩ (fun r7 _ _ hr8 h hw11 => ?_)
    refine z_if_eq (pc := 17) (tgt := 31) K (b01r hr8) dX1_leadsBy_17 (by decide) (fun hc12 => ?_) (fun hc12 => ?_)
    · have h := ite_t h hc12
      refine z_bipush (pc := 31) K dX1_leadsBy_31 (by decide) ?_
      exact z_iret (pc := 33) K hw11 ⟨by decide, by decide⟩ ⟨hk, h⟩ dX1_leadsBy_33
    · have h := ite_f h hc12
      refine lv_iload_n (pc := 20) K.x K.b dX1_leadsBy_20 rfl (lv_at hl 1 rfl) ?_
      refine z_iconst (pc := 21) K dX1_leadsBy_21 ?_
      refine z_sipush (pc := 22) K dX1_leadsBy_22 (by decide) ?_
      refine zr_z (pc := 25) (maxL := 3) K hw11 (met_X1_isIn X l σ x1 0 399 hx1 ⟨by decide, by decide⟩ ⟨by decide, by decide⟩ _ h) (i_S (n := 3) (As := [jI x1, jI 0, jI 399]) K (by decide) q1010 q682 q90 (sg_of K q683) rfl rfl dX1_leadsBy_25) (locw K q683 q90) ⟨by decide, by decide⟩ hl.1 dX1_leadsBy_25 (Nat.le_of_ble_eq_true rfl) ⟨Nat.le_refl _, Nat.le_refl _⟩ (fun r13 _ _ hr14 h hw17 => ?_)
      refine z_if_ne (pc := 28) (tgt := 34) K (b01r hr14) dX1_leadsBy_28 (by decide) (fun hc18 => ?_) (fun hc18 => ?_)
      · have h := ite_t h hc18
        refine z_bipush (pc := 31) K dX1_leadsBy_31 (by decide) ?_
        exact z_iret (pc := 33) K hw17 ⟨by decide, by decide⟩ ⟨hk, h⟩ dX1_leadsBy_33
      · have h := ite_f h hc18
        refine z_aload_n (pc := 34) K dX1_leadsBy_34 rfl (lv_at hl 0 rfl) ?_
        refine z_get (pc := 35) (t := 1) (k := 8) K hw17 (ob ht0) zq1 (by decide) q524 (fun _ h => h) dX1_leadsBy_35 (zval_r kf_1_8) ?_
        have hg19 : tg σ (σ a0 8 0) = 3 := (z_tg (t := 1) (r := 3) hw17 ht0 ⟨by decide, by decide⟩ kf_1_8 kn_1_8 kt_1_8 (by decide) (by decide))
        refine z_getN (pc := 38) (t := 3) (k := 0) K hw17 (ob hg19) zq3 (by decide) q303 (fun _ h => h) dX1_leadsBy_38 (zval_r kf_3_0) ?_
        have hg20 : tg σ (σ (σ a0 8 0) 0 0) = 4 := (z_tg (t := 3) (r := 4) hw17 hg19 ⟨by decide, by decide⟩ kf_3_0 kn_3_0 kt_3_0 (by decide) (by decide))
        refine z_getN (pc := 41) (t := 4) (k := 3) K hw17 (ob hg20) zq4 (by decide) q261 (fun _ h => h) dX1_leadsBy_41 (zval_i kf_4_3) ?_
        refine z_aload_n (pc := 44) K dX1_leadsBy_44 rfl (lv_at hl 0 rfl) ?_
        refine z_get (pc := 45) (t := 1) (k := 8) K hw17 (ob ht0) zq1 (by decide) q524 (fun _ h => h) dX1_leadsBy_45 (zval_r kf_1_8) ?_
        refine z_getN (pc := 48) (t := 3) (k := 0) K hw17 (ob hg19) zq3 (by decide) q303 (fun _ h => h) dX1_leadsBy_48 (zval_r kf_3_0) ?_
        refine z_getN (pc := 51) (t := 4) (k := 4) K hw17 (ob hg20) zq4 (by decide) q267 (fun _ h => h) dX1_leadsBy_51 (zval_i kf_4_4) ?_
        refine z_imul (pc := 54) K dX1_leadsBy_54 ?_
        refine lv_iload_n (pc := 55) K.x K.b dX1_leadsBy_55 rfl (lv_at hl 3 rfl) ?_
        refine z_ldcw (pc := 56) (z := 300000) K q1169 (by decide) dX1_leadsBy_56 ?_
        obtain ⟨hr21, h⟩ := h
        refine zr_z (pc := 59) (maxL := 6) K hw17 (met_X1_isFar X l σ ((σ (σ (σ a0 8 0) 0 0) 3 0) * (σ (σ (σ a0 8 0) 0 0) 4 0)) x3 300000 hr21 hx3 ⟨by decide, by decide⟩ _ h) (i_S (n := 3) (As := [jI ((σ (σ (σ a0 8 0) 0 0) 3 0) * (σ (σ (σ a0 8 0) 0 0) 4 0)), jI x3, jI 300000]) K (by decide) q1170 q1171 q90 (sg_of K q1172) rfl rfl dX1_leadsBy_59) (locw K q1172 q90) ⟨by decide, by decide⟩ hl.1 dX1_leadsBy_59 (Nat.le_of_ble_eq_true rfl) ⟨Nat.le_refl _, Nat.le_refl _⟩ (fun r22 _ _ hr23 h hw26 => ?_)
        refine z_if_eq (pc := 62) (tgt := 68) K (b01r hr23) dX1_leadsBy_62 (by decide) (fun hc27 => ?_) (fun hc27 => ?_)
        · have h := ite_t h hc27
          refine z_iconst (pc := 68) K dX1_leadsBy_68 ?_
          refine lv_istore (pc := 69) (lv' := [(5, jI 0), (0, jR X a0), (1, jI x1), (2, jI x2), (3, jI x3), (4, jI x4)]) K.x K.b dX1_leadsBy_69 hl (by decide) rfl (fun ls hl => ?_)
          obtain ⟨n28, h⟩ := h
          exact wk_X1_leadsBy_71 a0 x1 x2 x3 x4 Q σ K hx1 hx2 hx3 hx4 n28 σ 0 _ _ _ h hw26 hk ht0 ⟨by decide, by decide⟩ (lv_sub hl [1, 2, 3, 4, 5, 0] rfl)
        · have h := ite_f h hc27
          refine z_bipush (pc := 65) K dX1_leadsBy_65 (by decide) ?_
          exact z_iret (pc := 67) K hw26 ⟨by decide, by decide⟩ ⟨hk, h⟩ dX1_leadsBy_67
def lp_X1_may_17 (σ : St) (a0 : Int) (x1 : Int) (Q : Int → Prop) : Nat → Int → Int → Prop
  | 0 => fun _ _ => False
  | n + 1 => fun v2 v3 => 
    (if v3 < σ (σ (σ a0 8 0) 0 0) 4 0 then
      (if σ (σ a0 8 0) 8 0 < 400 then
        wp_X3_why σ (σ a0 8 0) x1 v3 (fun r5 => (if r5 = 0 then
          rng (v3 + 1) ∧ (lp_X1_may_17 σ a0 x1 Q n (zor v2 (zshl 1 v3)) (v3 + 1))
          else
          rng (v3 + 1) ∧ (lp_X1_may_17 σ a0 x1 Q n (zor v2 0) (v3 + 1))))
        else
        Q v2)
      else
      Q v2)
def wp_X1_may (σ : St) (a0 : Int) (x1 : Int) (Q : Int → Prop) : Prop :=
  wp_X3_isWho σ (σ a0 8 0) x1 (fun r2 => (if r2 = 0 then
    Q (-1)
    else
    (∃ kk, lp_X1_may_17 σ a0 x1 Q kk 0 0)))
set_option maxHeartbeats 4000000 in
theorem wk_X1_may_17 {X : Cxt} {p : Program} {l : Launch} {e : Env} {s : State} {m : MethodId} {args : Array Value} {below : List Frame} {meth : Method} {c : Code} (σ : St) (a0 : Int) (x1 : Int) (Q : Int → Prop) (K : MCx X p s m args meth c cX1_may 4 "CombTable" (some .int)) (hx1 : rng x1) : ∀ (n : Nat), ∀ (v2 : Int) (v3 : Int) (H : Heap) (locs : List Loc) (ls : Array Slot), lp_X1_may_17 σ a0 x1 Q n v2 v3 → Wc X σ s.heap H locs → tg σ a0 = 1 → rng v2 → rng v3 → lv_has ls 4 [(0, jR X a0), (1, jI x1), (2, jI v2), (3, jI v3)] → W p l e (zrm 4 0 0) s m args below meth c H locs 0 0 (MQT below (ZQ X (qI (fun r σ' => σ' = σ ∧ Q r)) (fun _ _ => False)) args s 0 0 (zA X)) (F0 m 17 ls []) := by
  intro n
  induction n with
  | zero => intro v2 v3 H locs ls h; exact h.elim
  | succ n ih =>
    intro v2 v3 H locs ls h hw ht0 hv2 hv3 hl
    refine lv_iload_n (pc := 17) K.x K.b dX1_may_17 rfl (lv_at hl 3 rfl) ?_
    refine z_aload_n (pc := 18) K dX1_may_18 rfl (lv_at hl 0 rfl) ?_
    refine z_get (pc := 19) (t := 1) (k := 8) K hw (ob ht0) zq1 (by decide) q524 (fun _ h => h) dX1_may_19 (zval_r kf_1_8) ?_
    have hg1 : tg σ (σ a0 8 0) = 3 := (z_tg (t := 1) (r := 3) hw ht0 ⟨by decide, by decide⟩ kf_1_8 kn_1_8 kt_1_8 (by decide) (by decide))
    refine z_getN (pc := 22) (t := 3) (k := 0) K hw (ob hg1) zq3 (by decide) q303 (fun _ h => h) dX1_may_22 (zval_r kf_3_0) ?_
    have hg2 : tg σ (σ (σ a0 8 0) 0 0) = 4 := (z_tg (t := 3) (r := 4) hw hg1 ⟨by decide, by decide⟩ kf_3_0 kn_3_0 kt_3_0 (by decide) (by decide))
    refine z_getN (pc := 25) (t := 4) (k := 4) K hw (ob hg2) zq4 (by decide) q267 (fun _ h => h) dX1_may_25 (zval_i kf_4_4) ?_
    refine z_icmp_ge (pc := 28) (tgt := 72) K hv3 (z_rI hw (ob (t := 4) hg2) kf_4_4) dX1_may_28 (by decide) (fun hc3 => ?_) (fun hc3 => ?_)
    · have h := ite_t h hc3
      refine z_aload_n (pc := 31) K dX1_may_31 rfl (lv_at hl 0 rfl) ?_
      refine z_get (pc := 32) (t := 1) (k := 8) K hw (ob ht0) zq1 (by decide) q524 (fun _ h => h) dX1_may_32 (zval_r kf_1_8) ?_
      refine z_getN (pc := 35) (t := 3) (k := 8) K hw (ob hg1) zq3 (by decide) q323 (fun _ h => h) dX1_may_35 (zval_i kf_3_8) ?_
      refine z_sipush (pc := 38) K dX1_may_38 (by decide) ?_
      refine z_icmp_ge (pc := 41) (tgt := 72) K (z_rI hw (ob (t := 3) hg1) kf_3_8) ⟨by decide, by decide⟩ dX1_may_41 (by decide) (fun hc4 => ?_) (fun hc4 => ?_)
      · have h := ite_t h hc4
        refine lv_iload_n (pc := 44) K.x K.b dX1_may_44 rfl (lv_at hl 2 rfl) ?_
        refine z_aload_n (pc := 45) K dX1_may_45 rfl (lv_at hl 0 rfl) ?_
        refine z_get (pc := 46) (t := 1) (k := 8) K hw (ob ht0) zq1 (by decide) q524 (fun _ h => h) dX1_may_46 (zval_r kf_1_8) ?_
        refine lv_iload_n (pc := 49) K.x K.b dX1_may_49 rfl (lv_at hl 1 rfl) ?_
        refine lv_iload_n (pc := 50) K.x K.b dX1_may_50 rfl (lv_at hl 3 rfl) ?_
        refine zr_i (pc := 51) (maxL := 5) K hw (met_X3_why X l σ (σ a0 8 0) x1 v3 hg1 hx1 hv3 _ h) (i_V (n := 2) (t := 3) (As := [jI x1, jI v3]) K hw (ob hg1) zq3 (by decide) q944 q916 q917 (sg_of K q918) rfl rfl dX1_may_51) (locw K q918 q94) ⟨by decide, by decide⟩ hl.1 dX1_may_51 (Nat.le_of_ble_eq_true rfl) ⟨Nat.le_refl _, Nat.le_refl _⟩ (fun r5 _ _ hr6 h hw9 => ?_)
        refine z_if_ne (pc := 54) (tgt := 63) K hr6 dX1_may_54 (by decide) (fun hc10 => ?_) (fun hc10 => ?_)
        · have h := ite_t h hc10
          refine z_iconst (pc := 57) K dX1_may_57 ?_
          refine lv_iload_n (pc := 58) K.x K.b dX1_may_58 rfl (lv_at hl 3 rfl) ?_
          refine z_ishl (pc := 59) K dX1_may_59 ?_
          refine z_goto (pc := 60) (tgt := 64) K dX1_may_60 (by decide) ?_
          refine z_ior (pc := 64) K dX1_may_64 ?_
          refine lv_istore_n (pc := 65) (lv' := [(2, jI (zor v2 (zshl 1 v3))), (0, jR X a0), (1, jI x1), (3, jI v3)]) K.x K.b dX1_may_65 rfl hl (by decide) rfl (fun ls hl => ?_)
          refine z_iinc (pc := 66) (k := 3) (lv' := [(3, jI (v3 + 1)), (2, jI (zor v2 (zshl 1 v3))), (0, jR X a0), (1, jI x1)]) K dX1_may_66 hl rfl (by decide) rfl (fun ls hl => ?_)
          refine z_goto (pc := 69) (tgt := 17) K dX1_may_69 (by decide) ?_
          obtain ⟨hr11, h⟩ := h
          exact ih (zor v2 (zshl 1 v3)) (v3 + 1) _ _ _ h hw9 ht0 (rng_toInt _) hr11 (lv_sub hl [2, 3, 1, 0] rfl)
        · have h := ite_f h hc10
          refine z_iconst (pc := 63) K dX1_may_63 ?_
          refine z_ior (pc := 64) K dX1_may_64 ?_
          refine lv_istore_n (pc := 65) (lv' := [(2, jI (zor v2 0)), (0, jR X a0), (1, jI x1), (3, jI v3)]) K.x K.b dX1_may_65 rfl hl (by decide) rfl (fun ls hl => ?_)
          refine z_iinc (pc := 66) (k := 3) (lv' := [(3, jI (v3 + 1)), (2, jI (zor v2 0)), (0, jR X a0), (1, jI x1)]) K dX1_may_66 hl rfl (by decide) rfl (fun ls hl => ?_)
          refine z_goto (pc := 69) (tgt := 17) K dX1_may_69 (by decide) ?_
          obtain ⟨hr12, h⟩ := h
          exact ih (zor v2 0) (v3 + 1) _ _ _ h hw9 ht0 (rng_toInt _) hr12 (lv_sub hl [2, 3, 1, 0] rfl)
      · have h := ite_f h hc4
        refine lv_iload_n (pc := 72) K.x K.b dX1_may_72 rfl (lv_at hl 2 rfl) ?_
        exact z_iret (pc := 73) K hw hv2 ⟨rfl, h⟩ dX1_may_73
    · have h := ite_f h hc3
      refine lv_iload_n (pc := 72) K.x K.b dX1_may_72 rfl (lv_at hl 2 rfl) ?_
      exact z_iret (pc := 73) K hw hv2 ⟨rfl, h⟩ dX1_may_73
set_option maxHeartbeats 4000000 in
theorem met_X1_may (X : Cxt) (l : Launch) (σ : St) (a0 : Int) (x1 : Int) (ht0 : tg σ a0 = 1) (hx1 : rng x1) (Q : Int → Prop) (h : wp_X1_may σ a0 x1 Q) : MetT l yX1_may (ws_ yX1_may cX1_may 4 (some .int)) (zrm 4 0 0) (ZP X σ [jR X a0, jI x1]) (ZQ X (qI (fun r σ' => σ' = σ ∧ Q r)) (fun _ _ => False)) 0 0 (zA X) := by
  refine z_start (own := "CombTable") (lv := [(0, jR X a0), (1, jI x1)]) (by decide) rfl (by simp [lv_args, jR_cat, jI_cat, jL_cat]) (by simp [lg_sl, jR_cat, jI_cat, jL_cat]) (fun p e s m below meth c ls K _ _ hw hl => ?_)
  refine z_aload_n (pc := 0) K dX1_may_0 rfl (lv_at hl 0 rfl) ?_
  refine z_get (pc := 1) (t := 1) (k := 8) K hw (ob ht0) zq1 (by decide) q524 (fun _ h => h) dX1_may_1 (zval_r kf_1_8) ?_
  refine lv_iload_n (pc := 4) K.x K.b dX1_may_4 rfl (lv_at hl 1 rfl) ?_
  have hg1 : tg σ (σ a0 8 0) = 3 := (z_tg (t := 1) (r := 3) hw ht0 ⟨by decide, by decide⟩ kf_1_8 kn_1_8 kt_1_8 (by decide) (by decide))
  refine zr_z (pc := 5) (maxL := 2) K hw (met_X3_isWho X l σ (σ a0 8 0) x1 hg1 hx1 _ h) (i_V (n := 1) (t := 3) (As := [jI x1]) K hw (ob hg1) zq3 (by decide) q898 q899 q900 (sg_of K q901) rfl rfl dX1_may_5) (locw K q901 q94) ⟨by decide, by decide⟩ hl.1 dX1_may_5 (Nat.le_of_ble_eq_true rfl) ⟨Nat.le_refl _, Nat.le_refl _⟩ (fun r2 _ _ hr3 h hw6 => ?_)
  refine z_if_ne (pc := 8) (tgt := 13) K (b01r hr3) dX1_may_8 (by decide) (fun hc7 => ?_) (fun hc7 => ?_)
  · have h := ite_t h hc7
    refine z_iconst (pc := 11) K dX1_may_11 ?_
    exact z_iret (pc := 12) K hw6 ⟨by decide, by decide⟩ ⟨rfl, h⟩ dX1_may_12
  · have h := ite_f h hc7
    refine z_iconst (pc := 13) K dX1_may_13 ?_
    refine lv_istore_n (pc := 14) (lv' := [(2, jI 0), (0, jR X a0), (1, jI x1)]) K.x K.b dX1_may_14 rfl hl (by decide) rfl (fun ls hl => ?_)
    refine z_iconst (pc := 15) K dX1_may_15 ?_
    refine lv_istore_n (pc := 16) (lv' := [(3, jI 0), (2, jI 0), (0, jR X a0), (1, jI x1)]) K.x K.b dX1_may_16 rfl hl (by decide) rfl (fun ls hl => ?_)
    obtain ⟨n8, h⟩ := h
    exact wk_X1_may_17 σ a0 x1 Q K hx1 n8 0 0 _ _ _ h hw6 ht0 ⟨by decide, by decide⟩ ⟨by decide, by decide⟩ (lv_sub hl [2, 3, 1, 0] rfl)
def wp_J9_bitCount (σ : St) (x0 : Int) (Q : Int → Prop) : Prop :=
  Q (zand (((zand (((zand (x0 - (zand (zushr x0 1) 1431655765)) 858993459) + (zand (zushr (x0 - (zand (zushr x0 1) 1431655765)) 2) 858993459)) + (zushr ((zand (x0 - (zand (zushr x0 1) 1431655765)) 858993459) + (zand (zushr (x0 - (zand (zushr x0 1) 1431655765)) 2) 858993459)) 4)) 252645135) + (zushr (zand (((zand (x0 - (zand (zushr x0 1) 1431655765)) 858993459) + (zand (zushr (x0 - (zand (zushr x0 1) 1431655765)) 2) 858993459)) + (zushr ((zand (x0 - (zand (zushr x0 1) 1431655765)) 858993459) + (zand (zushr (x0 - (zand (zushr x0 1) 1431655765)) 2) 858993459)) 4)) 252645135) 8)) + (zushr ((zand (((zand (x0 - (zand (zushr x0 1) 1431655765)) 858993459) + (zand (zushr (x0 - (zand (zushr x0 1) 1431655765)) 2) 858993459)) + (zushr ((zand (x0 - (zand (zushr x0 1) 1431655765)) 858993459) + (zand (zushr (x0 - (zand (zushr x0 1) 1431655765)) 2) 858993459)) 4)) 252645135) + (zushr (zand (((zand (x0 - (zand (zushr x0 1) 1431655765)) 858993459) + (zand (zushr (x0 - (zand (zushr x0 1) 1431655765)) 2) 858993459)) + (zushr ((zand (x0 - (zand (zushr x0 1) 1431655765)) 858993459) + (zand (zushr (x0 - (zand (zushr x0 1) 1431655765)) 2) 858993459)) 4)) 252645135) 8)) 16)) 63)
set_option maxHeartbeats 4000000 in
theorem met_J9_bitCount (X : Cxt) (l : Launch) (σ : St) (x0 : Int) (hx0 : rng x0) (Q : Int → Prop) (h : wp_J9_bitCount σ x0 Q) : MetT l yJ9_bitCount (ws_ yJ9_bitCount cJ9_bitCount 1 (some .int)) (zrm 1 0 0) (ZP X σ [jI x0]) (ZQ X (qI (fun r σ' => σ' = σ ∧ Q r)) (fun _ _ => False)) 0 0 (zA X) := by
  refine z_start (own := "java/lang/Integer") (lv := [(0, jI x0)]) (by decide) rfl rfl (by simp [lg_sl, jR_cat, jI_cat, jL_cat]) (fun p e s m below meth c ls K _ _ hw hl => ?_)
  refine lv_iload_n (pc := 0) K.x K.b dJ9_bitCount_0 rfl (lv_at hl 0 rfl) ?_
  refine lv_iload_n (pc := 1) K.x K.b dJ9_bitCount_1 rfl (lv_at hl 0 rfl) ?_
  refine z_iconst (pc := 2) K dJ9_bitCount_2 ?_
  refine z_iushr (pc := 3) K dJ9_bitCount_3 ?_
  refine z_ldcw (pc := 4) (z := 1431655765) K q1118 (by decide) dJ9_bitCount_4 ?_
  refine z_iand (pc := 7) K dJ9_bitCount_7 ?_
  refine z_isub (pc := 8) K dJ9_bitCount_8 ?_
  refine lv_istore_n (pc := 9) (lv' := [(0, jI (x0 - (zand (zushr x0 1) 1431655765)))]) K.x K.b dJ9_bitCount_9 rfl hl (by decide) rfl (fun ls hl => ?_)
  refine lv_iload_n (pc := 10) K.x K.b dJ9_bitCount_10 rfl (lv_at hl 0 rfl) ?_
  refine z_ldcw (pc := 11) (z := 858993459) K q1119 (by decide) dJ9_bitCount_11 ?_
  refine z_iand (pc := 14) K dJ9_bitCount_14 ?_
  refine lv_iload_n (pc := 15) K.x K.b dJ9_bitCount_15 rfl (lv_at hl 0 rfl) ?_
  refine z_iconst (pc := 16) K dJ9_bitCount_16 ?_
  refine z_iushr (pc := 17) K dJ9_bitCount_17 ?_
  refine z_ldcw (pc := 18) (z := 858993459) K q1119 (by decide) dJ9_bitCount_18 ?_
  refine z_iand (pc := 21) K dJ9_bitCount_21 ?_
  refine z_iadd (pc := 22) K dJ9_bitCount_22 ?_
  refine lv_istore_n (pc := 23) (lv' := [(0, jI ((zand (x0 - (zand (zushr x0 1) 1431655765)) 858993459) + (zand (zushr (x0 - (zand (zushr x0 1) 1431655765)) 2) 858993459)))]) K.x K.b dJ9_bitCount_23 rfl hl (by decide) rfl (fun ls hl => ?_)
  refine lv_iload_n (pc := 24) K.x K.b dJ9_bitCount_24 rfl (lv_at hl 0 rfl) ?_
  refine lv_iload_n (pc := 25) K.x K.b dJ9_bitCount_25 rfl (lv_at hl 0 rfl) ?_
  refine z_iconst (pc := 26) K dJ9_bitCount_26 ?_
  refine z_iushr (pc := 27) K dJ9_bitCount_27 ?_
  refine z_iadd (pc := 28) K dJ9_bitCount_28 ?_
  refine z_ldcw (pc := 29) (z := 252645135) K q1120 (by decide) dJ9_bitCount_29 ?_
  refine z_iand (pc := 32) K dJ9_bitCount_32 ?_
  refine lv_istore_n (pc := 33) (lv' := [(0, jI (zand (((zand (x0 - (zand (zushr x0 1) 1431655765)) 858993459) + (zand (zushr (x0 - (zand (zushr x0 1) 1431655765)) 2) 858993459)) + (zushr ((zand (x0 - (zand (zushr x0 1) 1431655765)) 858993459) + (zand (zushr (x0 - (zand (zushr x0 1) 1431655765)) 2) 858993459)) 4)) 252645135))]) K.x K.b dJ9_bitCount_33 rfl hl (by decide) rfl (fun ls hl => ?_)
  refine lv_iload_n (pc := 34) K.x K.b dJ9_bitCount_34 rfl (lv_at hl 0 rfl) ?_
  refine lv_iload_n (pc := 35) K.x K.b dJ9_bitCount_35 rfl (lv_at hl 0 rfl) ?_
  refine z_bipush (pc := 36) K dJ9_bitCount_36 (by decide) ?_
  refine z_iushr (pc := 38) K dJ9_bitCount_38 ?_
  refine z_iadd (pc := 39) K dJ9_bitCount_39 ?_
  refine lv_istore_n (pc := 40) (lv' := [(0, jI ((zand (((zand (x0 - (zand (zushr x0 1) 1431655765)) 858993459) + (zand (zushr (x0 - (zand (zushr x0 1) 1431655765)) 2) 858993459)) + (zushr ((zand (x0 - (zand (zushr x0 1) 1431655765)) 858993459) + (zand (zushr (x0 - (zand (zushr x0 1) 1431655765)) 2) 858993459)) 4)) 252645135) + (zushr (zand (((zand (x0 - (zand (zushr x0 1) 1431655765)) 858993459) + (zand (zushr (x0 - (zand (zushr x0 1) 1431655765)) 2) 858993459)) + (zushr ((zand (x0 - (zand (zushr x0 1) 1431655765)) 858993459) + (zand (zushr (x0 - (zand (zushr x0 1) 1431655765)) 2) 858993459)) 4)) 252645135) 8)))]) K.x K.b dJ9_bitCount_40 rfl hl (by decide) rfl (fun ls hl => ?_)
  refine lv_iload_n (pc := 41) K.x K.b dJ9_bitCount_41 rfl (lv_at hl 0 rfl) ?_
  refine lv_iload_n (pc := 42) K.x K.b dJ9_bitCount_42 rfl (lv_at hl 0 rfl) ?_
  refine z_bipush (pc := 43) K dJ9_bitCount_43 (by decide) ?_
  refine z_iushr (pc := 45) K dJ9_bitCount_45 ?_
  refine z_iadd (pc := 46) K dJ9_bitCount_46 ?_
  refine lv_istore_n (pc := 47) (lv' := [(0, jI (((zand (((zand (x0 - (zand (zushr x0 1) 1431655765)) 858993459) + (zand (zushr (x0 - (zand (zushr x0 1) 1431655765)) 2) 858993459)) + (zushr ((zand (x0 - (zand (zushr x0 1) 1431655765)) 858993459) + (zand (zushr (x0 - (zand (zushr x0 1) 1431655765)) 2) 858993459)) 4)) 252645135) + (zushr (zand (((zand (x0 - (zand (zushr x0 1) 1431655765)) 858993459) + (zand (zushr (x0 - (zand (zushr x0 1) 1431655765)) 2) 858993459)) + (zushr ((zand (x0 - (zand (zushr x0 1) 1431655765)) 858993459) + (zand (zushr (x0 - (zand (zushr x0 1) 1431655765)) 2) 858993459)) 4)) 252645135) 8)) + (zushr ((zand (((zand (x0 - (zand (zushr x0 1) 1431655765)) 858993459) + (zand (zushr (x0 - (zand (zushr x0 1) 1431655765)) 2) 858993459)) + (zushr ((zand (x0 - (zand (zushr x0 1) 1431655765)) 858993459) + (zand (zushr (x0 - (zand (zushr x0 1) 1431655765)) 2) 858993459)) 4)) 252645135) + (zushr (zand (((zand (x0 - (zand (zushr x0 1) 1431655765)) 858993459) + (zand (zushr (x0 - (zand (zushr x0 1) 1431655765)) 2) 858993459)) + (zushr ((zand (x0 - (zand (zushr x0 1) 1431655765)) 858993459) + (zand (zushr (x0 - (zand (zushr x0 1) 1431655765)) 2) 858993459)) 4)) 252645135) 8)) 16)))]) K.x K.b dJ9_bitCount_47 rfl hl (by decide) rfl (fun ls hl => ?_)
  refine lv_iload_n (pc := 48) K.x K.b dJ9_bitCount_48 rfl (lv_at hl 0 rfl) ?_
  refine z_bipush (pc := 49) K dJ9_bitCount_49 (by decide) ?_
  refine z_iand (pc := 51) K dJ9_bitCount_51 ?_
  exact z_iret (pc := 52) K hw (rng_toInt _) ⟨rfl, h⟩ dJ9_bitCount_52
def ws_X1_mend : List (Int × Nat) := [(1, 25), (3, 0), (3, 1), (3, 2), (3, 3), (3, 4), (3, 5), (3, 6), (3, 7), (3, 8), (3, 9)]
theorem wo_X1_mend : wsOk ws_X1_mend = true := rfl
def wp_X1_mend_b44 (a0 : Int) (Q : Int → St → Prop) (σ0 : St) (L15 : St → Int → Int → Prop) (σ : St) (v1 : Int) (v2 : Int) : Prop :=
  wp_X1_isTalk σ a0 v2 (fun r1 σ4 => Kp ws_X1_isTalk σ σ4 → (if r1 = 0 then
    rng (v2 + 1) ∧ (L15 σ4 v1 (v2 + 1))
    else
    rng (v2 + 1) ∧ (L15 σ4 v2 (v2 + 1))))
def lp_X1_mend_15 (a0 : Int) (Q : Int → St → Prop) (σ0 : St) : Nat → St → Int → Int → Prop
  | 0 => fun _ _ _ => False
  | n + 1 => fun σ v1 v2 => 
    Kp ws_X1_mend σ0 σ → (if v2 < zshl 1 (σ (σ a0 11 0) 2 0) then
      (if v1 = (-1) then
        (wp_X1_mend_b44 a0 Q σ0 (lp_X1_mend_15 a0 Q σ0 n) σ v1 v2)
        else
        wp_J9_bitCount σ v2 (fun r4 => wp_J9_bitCount σ v1 (fun r9 => (if r4 < r9 then
          (wp_X1_mend_b44 a0 Q σ0 (lp_X1_mend_15 a0 Q σ0 n) σ v1 v2)
          else
          rng (v2 + 1) ∧ (lp_X1_mend_15 a0 Q σ0 n σ v1 (v2 + 1))))))
      else
      ∀ σ17 : St, σ17 = st σ a0 25 0 v1 → wp_J9_bitCount σ17 v1 (fun r21 => Q r21 σ17))
def wp_X1_mend (σ : St) (a0 : Int) (Q : Int → St → Prop) : Prop :=
  wp_X1_isTold σ a0 14 (fun r1 => (if r1 = 0 then
    Q (-1) σ
    else
    (∃ kk, lp_X1_mend_15 a0 Q σ kk σ (-1) 0)))
set_option maxHeartbeats 4000000 in
theorem wk_X1_mend_b44 {X : Cxt} {p : Program} {l : Launch} {e : Env} {s : State} {m : MethodId} {args : Array Value} {below : List Frame} {meth : Method} {c : Code} (a0 : Int) (Q : Int → St → Prop) (σ0 : St) (K : MCx X p s m args meth c cX1_mend 3 "CombTable" (some .int)) (L15 : St → Int → Int → Prop) (hL15 : ∀ (σ : St) (v1 : Int) (v2 : Int) (H : Heap) (locs : List Loc) (ls : Array Slot), L15 σ v1 v2 → Wc X σ s.heap H locs → Kp ws_X1_mend σ0 σ → tg σ a0 = 1 → rng v1 → rng v2 → lv_has ls 3 [(0, jR X a0), (1, jI v1), (2, jI v2)] → W p l e (zrm 6 0 0) s m args below meth c H locs 0 0 (MQT below (ZQ X (qI (fun r σ' => Kp ws_X1_mend σ0 σ' ∧ Q r σ')) (fun _ _ => False)) args s 0 0 (zA X)) (F0 m 15 ls [])) : ∀ (σ : St) (v1 : Int) (v2 : Int) (H : Heap) (locs : List Loc) (ls : Array Slot), wp_X1_mend_b44 a0 Q σ0 L15 σ v1 v2 → Wc X σ s.heap H locs → Kp ws_X1_mend σ0 σ → tg σ a0 = 1 → rng v1 → rng v2 → lv_has ls 3 [(0, jR X a0), (1, jI v1), (2, jI v2)] → W p l e (zrm 6 0 0) s m args below meth c H locs 0 0 (MQT below (ZQ X (qI (fun r σ' => Kp ws_X1_mend σ0 σ' ∧ Q r σ')) (fun _ _ => False)) args s 0 0 (zA X)) (F0 m 44 ls []) := by
  intro σ v1 v2 H locs ls h hw hk ht0 hv1 hv2 hl
  refine z_aload_n (pc := 44) K dX1_mend_44 rfl (lv_at hl 0 rfl) ?_
  refine lv_iload_n (pc := 45) K.x K.b dX1_mend_45 rfl (lv_at hl 2 rfl) ?_
  refine zc_z (pc := 46) (maxL := 3) K hw (met_X1_isTalk X l σ a0 v2 ht0 hv2 _ h) (i_V (n := 1) (t := 1) (As := [jI v2]) K hw (ob ht0) zq1 (by decide) q1121 q1123 qs13 (sg_of K q1124) rfl rfl dX1_mend_46) (locw K q1124 q90) ⟨by decide, by decide⟩ hl.1 dX1_mend_46 (Nat.le_of_ble_eq_true rfl) ⟨Nat.le_refl _, Nat.le_refl _⟩ (fun r1 σ4 _ _ hr2 hq3 hw5 => ?_)
  obtain ⟨hk6, h⟩ := hq3
  have h := h hk6
  have hk7 := kp_trans wo_X1_mend hk hk6 (fun _ q => q) (by decide)
  have hg8 : tg σ4 a0 = 1 := kp_tg hk6 wo_X1_isTalk ht0 (by decide)
  refine z_if_eq (pc := 49) (tgt := 54) K (b01r hr2) dX1_mend_49 (by decide) (fun hc9 => ?_) (fun hc9 => ?_)
  · have h := ite_t h hc9
    refine z_iinc (pc := 54) (k := 2) (lv' := [(2, jI (v2 + 1)), (0, jR X a0), (1, jI v1)]) K dX1_mend_54 hl rfl (by decide) rfl (fun ls hl => ?_)
    refine z_goto (pc := 57) (tgt := 15) K dX1_mend_57 (by decide) ?_
    obtain ⟨hr10, h⟩ := h
    exact hL15 σ4 v1 (v2 + 1) _ _ _ h hw5 hk7 hg8 hv1 hr10 (lv_sub hl [1, 2, 0] rfl)
  · have h := ite_f h hc9
    refine lv_iload_n (pc := 52) K.x K.b dX1_mend_52 rfl (lv_at hl 2 rfl) ?_
    refine lv_istore_n (pc := 53) (lv' := [(1, jI v2), (0, jR X a0), (2, jI v2)]) K.x K.b dX1_mend_53 rfl hl (by decide) (by simp [jR_cat]) (fun ls hl => ?_)
    refine z_iinc (pc := 54) (k := 2) (lv' := [(2, jI (v2 + 1)), (1, jI v2), (0, jR X a0)]) K dX1_mend_54 hl rfl (by decide) rfl (fun ls hl => ?_)
    refine z_goto (pc := 57) (tgt := 15) K dX1_mend_57 (by decide) ?_
    obtain ⟨hr11, h⟩ := h
    exact hL15 σ4 v2 (v2 + 1) _ _ _ h hw5 hk7 hg8 hv2 hr11 (lv_sub hl [2, 1, 0] rfl)
set_option maxHeartbeats 4000000 in
theorem wk_X1_mend_15 {X : Cxt} {p : Program} {l : Launch} {e : Env} {s : State} {m : MethodId} {args : Array Value} {below : List Frame} {meth : Method} {c : Code} (a0 : Int) (Q : Int → St → Prop) (σ0 : St) (K : MCx X p s m args meth c cX1_mend 3 "CombTable" (some .int)) : ∀ (n : Nat), ∀ (σ : St) (v1 : Int) (v2 : Int) (H : Heap) (locs : List Loc) (ls : Array Slot), lp_X1_mend_15 a0 Q σ0 n σ v1 v2 → Wc X σ s.heap H locs → Kp ws_X1_mend σ0 σ → tg σ a0 = 1 → rng v1 → rng v2 → lv_has ls 3 [(0, jR X a0), (1, jI v1), (2, jI v2)] → W p l e (zrm 6 0 0) s m args below meth c H locs 0 0 (MQT below (ZQ X (qI (fun r σ' => Kp ws_X1_mend σ0 σ' ∧ Q r σ')) (fun _ _ => False)) args s 0 0 (zA X)) (F0 m 15 ls []) := by
  intro n
  induction n with
  | zero => intro σ v1 v2 H locs ls h; exact h.elim
  | succ n ih =>
    intro σ v1 v2 H locs ls h hw hk ht0 hv1 hv2 hl
    have h := h hk
    refine lv_iload_n (pc := 15) K.x K.b dX1_mend_15 rfl (lv_at hl 2 rfl) ?_
    refine z_iconst (pc := 16) K dX1_mend_16 ?_
    refine z_aload_n (pc := 17) K dX1_mend_17 rfl (lv_at hl 0 rfl) ?_
    refine z_get (pc := 18) (t := 1) (k := 11) K hw (ob ht0) zq1 (by decide) q529 (fun _ h => h) dX1_mend_18 (zval_r kf_1_11) ?_
    have hg1 : tg σ (σ a0 11 0) = 5 := (z_tg (t := 1) (r := 5) hw ht0 ⟨by decide, by decide⟩ kf_1_11 kn_1_11 kt_1_11 (by decide) (by decide))
    refine z_getN (pc := 21) (t := 5) (k := 2) K hw (ob hg1) zq5 (by decide) q361 (fun _ h => h) dX1_mend_21 (zval_i kf_5_2) ?_
    refine z_ishl (pc := 24) K dX1_mend_24 ?_
    refine z_icmp_ge (pc := 25) (tgt := 60) K hv2 (rng_toInt _) dX1_mend_25 (by decide) (fun hc2 => ?_) (fun hc2 => ?_)
    · have h := ite_t h hc2
      refine lv_iload_n (pc := 28) K.x K.b dX1_mend_28 rfl (lv_at hl 1 rfl) ?_
      refine z_iconst (pc := 29) K dX1_mend_29 ?_
      refine z_icmp_eq (pc := 30) (tgt := 44) K hv1 ⟨by decide, by decide⟩ dX1_mend_30 (by decide) (fun hc3 => ?_) (fun hc3 => ?_)
      · have h := ite_t h hc3
        exact wk_X1_mend_b44 a0 Q σ0 K (lp_X1_mend_15 a0 Q σ0 n) ih σ v1 v2 _ _ _ h hw hk ht0 hv1 hv2 (lv_sub hl [0, 1, 2] rfl)
      · have h := ite_f h hc3
        refine lv_iload_n (pc := 33) K.x K.b dX1_mend_33 rfl (lv_at hl 2 rfl) ?_
        refine zr_i (pc := 34) (maxL := 1) K hw (met_J9_bitCount X l σ v2 hv2 _ h) (i_S (n := 1) (As := [jI v2]) K (by decide) q1115 q1116 q114 (sg_of K q1117) rfl rfl dX1_mend_34) (locw K q1117 q114) ⟨by decide, by decide⟩ hl.1 dX1_mend_34 (Nat.le_of_ble_eq_true rfl) ⟨Nat.le_refl _, Nat.le_refl _⟩ (fun r4 _ _ hr5 h hw8 => ?_)
        refine lv_iload_n (pc := 37) K.x K.b dX1_mend_37 rfl (lv_at hl 1 rfl) ?_
        refine zr_i (pc := 38) (maxL := 1) K hw8 (met_J9_bitCount X l σ v1 hv1 _ h) (i_S (n := 1) (As := [jI v1]) K (by decide) q1115 q1116 q114 (sg_of K q1117) rfl rfl dX1_mend_38) (locw K q1117 q114) ⟨by decide, by decide⟩ hl.1 dX1_mend_38 (Nat.le_of_ble_eq_true rfl) ⟨Nat.le_refl _, Nat.le_refl _⟩ (fun r9 _ _ hr10 h hw13 => ?_)
        refine z_icmp_ge (pc := 41) (tgt := 54) K hr5 hr10 dX1_mend_41 (by decide) (fun hc14 => ?_) (fun hc14 => ?_)
        · have h := ite_t h hc14
          exact wk_X1_mend_b44 a0 Q σ0 K (lp_X1_mend_15 a0 Q σ0 n) ih σ v1 v2 _ _ _ h hw13 hk ht0 hv1 hv2 (lv_sub hl [0, 1, 2] rfl)
        · have h := ite_f h hc14
          refine z_iinc (pc := 54) (k := 2) (lv' := [(2, jI (v2 + 1)), (0, jR X a0), (1, jI v1)]) K dX1_mend_54 hl rfl (by decide) rfl (fun ls hl => ?_)
          refine z_goto (pc := 57) (tgt := 15) K dX1_mend_57 (by decide) ?_
          obtain ⟨hr15, h⟩ := h
          exact ih σ v1 (v2 + 1) _ _ _ h hw13 hk ht0 hv1 hr15 (lv_sub hl [1, 2, 0] rfl)
    · have h := ite_f h hc2
      refine z_aload_n (pc := 60) K dX1_mend_60 rfl (lv_at hl 0 rfl) ?_
      refine lv_iload_n (pc := 61) K.x K.b dX1_mend_61 rfl (lv_at hl 1 rfl) ?_
      refine z_puti (pc := 62) (t := 1) 25 K hw (ob ht0) zq1 (by decide) kf_1_25 zt_1_25 hv1 q543 (fun _ h => h) rfl dX1_mend_62 (fun _ _ hw16 => ?_)
      obtain ⟨σ17, e18⟩ : ∃ z, z = st σ a0 25 0 v1 := ⟨_, rfl⟩
      have h := h σ17 e18
      have hw16 := wc_e e18 hw16
      have hk19 := kp_e e18 hk wo_X1_mend (by decide) ht0 (t := 1) (by decide)
      have hg20 : tg σ17 a0 = 1 := (tg_e e18 (by decide)).trans ht0
      refine lv_iload_n (pc := 65) K.x K.b dX1_mend_65 rfl (lv_at hl 1 rfl) ?_
      refine zr_i (pc := 66) (maxL := 1) K hw16 (met_J9_bitCount X l σ17 v1 hv1 _ h) (i_S (n := 1) (As := [jI v1]) K (by decide) q1115 q1116 q114 (sg_of K q1117) rfl rfl dX1_mend_66) (locw K q1117 q114) ⟨by decide, by decide⟩ hl.1 dX1_mend_66 (Nat.le_of_ble_eq_true rfl) ⟨Nat.le_refl _, Nat.le_refl _⟩ (fun r21 _ _ hr22 h hw25 => ?_)
      exact z_iret (pc := 69) K hw25 hr22 ⟨hk19, h⟩ dX1_mend_69
set_option maxHeartbeats 4000000 in
theorem met_X1_mend (X : Cxt) (l : Launch) (σ : St) (a0 : Int) (ht0 : tg σ a0 = 1) (Q : Int → St → Prop) (h : wp_X1_mend σ a0 Q) : MetT l yX1_mend (ws_ yX1_mend cX1_mend 3 (some .int)) (zrm 6 0 0) (ZP X σ [jR X a0]) (ZQ X (qI (fun r σ' => Kp ws_X1_mend σ σ' ∧ Q r σ')) (fun _ _ => False)) 0 0 (zA X) := by
  refine z_start (own := "CombTable") (lv := [(0, jR X a0)]) (by decide) rfl (by simp [lv_args, jR_cat, jI_cat, jL_cat]) (by simp [lg_sl, jR_cat, jI_cat, jL_cat]) (fun p e s m below meth c ls K _ _ hw hl => ?_)
  have hk : Kp ws_X1_mend σ σ := kp_rf σ
  refine z_aload_n (pc := 0) K dX1_mend_0 rfl (lv_at hl 0 rfl) ?_
  refine z_bipush (pc := 1) K dX1_mend_1 (by decide) ?_
  refine zr_z (pc := 3) (maxL := 4) K hw (met_X1_isTold X l σ a0 14 ht0 ⟨by decide, by decide⟩ _ h) (i_V (n := 1) (t := 1) (As := [jI 14]) K hw (ob ht0) zq1 (by decide) q1111 q1113 qs12 (sg_of K q1114) rfl rfl dX1_mend_3) (locw K q1114 q90) ⟨by decide, by decide⟩ hl.1 dX1_mend_3 (Nat.le_of_ble_eq_true rfl) ⟨Nat.le_refl _, Nat.le_refl _⟩ (fun r1 _ _ hr2 h hw5 => ?_)
  refine z_if_ne (pc := 6) (tgt := 11) K (b01r hr2) dX1_mend_6 (by decide) (fun hc6 => ?_) (fun hc6 => ?_)
  · have h := ite_t h hc6
    refine z_iconst (pc := 9) K dX1_mend_9 ?_
    exact z_iret (pc := 10) K hw5 ⟨by decide, by decide⟩ ⟨hk, h⟩ dX1_mend_10
  · have h := ite_f h hc6
    refine z_iconst (pc := 11) K dX1_mend_11 ?_
    refine lv_istore_n (pc := 12) (lv' := [(1, jI (-1)), (0, jR X a0)]) K.x K.b dX1_mend_12 rfl hl (by decide) (by simp [jR_cat]) (fun ls hl => ?_)
    refine z_iconst (pc := 13) K dX1_mend_13 ?_
    refine lv_istore_n (pc := 14) (lv' := [(2, jI 0), (1, jI (-1)), (0, jR X a0)]) K.x K.b dX1_mend_14 rfl hl (by decide) rfl (fun ls hl => ?_)
    obtain ⟨n7, h⟩ := h
    exact wk_X1_mend_15 a0 Q σ K n7 σ (-1) 0 _ _ _ h hw5 hk ht0 ⟨by decide, by decide⟩ ⟨by decide, by decide⟩ (lv_sub hl [2, 1, 0] rfl)
def wp_X1_mended (σ : St) (a0 : Int) (Q : Int → Prop) : Prop :=
  Q (σ a0 25 0)
set_option maxHeartbeats 4000000 in
theorem met_X1_mended (X : Cxt) (l : Launch) (σ : St) (a0 : Int) (ht0 : tg σ a0 = 1) (Q : Int → Prop) (h : wp_X1_mended σ a0 Q) : MetT l yX1_mended (ws_ yX1_mended cX1_mended 1 (some .int)) (zrm 1 0 0) (ZP X σ [jR X a0]) (ZQ X (qI (fun r σ' => σ' = σ ∧ Q r)) (fun _ _ => False)) 0 0 (zA X) := by
  refine z_start (own := "CombTable") (lv := [(0, jR X a0)]) (by decide) rfl (by simp [lv_args, jR_cat, jI_cat, jL_cat]) (by simp [lg_sl, jR_cat, jI_cat, jL_cat]) (fun p e s m below meth c ls K _ _ hw hl => ?_)
  refine z_aload_n (pc := 0) K dX1_mended_0 rfl (lv_at hl 0 rfl) ?_
  refine z_get (pc := 1) (t := 1) (k := 25) K hw (ob ht0) zq1 (by decide) q543 (fun _ h => h) dX1_mended_1 (zval_i kf_1_25) ?_
  exact z_iret (pc := 4) K hw (z_rI hw (ob (t := 1) ht0) kf_1_25) ⟨rfl, h⟩ dX1_mended_4
def ws_X1_taken : List (Int × Nat) := [(1, 1), (1, 2)]
theorem wo_X1_taken : wsOk ws_X1_taken = true := rfl
def wp_X1_taken (σ : St) (a0 : Int) (Q : St → Prop) : Prop :=
  ∀ σ2 : St, σ2 = st σ a0 2 0 (σ a0 1 0) → ∀ σ7 : St, σ7 = st σ2 a0 1 0 0 → Q σ7
set_option maxHeartbeats 4000000 in
theorem met_X1_taken (X : Cxt) (l : Launch) (σ : St) (a0 : Int) (ht0 : tg σ a0 = 1) (Q : St → Prop) (h : wp_X1_taken σ a0 Q) : MetT l yX1_taken (ws_ yX1_taken cX1_taken 1 (none)) (zrm 1 0 0) (ZP X σ [jR X a0]) (ZQ X (qV (fun σ' => Kp ws_X1_taken σ σ' ∧ Q σ')) (fun _ _ => False)) 0 0 (zA X) := by
  refine z_start (own := "CombTable") (lv := [(0, jR X a0)]) (by decide) rfl (by simp [lv_args, jR_cat, jI_cat, jL_cat]) (by simp [lg_sl, jR_cat, jI_cat, jL_cat]) (fun p e s m below meth c ls K _ _ hw hl => ?_)
  have hk : Kp ws_X1_taken σ σ := kp_rf σ
  refine z_aload_n (pc := 0) K dX1_taken_0 rfl (lv_at hl 0 rfl) ?_
  refine z_aload_n (pc := 1) K dX1_taken_1 rfl (lv_at hl 0 rfl) ?_
  refine z_get (pc := 2) (t := 1) (k := 1) K hw (ob ht0) zq1 (by decide) q511 (fun _ h => h) dX1_taken_2 (zval_i kf_1_1) ?_
  refine z_puti (pc := 5) (t := 1) 2 K hw (ob ht0) zq1 (by decide) kf_1_2 zt_1_2 (z_rI hw (ob (t := 1) ht0) kf_1_1) q513 (fun _ h => h) rfl dX1_taken_5 (fun _ _ hw1 => ?_)
  obtain ⟨σ2, e3⟩ : ∃ z, z = st σ a0 2 0 (σ a0 1 0) := ⟨_, rfl⟩
  have h := h σ2 e3
  have hw1 := wc_e e3 hw1
  have hk4 := kp_e e3 hk wo_X1_taken (by decide) ht0 (t := 1) (by decide)
  have hg5 : tg σ2 a0 = 1 := (tg_e e3 (by decide)).trans ht0
  refine z_aload_n (pc := 8) K dX1_taken_8 rfl (lv_at hl 0 rfl) ?_
  refine z_iconst (pc := 9) K dX1_taken_9 ?_
  refine z_puti (pc := 10) (t := 1) 1 K hw1 (ob hg5) zq1 (by decide) kf_1_1 zt_1_1 ⟨by decide, by decide⟩ q511 (fun _ h => h) rfl dX1_taken_10 (fun _ _ hw6 => ?_)
  obtain ⟨σ7, e8⟩ : ∃ z, z = st σ2 a0 1 0 0 := ⟨_, rfl⟩
  have h := h σ7 e8
  have hw6 := wc_e e8 hw6
  have hk9 := kp_e e8 hk4 wo_X1_taken (by decide) hg5 (t := 1) (by decide)
  have hg10 : tg σ7 a0 = 1 := (tg_e e8 (by decide)).trans hg5
  exact z_vret (pc := 13) K hw6 ⟨hk9, h⟩ dX1_taken_13
def wp_X1_orderAt (σ : St) (a0 : Int) (x1 : Int) (Q : Int → Prop) : Prop :=
  rng ((σ a0 28 0) - 1) ∧ wp_X1_isIn σ x1 0 ((σ a0 28 0) - 1) (fun r2 => (if r2 = 0 then
    Q (-1)
    else
    (0 ≤ x1 ∧ x1 < 7) ∧ Q (σ a0 27 x1)))
set_option maxHeartbeats 4000000 in
theorem met_X1_orderAt (X : Cxt) (l : Launch) (σ : St) (a0 : Int) (x1 : Int) (ht0 : tg σ a0 = 1) (hx1 : rng x1) (Q : Int → Prop) (h : wp_X1_orderAt σ a0 x1 Q) : MetT l yX1_orderAt (ws_ yX1_orderAt cX1_orderAt 2 (some .int)) (zrm 2 0 0) (ZP X σ [jR X a0, jI x1]) (ZQ X (qI (fun r σ' => σ' = σ ∧ Q r)) (fun _ _ => False)) 0 0 (zA X) := by
  refine z_start (own := "CombTable") (lv := [(0, jR X a0), (1, jI x1)]) (by decide) rfl (by simp [lv_args, jR_cat, jI_cat, jL_cat]) (by simp [lg_sl, jR_cat, jI_cat, jL_cat]) (fun p e s m below meth c ls K _ _ hw hl => ?_)
  refine lv_iload_n (pc := 0) K.x K.b dX1_orderAt_0 rfl (lv_at hl 1 rfl) ?_
  refine z_iconst (pc := 1) K dX1_orderAt_1 ?_
  refine z_aload_n (pc := 2) K dX1_orderAt_2 rfl (lv_at hl 0 rfl) ?_
  refine z_get (pc := 3) (t := 1) (k := 28) K hw (ob ht0) zq1 (by decide) q546 (fun _ h => h) dX1_orderAt_3 (zval_i kf_1_28) ?_
  refine z_iconst (pc := 6) K dX1_orderAt_6 ?_
  refine z_isub (pc := 7) K dX1_orderAt_7 ?_
  obtain ⟨hr1, h⟩ := h
  refine zr_z (pc := 8) (maxL := 3) K hw (met_X1_isIn X l σ x1 0 ((σ a0 28 0) - 1) hx1 ⟨by decide, by decide⟩ hr1 _ h) (i_S (n := 3) (As := [jI x1, jI 0, jI ((σ a0 28 0) - 1)]) K (by decide) q1010 q682 q90 (sg_of K q683) rfl rfl dX1_orderAt_8) (locw K q683 q90) ⟨by decide, by decide⟩ hl.1 dX1_orderAt_8 (Nat.le_of_ble_eq_true rfl) ⟨Nat.le_refl _, Nat.le_refl _⟩ (fun r2 _ _ hr3 h hw6 => ?_)
  refine z_if_eq (pc := 11) (tgt := 23) K (b01r hr3) dX1_orderAt_11 (by decide) (fun hc7 => ?_) (fun hc7 => ?_)
  · have h := ite_t h hc7
    refine z_iconst (pc := 23) K dX1_orderAt_23 ?_
    exact z_iret (pc := 24) K hw6 ⟨by decide, by decide⟩ ⟨rfl, h⟩ dX1_orderAt_24
  · have h := ite_f h hc7
    refine z_aload_n (pc := 14) K dX1_orderAt_14 rfl (lv_at hl 0 rfl) ?_
    refine z_get (pc := 15) (t := 1) (k := 27) K hw6 (ob ht0) zq1 (by decide) q545 (fun _ h => h) dX1_orderAt_15 (zval_p (κ := 1) kf_1_27) ?_
    refine lv_iload_n (pc := 18) K.x K.b dX1_orderAt_18 rfl (lv_at hl 1 rfl) ?_
    obtain ⟨hj8, h⟩ := h
    refine z_iald (pc := 19) (t := 1) K hw6 ht0 ⟨by decide, by decide⟩ kf_1_27 kl_1_27 hj8 (by decide) dX1_orderAt_19 ?_
    refine z_goto (pc := 20) (tgt := 24) K dX1_orderAt_20 (by decide) ?_
    exact z_iret (pc := 24) K hw6 (z_elI (t := 1) hw6 ht0 ⟨by decide, by decide⟩ kf_1_27 kl_1_27 hj8) ⟨rfl, h⟩ dX1_orderAt_24
def ws_X1_ordersFrom : List (Int × Nat) := [(1, 26), (1, 27), (1, 28), (3, 1), (3, 2), (3, 3), (3, 4), (3, 5), (3, 6), (3, 7), (3, 8), (3, 9)]
theorem wo_X1_ordersFrom : wsOk ws_X1_ordersFrom = true := rfl
def wp_X1_ordersFrom_b130 (a0 : Int) (x1 : Int) (x2 : Int) (x3 : Int) (Q : Int → St → Prop) (σ0 : St) (Rc : Nat → St → Int → Int → Int → Int → (Int → St → Prop) → Prop) (L42 : St → Int → Int → Prop) (σ : St) (v5 : Int) (s0 : Int) (s2 : Int) (s3 : Int) (s4 : Int) : Prop :=
  Rc 0 σ a0 s2 s3 s4 (fun r1 σ4 => Kp ws_X1_ordersFrom σ σ4 → wp_X3_undo σ4 (σ4 a0 9 0) (fun σ13 => Kp ws_X3_undo σ4 σ13 → rng (s0 + r1) ∧ rng (v5 + 1) ∧ (L42 σ13 (s0 + r1) (v5 + 1))))
def wp_X1_ordersFrom_b129 (a0 : Int) (x1 : Int) (x2 : Int) (x3 : Int) (Q : Int → St → Prop) (σ0 : St) (Rc : Nat → St → Int → Int → Int → Int → (Int → St → Prop) → Prop) (L42 : St → Int → Int → Prop) (σ : St) (v5 : Int) (s0 : Int) (s2 : Int) (s3 : Int) : Prop :=
  (wp_X1_ordersFrom_b130 a0 x1 x2 x3 Q σ0 Rc L42 σ v5 s0 s2 s3 0)
def lp_X1_ordersFrom_42 (a0 : Int) (x1 : Int) (x2 : Int) (x3 : Int) (Q : Int → St → Prop) (σ0 : St) (Rc : Nat → St → Int → Int → Int → Int → (Int → St → Prop) → Prop) : Nat → St → Int → Int → Prop
  | 0 => fun _ _ _ => False
  | n + 1 => fun σ v4 v5 => 
    Kp ws_X1_ordersFrom σ0 σ → (if v5 < σ (σ a0 11 0) 2 0 then
      wp_X1_has σ x2 v5 (fun r3 => (if r3 = 0 then
        (0 ≤ v5 ∧ v5 < 24) ∧ wp_X3_tries σ (σ a0 9 0) (σ (σ a0 11 0) 0 v5) (σ (σ a0 11 0) 1 v5) (fun r11 σ14 => Kp ws_X3_tries σ σ14 → (if 0 < r11 then
          rng (v5 + 1) ∧ (lp_X1_ordersFrom_42 a0 x1 x2 x3 Q σ0 Rc n σ14 v4 (v5 + 1))
          else
          (0 ≤ x1 ∧ x1 < 7) ∧ ∀ σ23 : St, σ23 = st σ14 a0 26 x1 v5 → (if x3 = 0 then
            rng (x1 + 1) ∧ (wp_X1_ordersFrom_b129 a0 x1 x2 x3 Q σ0 Rc (lp_X1_ordersFrom_42 a0 x1 x2 x3 Q σ0 Rc n) σ23 v5 v4 (x1 + 1) (zor x2 (zshl 1 v5)))
            else
            (if v4 = 0 then
              rng (x1 + 1) ∧ (wp_X1_ordersFrom_b130 a0 x1 x2 x3 Q σ0 Rc (lp_X1_ordersFrom_42 a0 x1 x2 x3 Q σ0 Rc n) σ23 v5 v4 (x1 + 1) (zor x2 (zshl 1 v5)) 1)
              else
              rng (x1 + 1) ∧ (wp_X1_ordersFrom_b129 a0 x1 x2 x3 Q σ0 Rc (lp_X1_ordersFrom_42 a0 x1 x2 x3 Q σ0 Rc n) σ23 v5 v4 (x1 + 1) (zor x2 (zshl 1 v5)))))))
        else
        rng (v5 + 1) ∧ (lp_X1_ordersFrom_42 a0 x1 x2 x3 Q σ0 Rc n σ v4 (v5 + 1))))
      else
      Q v4 σ)
def bd_X1_ordersFrom (Rc : Nat → St → Int → Int → Int → Int → (Int → St → Prop) → Prop) (σ : St) (a0 : Int) (x1 : Int) (x2 : Int) (x3 : Int) (Q : Int → St → Prop) : Prop :=
  (if x1 = σ (σ a0 11 0) 2 0 then
    (if x3 = 0 then
      Q 1 σ
      else
      (0 ≤ x1 ∧ x1 ≤ 7 ∧ x1 ≤ 7) ∧ ∀ σ6 : St, σ6 = cpy σ a0 26 a0 27 x1 → ∀ σ12 : St, σ12 = st σ6 a0 28 0 x1 → Q 1 σ12)
    else
    (∃ kk, lp_X1_ordersFrom_42 a0 x1 x2 x3 Q σ Rc kk σ 0 0))
def wg_X1_ordersFrom : Nat → Nat → St → Int → Int → Int → Int → (Int → St → Prop) → Prop
  | 0 => fun _ _ _ _ _ _ _ => False
  | n + 1 => fun i => match i with
    | _ => bd_X1_ordersFrom (wg_X1_ordersFrom n)
set_option maxHeartbeats 4000000 in
theorem wk_X1_ordersFrom_b130 {X : Cxt} {p : Program} {l : Launch} {e : Env} {s : State} {m : MethodId} {args : Array Value} {below : List Frame} {meth : Method} {c : Code} (a0 : Int) (x1 : Int) (x2 : Int) (x3 : Int) (Q : Int → St → Prop) (σ0 : St) (Rc : Nat → St → Int → Int → Int → Int → (Int → St → Prop) → Prop) (K : MCx X p s m args meth c cX1_ordersFrom 6 "CombTable" (some .int)) (hx1 : rng x1) (hx2 : rng x2) (hx3 : 0 ≤ x3 ∧ x3 ≤ 1) (nr : Nat) (hRc0 : ∀ (σ : St) (a0 : Int) (x1 : Int) (x2 : Int) (x3 : Int) (ht0 : tg σ a0 = 1) (hx1 : rng x1) (hx2 : rng x2) (hx3 : 0 ≤ x3 ∧ x3 ≤ 1) (Q : Int → St → Prop), Rc 0 σ a0 x1 x2 x3 Q → MetT l yX1_ordersFrom (ws_ yX1_ordersFrom cX1_ordersFrom 6 (some .int)) (zrm (4 + nr) 0 0) (ZP X σ [jR X a0, jI x1, jI x2, jI x3]) (ZQ X (qI (fun r σ' => Kp ws_X1_ordersFrom σ σ' ∧ Q r σ')) (fun _ _ => False)) 0 0 (zA X)) (L42 : St → Int → Int → Prop) (hL42 : ∀ (σ : St) (v4 : Int) (v5 : Int) (H : Heap) (locs : List Loc) (ls : Array Slot), L42 σ v4 v5 → Wc X σ s.heap H locs → Kp ws_X1_ordersFrom σ0 σ → tg σ a0 = 1 → rng v4 → rng v5 → lv_has ls 6 [(0, jR X a0), (1, jI x1), (2, jI x2), (3, jI x3), (4, jI v4), (5, jI v5)] → W p l e (zrm (4 + nr + 1) 0 0) s m args below meth c H locs 0 0 (MQT below (ZQ X (qI (fun r σ' => Kp ws_X1_ordersFrom σ0 σ' ∧ Q r σ')) (fun _ _ => False)) args s 0 0 (zA X)) (F0 m 42 ls [])) : ∀ (σ : St) (v5 : Int) (s0 : Int) (s2 : Int) (s3 : Int) (s4 : Int) (H : Heap) (locs : List Loc) (ls : Array Slot), wp_X1_ordersFrom_b130 a0 x1 x2 x3 Q σ0 Rc L42 σ v5 s0 s2 s3 s4 → Wc X σ s.heap H locs → Kp ws_X1_ordersFrom σ0 σ → tg σ a0 = 1 → rng v5 → rng s0 → rng s2 → rng s3 → (0 ≤ s4 ∧ s4 ≤ 1) → lv_has ls 6 [(0, jR X a0), (1, jI x1), (2, jI x2), (3, jI x3), (5, jI v5)] → W p l e (zrm (4 + nr + 1) 0 0) s m args below meth c H locs 0 0 (MQT below (ZQ X (qI (fun r σ' => Kp ws_X1_ordersFrom σ0 σ' ∧ Q r σ')) (fun _ _ => False)) args s 0 0 (zA X)) (F0 m 130 ls [jI s4, jI s3, jI s2, jR X a0, jI s0]) := by
  intro σ v5 s0 s2 s3 s4 H locs ls h hw hk ht0 hv5 hs0 hs2 hs3 hs4 hl
  refine zc_i (pc := 130) (maxL := 6) K hw (hRc0 σ a0 s2 s3 s4 ht0 hs2 hs3 hs4 _ h) (i_V (n := 3) (t := 1) (As := [jI s2, jI s3, jI s4]) K hw (ob ht0) zq1 (by decide) q1134 q1136 qs14 (sg_of K q1137) rfl rfl dX1_ordersFrom_130) (locw K q1137 q90) (zr_ok2 (by omega) (by omega)) hl.1 dX1_ordersFrom_130 (Nat.le_of_ble_eq_true rfl) ⟨Nat.le_refl _, Nat.le_refl _⟩ (fun r1 σ4 _ _ hr2 hq3 hw5 => ?_)
  obtain ⟨hk6, h⟩ := hq3
  have h := h hk6
  have hk7 := kp_trans wo_X1_ordersFrom hk hk6 (fun _ q => q) (by decide)
  have hg8 : tg σ4 a0 = 1 := kp_tg hk6 wo_X1_ordersFrom ht0 (by decide)
  refine z_iadd (pc := 133) K dX1_ordersFrom_133 ?_
  refine lv_istore (pc := 134) (lv' := [(4, jI (s0 + r1)), (0, jR X a0), (1, jI x1), (2, jI x2), (3, jI x3), (5, jI v5)]) K.x K.b dX1_ordersFrom_134 hl (by decide) rfl (fun ls hl => ?_)
  refine z_aload_n (pc := 136) K dX1_ordersFrom_136 rfl (lv_at hl 1 rfl) ?_
  refine z_get (pc := 137) (t := 1) (k := 9) K hw5 (ob hg8) zq1 (by decide) q527 (fun _ h => h) dX1_ordersFrom_137 (zval_r kf_1_9) ?_
  have hg9 : tg σ4 (σ4 a0 9 0) = 3 := (z_tg (t := 1) (r := 3) hw5 hg8 ⟨by decide, by decide⟩ kf_1_9 kn_1_9 kt_1_9 (by decide) (by decide))
  refine zc_v (pc := 140) (maxL := 2) K hw5 (met_X3_undo X l σ4 (σ4 a0 9 0) hg9 _ h) (i_V (n := 0) (t := 3) (As := []) K hw5 (ob hg9) zq3 (by decide) q953 q954 q955 (sg_of K q956) rfl rfl dX1_ordersFrom_140) (locw K q956 q94) (zr_ok2 (by omega) (by omega)) hl.1 dX1_ordersFrom_140 (Nat.le_of_ble_eq_true rfl) ⟨Nat.le_refl _, Nat.le_refl _⟩ (fun σ13 _ _ hq12 hw14 => ?_)
  obtain ⟨hk15, h⟩ := hq12
  have h := h hk15
  have hk16 := kp_trans wo_X1_ordersFrom hk7 hk15 (fun _ q => q) (by decide)
  have hg17 : tg σ13 a0 = 1 := kp_tg hk15 wo_X3_undo hg8 (by decide)
  refine z_iinc (pc := 143) (k := 5) (lv' := [(5, jI (v5 + 1)), (4, jI (s0 + r1)), (0, jR X a0), (1, jI x1), (2, jI x2), (3, jI x3)]) K dX1_ordersFrom_143 hl rfl (by decide) rfl (fun ls hl => ?_)
  refine z_goto (pc := 146) (tgt := 42) K dX1_ordersFrom_146 (by decide) ?_
  obtain ⟨hr18, h⟩ := h
  obtain ⟨hr19, h⟩ := h
  exact hL42 σ13 (s0 + r1) (v5 + 1) _ _ _ h hw14 hk16 hg17 hr18 hr19 (lv_sub hl [2, 3, 4, 5, 1, 0] rfl)
set_option maxHeartbeats 4000000 in
theorem wk_X1_ordersFrom_b129 {X : Cxt} {p : Program} {l : Launch} {e : Env} {s : State} {m : MethodId} {args : Array Value} {below : List Frame} {meth : Method} {c : Code} (a0 : Int) (x1 : Int) (x2 : Int) (x3 : Int) (Q : Int → St → Prop) (σ0 : St) (Rc : Nat → St → Int → Int → Int → Int → (Int → St → Prop) → Prop) (K : MCx X p s m args meth c cX1_ordersFrom 6 "CombTable" (some .int)) (hx1 : rng x1) (hx2 : rng x2) (hx3 : 0 ≤ x3 ∧ x3 ≤ 1) (nr : Nat) (hRc0 : ∀ (σ : St) (a0 : Int) (x1 : Int) (x2 : Int) (x3 : Int) (ht0 : tg σ a0 = 1) (hx1 : rng x1) (hx2 : rng x2) (hx3 : 0 ≤ x3 ∧ x3 ≤ 1) (Q : Int → St → Prop), Rc 0 σ a0 x1 x2 x3 Q → MetT l yX1_ordersFrom (ws_ yX1_ordersFrom cX1_ordersFrom 6 (some .int)) (zrm (4 + nr) 0 0) (ZP X σ [jR X a0, jI x1, jI x2, jI x3]) (ZQ X (qI (fun r σ' => Kp ws_X1_ordersFrom σ σ' ∧ Q r σ')) (fun _ _ => False)) 0 0 (zA X)) (L42 : St → Int → Int → Prop) (hL42 : ∀ (σ : St) (v4 : Int) (v5 : Int) (H : Heap) (locs : List Loc) (ls : Array Slot), L42 σ v4 v5 → Wc X σ s.heap H locs → Kp ws_X1_ordersFrom σ0 σ → tg σ a0 = 1 → rng v4 → rng v5 → lv_has ls 6 [(0, jR X a0), (1, jI x1), (2, jI x2), (3, jI x3), (4, jI v4), (5, jI v5)] → W p l e (zrm (4 + nr + 1) 0 0) s m args below meth c H locs 0 0 (MQT below (ZQ X (qI (fun r σ' => Kp ws_X1_ordersFrom σ0 σ' ∧ Q r σ')) (fun _ _ => False)) args s 0 0 (zA X)) (F0 m 42 ls [])) : ∀ (σ : St) (v5 : Int) (s0 : Int) (s2 : Int) (s3 : Int) (H : Heap) (locs : List Loc) (ls : Array Slot), wp_X1_ordersFrom_b129 a0 x1 x2 x3 Q σ0 Rc L42 σ v5 s0 s2 s3 → Wc X σ s.heap H locs → Kp ws_X1_ordersFrom σ0 σ → tg σ a0 = 1 → rng v5 → rng s0 → rng s2 → rng s3 → lv_has ls 6 [(0, jR X a0), (1, jI x1), (2, jI x2), (3, jI x3), (5, jI v5)] → W p l e (zrm (4 + nr + 1) 0 0) s m args below meth c H locs 0 0 (MQT below (ZQ X (qI (fun r σ' => Kp ws_X1_ordersFrom σ0 σ' ∧ Q r σ')) (fun _ _ => False)) args s 0 0 (zA X)) (F0 m 129 ls [jI s3, jI s2, jR X a0, jI s0]) := by
  intro σ v5 s0 s2 s3 H locs ls h hw hk ht0 hv5 hs0 hs2 hs3 hl
  refine z_iconst (pc := 129) K dX1_ordersFrom_129 ?_
  exact wk_X1_ordersFrom_b130 a0 x1 x2 x3 Q σ0 Rc K hx1 hx2 hx3 nr hRc0 L42 hL42 σ v5 s0 s2 s3 0 _ _ _ h hw hk ht0 hv5 hs0 hs2 hs3 ⟨by decide, by decide⟩ (lv_sub hl [0, 1, 2, 3, 4] rfl)
set_option maxHeartbeats 4000000 in
theorem wk_X1_ordersFrom_42 {X : Cxt} {p : Program} {l : Launch} {e : Env} {s : State} {m : MethodId} {args : Array Value} {below : List Frame} {meth : Method} {c : Code} (a0 : Int) (x1 : Int) (x2 : Int) (x3 : Int) (Q : Int → St → Prop) (σ0 : St) (Rc : Nat → St → Int → Int → Int → Int → (Int → St → Prop) → Prop) (K : MCx X p s m args meth c cX1_ordersFrom 6 "CombTable" (some .int)) (hx1 : rng x1) (hx2 : rng x2) (hx3 : 0 ≤ x3 ∧ x3 ≤ 1) (nr : Nat) (hRc0 : ∀ (σ : St) (a0 : Int) (x1 : Int) (x2 : Int) (x3 : Int) (ht0 : tg σ a0 = 1) (hx1 : rng x1) (hx2 : rng x2) (hx3 : 0 ≤ x3 ∧ x3 ≤ 1) (Q : Int → St → Prop), Rc 0 σ a0 x1 x2 x3 Q → MetT l yX1_ordersFrom (ws_ yX1_ordersFrom cX1_ordersFrom 6 (some .int)) (zrm (4 + nr) 0 0) (ZP X σ [jR X a0, jI x1, jI x2, jI x3]) (ZQ X (qI (fun r σ' => Kp ws_X1_ordersFrom σ σ' ∧ Q r σ')) (fun _ _ => False)) 0 0 (zA X)) : ∀ (n : Nat), ∀ (σ : St) (v4 : Int) (v5 : Int) (H : Heap) (locs : List Loc) (ls : Array Slot), lp_X1_ordersFrom_42 a0 x1 x2 x3 Q σ0 Rc n σ v4 v5 → Wc X σ s.heap H locs → Kp ws_X1_ordersFrom σ0 σ → tg σ a0 = 1 → rng v4 → rng v5 → lv_has ls 6 [(0, jR X a0), (1, jI x1), (2, jI x2), (3, jI x3), (4, jI v4), (5, jI v5)] → W p l e (zrm (4 + nr + 1) 0 0) s m args below meth c H locs 0 0 (MQT below (ZQ X (qI (fun r σ' => Kp ws_X1_ordersFrom σ0 σ' ∧ Q r σ')) (fun _ _ => False)) args s 0 0 (zA X)) (F0 m 42 ls []) := by
  intro n
  induction n with
  | zero => intro σ v4 v5 H locs ls h; exact h.elim
  | succ n ih =>
    intro σ v4 v5 H locs ls h hw hk ht0 hv4 hv5 hl
    have h := h hk
    refine lv_iload (pc := 42) K.x K.b dX1_ordersFrom_42 (lv_at hl 5 rfl) ?_
    refine z_aload_n (pc := 44) K dX1_ordersFrom_44 rfl (lv_at hl 0 rfl) ?_
    refine z_get (pc := 45) (t := 1) (k := 11) K hw (ob ht0) zq1 (by decide) q529 (fun _ h => h) dX1_ordersFrom_45 (zval_r kf_1_11) ?_
    have hg1 : tg σ (σ a0 11 0) = 5 := (z_tg (t := 1) (r := 5) hw ht0 ⟨by decide, by decide⟩ kf_1_11 kn_1_11 kt_1_11 (by decide) (by decide))
    refine z_getN (pc := 48) (t := 5) (k := 2) K hw (ob hg1) zq5 (by decide) q361 (fun _ h => h) dX1_ordersFrom_48 (zval_i kf_5_2) ?_
    refine z_icmp_ge (pc := 51) (tgt := 149) K hv5 (z_rI hw (ob (t := 5) hg1) kf_5_2) dX1_ordersFrom_51 (by decide) (fun hc2 => ?_) (fun hc2 => ?_)
    · have h := ite_t h hc2
      refine lv_iload_n (pc := 54) K.x K.b dX1_ordersFrom_54 rfl (lv_at hl 2 rfl) ?_
      refine lv_iload (pc := 55) K.x K.b dX1_ordersFrom_55 (lv_at hl 5 rfl) ?_
      refine zr_z (pc := 57) (maxL := 2) K hw (met_X1_has X l σ x2 v5 hx2 hv5 _ h) (i_S (n := 2) (As := [jI x2, jI v5]) K (by decide) q1125 q866 q90 (sg_of K q867) rfl rfl dX1_ordersFrom_57) (locw K q867 q90) (zr_ok2 (by omega) (by omega)) hl.1 dX1_ordersFrom_57 (Nat.le_of_ble_eq_true rfl) ⟨Nat.le_refl _, Nat.le_refl _⟩ (fun r3 _ _ hr4 h hw7 => ?_)
      refine z_if_ne (pc := 60) (tgt := 143) K (b01r hr4) dX1_ordersFrom_60 (by decide) (fun hc8 => ?_) (fun hc8 => ?_)
      · have h := ite_t h hc8
        refine z_aload_n (pc := 63) K dX1_ordersFrom_63 rfl (lv_at hl 0 rfl) ?_
        refine z_get (pc := 64) (t := 1) (k := 9) K hw7 (ob ht0) zq1 (by decide) q527 (fun _ h => h) dX1_ordersFrom_64 (zval_r kf_1_9) ?_
        refine z_aload_n (pc := 67) K dX1_ordersFrom_67 rfl (lv_at hl 0 rfl) ?_
        refine z_get (pc := 68) (t := 1) (k := 11) K hw7 (ob ht0) zq1 (by decide) q529 (fun _ h => h) dX1_ordersFrom_68 (zval_r kf_1_11) ?_
        refine z_getN (pc := 71) (t := 5) (k := 0) K hw7 (ob hg1) zq5 (by decide) q355 (fun _ h => h) dX1_ordersFrom_71 (zval_p (κ := 1) kf_5_0) ?_
        refine lv_iload (pc := 74) K.x K.b dX1_ordersFrom_74 (lv_at hl 5 rfl) ?_
        obtain ⟨hj9, h⟩ := h
        refine z_iald (pc := 76) (t := 5) K hw7 hg1 ⟨by decide, by decide⟩ kf_5_0 kl_5_0 hj9 (by decide) dX1_ordersFrom_76 ?_
        refine z_aload_n (pc := 77) K dX1_ordersFrom_77 rfl (lv_at hl 0 rfl) ?_
        refine z_get (pc := 78) (t := 1) (k := 11) K hw7 (ob ht0) zq1 (by decide) q529 (fun _ h => h) dX1_ordersFrom_78 (zval_r kf_1_11) ?_
        refine z_getN (pc := 81) (t := 5) (k := 1) K hw7 (ob hg1) zq5 (by decide) q358 (fun _ h => h) dX1_ordersFrom_81 (zval_p (κ := 1) kf_5_1) ?_
        refine lv_iload (pc := 84) K.x K.b dX1_ordersFrom_84 (lv_at hl 5 rfl) ?_
        refine z_iald (pc := 86) (t := 5) K hw7 hg1 ⟨by decide, by decide⟩ kf_5_1 kl_5_1 hj9 (by decide) dX1_ordersFrom_86 ?_
        have hg10 : tg σ (σ a0 9 0) = 3 := (z_tg (t := 1) (r := 3) hw7 ht0 ⟨by decide, by decide⟩ kf_1_9 kn_1_9 kt_1_9 (by decide) (by decide))
        refine zc_i (pc := 87) (maxL := 4) K hw7 (met_X3_tries X l σ (σ a0 9 0) (σ (σ a0 11 0) 0 v5) (σ (σ a0 11 0) 1 v5) hg10 (z_elI (t := 5) hw7 hg1 ⟨by decide, by decide⟩ kf_5_0 kl_5_0 hj9) (z_elI (t := 5) hw7 hg1 ⟨by decide, by decide⟩ kf_5_1 kl_5_1 hj9) _ h) (i_V (n := 2) (t := 3) (As := [jI (σ (σ a0 11 0) 0 v5), jI (σ (σ a0 11 0) 1 v5)]) K hw7 (ob hg10) zq3 (by decide) q911 q912 q913 (sg_of K q914) rfl rfl dX1_ordersFrom_87) (locw K q914 q94) (zr_ok2 (by omega) (by omega)) hl.1 dX1_ordersFrom_87 (Nat.le_of_ble_eq_true rfl) ⟨Nat.le_refl _, Nat.le_refl _⟩ (fun r11 σ14 _ _ hr12 hq13 hw15 => ?_)
        obtain ⟨hk16, h⟩ := hq13
        have h := h hk16
        have hk17 := kp_trans wo_X1_ordersFrom hk hk16 (fun _ q => q) (by decide)
        have hg18 : tg σ14 a0 = 1 := kp_tg hk16 wo_X3_tries ht0 (by decide)
        refine z_if_le (pc := 90) (tgt := 96) K hr12 dX1_ordersFrom_90 (by decide) (fun hc19 => ?_) (fun hc19 => ?_)
        · have h := ite_t h hc19
          refine z_goto (pc := 93) (tgt := 143) K dX1_ordersFrom_93 (by decide) ?_
          refine z_iinc (pc := 143) (k := 5) (lv' := [(5, jI (v5 + 1)), (0, jR X a0), (1, jI x1), (2, jI x2), (3, jI x3), (4, jI v4)]) K dX1_ordersFrom_143 hl rfl (by decide) rfl (fun ls hl => ?_)
          refine z_goto (pc := 146) (tgt := 42) K dX1_ordersFrom_146 (by decide) ?_
          obtain ⟨hr20, h⟩ := h
          exact ih σ14 v4 (v5 + 1) _ _ _ h hw15 hk17 hg18 hv4 hr20 (lv_sub hl [1, 2, 3, 4, 5, 0] rfl)
        · have h := ite_f h hc19
          refine z_aload_n (pc := 96) K dX1_ordersFrom_96 rfl (lv_at hl 0 rfl) ?_
          refine z_get (pc := 97) (t := 1) (k := 26) K hw15 (ob hg18) zq1 (by decide) q544 (fun _ h => h) dX1_ordersFrom_97 (zval_p (κ := 1) kf_1_26) ?_
          refine lv_iload_n (pc := 100) K.x K.b dX1_ordersFrom_100 rfl (lv_at hl 1 rfl) ?_
          refine lv_iload (pc := 101) K.x K.b dX1_ordersFrom_101 (lv_at hl 5 rfl) ?_
          obtain ⟨hj21, h⟩ := h
          refine z_iast (pc := 103) (t := 1) K hw15 hg18 ⟨by decide, by decide⟩ kf_1_26 kl_1_26 hj21 (by decide) hv5 dX1_ordersFrom_103 (fun _ _ hw22 => ?_)
          obtain ⟨σ23, e24⟩ : ∃ z, z = st σ14 a0 26 x1 v5 := ⟨_, rfl⟩
          have h := h σ23 e24
          have hw22 := wc_e e24 hw22
          have hk25 := kp_e e24 hk17 wo_X1_ordersFrom hj21.1 hg18 (t := 1) (by decide)
          have hg26 : tg σ23 a0 = 1 := (tg_e e24 (by decide)).trans hg18
          refine lv_iload (pc := 104) K.x K.b dX1_ordersFrom_104 (lv_at hl 4 rfl) ?_
          refine z_aload_n (pc := 106) K dX1_ordersFrom_106 rfl (lv_at hl 0 rfl) ?_
          refine lv_iload_n (pc := 107) K.x K.b dX1_ordersFrom_107 rfl (lv_at hl 1 rfl) ?_
          refine z_iconst (pc := 108) K dX1_ordersFrom_108 ?_
          refine z_iadd (pc := 109) K dX1_ordersFrom_109 ?_
          refine lv_iload_n (pc := 110) K.x K.b dX1_ordersFrom_110 rfl (lv_at hl 2 rfl) ?_
          refine z_iconst (pc := 111) K dX1_ordersFrom_111 ?_
          refine lv_iload (pc := 112) K.x K.b dX1_ordersFrom_112 (lv_at hl 5 rfl) ?_
          refine z_ishl (pc := 114) K dX1_ordersFrom_114 ?_
          refine z_ior (pc := 115) K dX1_ordersFrom_115 ?_
          refine lv_iload_n (pc := 116) K.x K.b dX1_ordersFrom_116 rfl (lv_at hl 3 rfl) ?_
          refine z_if_eq (pc := 117) (tgt := 129) K (b01r hx3) dX1_ordersFrom_117 (by decide) (fun hc27 => ?_) (fun hc27 => ?_)
          · have h := ite_t h hc27
            obtain ⟨hr28, h⟩ := h
            exact wk_X1_ordersFrom_b129 a0 x1 x2 x3 Q σ0 Rc K hx1 hx2 hx3 nr hRc0 (lp_X1_ordersFrom_42 a0 x1 x2 x3 Q σ0 Rc n) ih σ23 v5 v4 (x1 + 1) (zor x2 (zshl 1 v5)) _ _ _ h hw22 hk25 hg26 hv5 hv4 hr28 (rng_toInt _) (lv_sub hl [0, 1, 2, 3, 5] rfl)
          · have h := ite_f h hc27
            refine lv_iload (pc := 120) K.x K.b dX1_ordersFrom_120 (lv_at hl 4 rfl) ?_
            refine z_if_ne (pc := 122) (tgt := 129) K hv4 dX1_ordersFrom_122 (by decide) (fun hc29 => ?_) (fun hc29 => ?_)
            · have h := ite_t h hc29
              refine z_iconst (pc := 125) K dX1_ordersFrom_125 ?_
              refine z_goto (pc := 126) (tgt := 130) K dX1_ordersFrom_126 (by decide) ?_
              obtain ⟨hr30, h⟩ := h
              exact wk_X1_ordersFrom_b130 a0 x1 x2 x3 Q σ0 Rc K hx1 hx2 hx3 nr hRc0 (lp_X1_ordersFrom_42 a0 x1 x2 x3 Q σ0 Rc n) ih σ23 v5 v4 (x1 + 1) (zor x2 (zshl 1 v5)) 1 _ _ _ h hw22 hk25 hg26 hv5 hv4 hr30 (rng_toInt _) ⟨by decide, by decide⟩ (lv_sub hl [0, 1, 2, 3, 5] rfl)
            · have h := ite_f h hc29
              obtain ⟨hr31, h⟩ := h
              exact wk_X1_ordersFrom_b129 a0 x1 x2 x3 Q σ0 Rc K hx1 hx2 hx3 nr hRc0 (lp_X1_ordersFrom_42 a0 x1 x2 x3 Q σ0 Rc n) ih σ23 v5 v4 (x1 + 1) (zor x2 (zshl 1 v5)) _ _ _ h hw22 hk25 hg26 hv5 hv4 hr31 (rng_toInt _) (lv_sub hl [0, 1, 2, 3, 5] rfl)
      · have h := ite_f h hc8
        refine z_iinc (pc := 143) (k := 5) (lv' := [(5, jI (v5 + 1)), (0, jR X a0), (1, jI x1), (2, jI x2), (3, jI x3), (4, jI v4)]) K dX1_ordersFrom_143 hl rfl (by decide) rfl (fun ls hl => ?_)
        refine z_goto (pc := 146) (tgt := 42) K dX1_ordersFrom_146 (by decide) ?_
        obtain ⟨hr32, h⟩ := h
        exact ih σ v4 (v5 + 1) _ _ _ h hw7 hk ht0 hv4 hr32 (lv_sub hl [1, 2, 3, 4, 5, 0] rfl)
    · have h := ite_f h hc2
      refine lv_iload (pc := 149) K.x K.b dX1_ordersFrom_149 (lv_at hl 4 rfl) ?_
      exact z_iret (pc := 151) K hw hv4 ⟨hk, h⟩ dX1_ordersFrom_151
set_option maxHeartbeats 4000000 in
theorem mb_X1_ordersFrom (X : Cxt) (l : Launch) (nr : Nat) (Rc : Nat → St → Int → Int → Int → Int → (Int → St → Prop) → Prop) (hRc0 : ∀ (σ : St) (a0 : Int) (x1 : Int) (x2 : Int) (x3 : Int) (ht0 : tg σ a0 = 1) (hx1 : rng x1) (hx2 : rng x2) (hx3 : 0 ≤ x3 ∧ x3 ≤ 1) (Q : Int → St → Prop), Rc 0 σ a0 x1 x2 x3 Q → MetT l yX1_ordersFrom (ws_ yX1_ordersFrom cX1_ordersFrom 6 (some .int)) (zrm (4 + nr) 0 0) (ZP X σ [jR X a0, jI x1, jI x2, jI x3]) (ZQ X (qI (fun r σ' => Kp ws_X1_ordersFrom σ σ' ∧ Q r σ')) (fun _ _ => False)) 0 0 (zA X)) (σ : St) (a0 : Int) (x1 : Int) (x2 : Int) (x3 : Int) (ht0 : tg σ a0 = 1) (hx1 : rng x1) (hx2 : rng x2) (hx3 : 0 ≤ x3 ∧ x3 ≤ 1) (Q : Int → St → Prop) (h : bd_X1_ordersFrom Rc σ a0 x1 x2 x3 Q) : MetT l yX1_ordersFrom (ws_ yX1_ordersFrom cX1_ordersFrom 6 (some .int)) (zrm (4 + nr + 1) 0 0) (ZP X σ [jR X a0, jI x1, jI x2, jI x3]) (ZQ X (qI (fun r σ' => Kp ws_X1_ordersFrom σ σ' ∧ Q r σ')) (fun _ _ => False)) 0 0 (zA X) := by
  refine z_start (own := "CombTable") (lv := [(0, jR X a0), (1, jI x1), (2, jI x2), (3, jI x3)]) (by decide) rfl (by simp [lv_args, jR_cat, jI_cat, jL_cat]) (by simp [lg_sl, jR_cat, jI_cat, jL_cat]) (fun p e s m below meth c ls K _ _ hw hl => ?_)
  have hk : Kp ws_X1_ordersFrom σ σ := kp_rf σ
  refine lv_iload_n (pc := 0) K.x K.b dX1_ordersFrom_0 rfl (lv_at hl 1 rfl) ?_
  refine z_aload_n (pc := 1) K dX1_ordersFrom_1 rfl (lv_at hl 0 rfl) ?_
  refine z_get (pc := 2) (t := 1) (k := 11) K hw (ob ht0) zq1 (by decide) q529 (fun _ h => h) dX1_ordersFrom_2 (zval_r kf_1_11) ?_
  have hg1 : tg σ (σ a0 11 0) = 5 := (z_tg (t := 1) (r := 5) hw ht0 ⟨by decide, by decide⟩ kf_1_11 kn_1_11 kt_1_11 (by decide) (by decide))
  refine z_getN (pc := 5) (t := 5) (k := 2) K hw (ob hg1) zq5 (by decide) q361 (fun _ h => h) dX1_ordersFrom_5 (zval_i kf_5_2) ?_
  refine z_icmp_ne (pc := 8) (tgt := 36) K hx1 (z_rI hw (ob (t := 5) hg1) kf_5_2) dX1_ordersFrom_8 (by decide) (fun hc2 => ?_) (fun hc2 => ?_)
  · have h := ite_t h hc2
    refine lv_iload_n (pc := 11) K.x K.b dX1_ordersFrom_11 rfl (lv_at hl 3 rfl) ?_
    refine z_if_eq (pc := 12) (tgt := 34) K (b01r hx3) dX1_ordersFrom_12 (by decide) (fun hc3 => ?_) (fun hc3 => ?_)
    · have h := ite_t h hc3
      refine z_iconst (pc := 34) K dX1_ordersFrom_34 ?_
      exact z_iret (pc := 35) K hw ⟨by decide, by decide⟩ ⟨hk, h⟩ dX1_ordersFrom_35
    · have h := ite_f h hc3
      refine z_aload_n (pc := 15) K dX1_ordersFrom_15 rfl (lv_at hl 0 rfl) ?_
      refine z_get (pc := 16) (t := 1) (k := 26) K hw (ob ht0) zq1 (by decide) q544 (fun _ h => h) dX1_ordersFrom_16 (zval_p (κ := 1) kf_1_26) ?_
      refine z_iconst (pc := 19) K dX1_ordersFrom_19 ?_
      refine z_aload_n (pc := 20) K dX1_ordersFrom_20 rfl (lv_at hl 0 rfl) ?_
      refine z_get (pc := 21) (t := 1) (k := 27) K hw (ob ht0) zq1 (by decide) q545 (fun _ h => h) dX1_ordersFrom_21 (zval_p (κ := 1) kf_1_27) ?_
      refine z_iconst (pc := 24) K dX1_ordersFrom_24 ?_
      refine lv_iload_n (pc := 25) K.x K.b dX1_ordersFrom_25 rfl (lv_at hl 1 rfl) ?_
      obtain ⟨hj4, h⟩ := h
      refine z_copyi (pc := 26) (t1 := 1) (t2 := 1) K hw ht0 ⟨by decide, by decide⟩ kf_1_26 ht0 ⟨by decide, by decide⟩ kf_1_27 kl_1_26 kl_1_27 hj4 (by decide) q1138 q997 q996 q112 (nr_ok (by omega)) hl.1 (Nat.le_of_ble_eq_true rfl) dX1_ordersFrom_26 (fun _ _ hw5 => ?_)
      obtain ⟨σ6, e7⟩ : ∃ z, z = cpy σ a0 26 a0 27 x1 := ⟨_, rfl⟩
      have h := h σ6 e7
      have hw5 := wc_e e7 hw5
      have hk8 : Kp [(1, 27)] σ σ6 := kp_cpy e7 ht0
      have hk9 := kp_trans wo_X1_ordersFrom hk hk8 (fun _ q => q) (by decide)
      have hg10 : tg σ6 a0 = 1 := kp_tg hk8 (by decide) ht0 (by decide)
      refine z_aload_n (pc := 29) K dX1_ordersFrom_29 rfl (lv_at hl 0 rfl) ?_
      refine lv_iload_n (pc := 30) K.x K.b dX1_ordersFrom_30 rfl (lv_at hl 1 rfl) ?_
      refine z_puti (pc := 31) (t := 1) 28 K hw5 (ob hg10) zq1 (by decide) kf_1_28 zt_1_28 hx1 q546 (fun _ h => h) rfl dX1_ordersFrom_31 (fun _ _ hw11 => ?_)
      obtain ⟨σ12, e13⟩ : ∃ z, z = st σ6 a0 28 0 x1 := ⟨_, rfl⟩
      have h := h σ12 e13
      have hw11 := wc_e e13 hw11
      have hk14 := kp_e e13 hk9 wo_X1_ordersFrom (by decide) hg10 (t := 1) (by decide)
      have hg15 : tg σ12 a0 = 1 := (tg_e e13 (by decide)).trans hg10
      refine z_iconst (pc := 34) K dX1_ordersFrom_34 ?_
      exact z_iret (pc := 35) K hw11 ⟨by decide, by decide⟩ ⟨hk14, h⟩ dX1_ordersFrom_35
  · have h := ite_f h hc2
    refine z_iconst (pc := 36) K dX1_ordersFrom_36 ?_
    refine lv_istore (pc := 37) (lv' := [(4, jI 0), (0, jR X a0), (1, jI x1), (2, jI x2), (3, jI x3)]) K.x K.b dX1_ordersFrom_37 hl (by decide) rfl (fun ls hl => ?_)
    refine z_iconst (pc := 39) K dX1_ordersFrom_39 ?_
    refine lv_istore (pc := 40) (lv' := [(5, jI 0), (4, jI 0), (0, jR X a0), (1, jI x1), (2, jI x2), (3, jI x3)]) K.x K.b dX1_ordersFrom_40 hl (by decide) rfl (fun ls hl => ?_)
    obtain ⟨n16, h⟩ := h
    exact wk_X1_ordersFrom_42 a0 x1 x2 x3 Q σ Rc K hx1 hx2 hx3 nr hRc0 n16 σ 0 0 _ _ _ h hw hk ht0 ⟨by decide, by decide⟩ ⟨by decide, by decide⟩ (lv_sub hl [2, 3, 4, 5, 1, 0] rfl)
theorem mg_X1_ordersFrom (X : Cxt) (l : Launch) : ∀ n : Nat, (∀ (σ : St) (a0 : Int) (x1 : Int) (x2 : Int) (x3 : Int) (ht0 : tg σ a0 = 1) (hx1 : rng x1) (hx2 : rng x2) (hx3 : 0 ≤ x3 ∧ x3 ≤ 1) (Q : Int → St → Prop), wg_X1_ordersFrom n 0 σ a0 x1 x2 x3 Q → MetT l yX1_ordersFrom (ws_ yX1_ordersFrom cX1_ordersFrom 6 (some .int)) (zrm (4 + n) 0 0) (ZP X σ [jR X a0, jI x1, jI x2, jI x3]) (ZQ X (qI (fun r σ' => Kp ws_X1_ordersFrom σ σ' ∧ Q r σ')) (fun _ _ => False)) 0 0 (zA X)) := by
  intro n
  induction n with
  | zero => exact fun σ a0 x1 x2 x3 ht0 hx1 hx2 hx3 Q h => h.elim
  | succ n ih => exact fun σ a0 x1 x2 x3 ht0 hx1 hx2 hx3 Q h => mb_X1_ordersFrom X l n (wg_X1_ordersFrom n) ih σ a0 x1 x2 x3 ht0 hx1 hx2 hx3 Q h
theorem met_X1_ordersFrom (X : Cxt) (l : Launch) (n : Nat) (σ : St) (a0 : Int) (x1 : Int) (x2 : Int) (x3 : Int) (ht0 : tg σ a0 = 1) (hx1 : rng x1) (hx2 : rng x2) (hx3 : 0 ≤ x3 ∧ x3 ≤ 1) (Q : Int → St → Prop) (h : wg_X1_ordersFrom n 0 σ a0 x1 x2 x3 Q) : MetT l yX1_ordersFrom (ws_ yX1_ordersFrom cX1_ordersFrom 6 (some .int)) (zrm (4 + n) 0 0) (ZP X σ [jR X a0, jI x1, jI x2, jI x3]) (ZQ X (qI (fun r σ' => Kp ws_X1_ordersFrom σ σ' ∧ Q r σ')) (fun _ _ => False)) 0 0 (zA X) := (mg_X1_ordersFrom X l n) σ a0 x1 x2 x3 ht0 hx1 hx2 hx3 Q h
def ws_X1_orders : List (Int × Nat) := [(1, 26), (1, 27), (1, 28), (3, 0), (3, 1), (3, 2), (3, 3), (3, 4), (3, 5), (3, 6), (3, 7), (3, 8), (3, 9)]
theorem wo_X1_orders : wsOk ws_X1_orders = true := rfl
def wp_X1_orders (σ : St) (a0 : Int) (Q : Int → St → Prop) : Prop :=
  wp_X1_isTold σ a0 7 (fun r1 => (if r1 = 0 then
    Q (-1) σ
    else
    wp_X3_begin σ (σ a0 9 0) (σ (σ a0 8 0) 0 0) (fun σ13 => Kp ws_X3_begin σ σ13 → wg_X1_ordersFrom 64 0 σ13 a0 0 0 1 (fun r18 σ21 => Kp ws_X1_ordersFrom σ13 σ21 → Q r18 σ21))))
set_option maxHeartbeats 4000000 in
theorem met_X1_orders (X : Cxt) (l : Launch) (σ : St) (a0 : Int) (ht0 : tg σ a0 = 1) (Q : Int → St → Prop) (h : wp_X1_orders σ a0 Q) : MetT l yX1_orders (ws_ yX1_orders cX1_orders 1 (some .int)) (zrm 69 0 0) (ZP X σ [jR X a0]) (ZQ X (qI (fun r σ' => Kp ws_X1_orders σ σ' ∧ Q r σ')) (fun _ _ => False)) 0 0 (zA X) := by
  refine z_start (own := "CombTable") (lv := [(0, jR X a0)]) (by decide) rfl (by simp [lv_args, jR_cat, jI_cat, jL_cat]) (by simp [lg_sl, jR_cat, jI_cat, jL_cat]) (fun p e s m below meth c ls K _ _ hw hl => ?_)
  have hk : Kp ws_X1_orders σ σ := kp_rf σ
  refine z_aload_n (pc := 0) K dX1_orders_0 rfl (lv_at hl 0 rfl) ?_
  refine z_bipush (pc := 1) K dX1_orders_1 (by decide) ?_
  refine zr_z (pc := 3) (maxL := 4) K hw (met_X1_isTold X l σ a0 7 ht0 ⟨by decide, by decide⟩ _ h) (i_V (n := 1) (t := 1) (As := [jI 7]) K hw (ob ht0) zq1 (by decide) q1111 q1113 qs12 (sg_of K q1114) rfl rfl dX1_orders_3) (locw K q1114 q90) ⟨by decide, by decide⟩ hl.1 dX1_orders_3 (Nat.le_of_ble_eq_true rfl) ⟨Nat.le_refl _, Nat.le_refl _⟩ (fun r1 _ _ hr2 h hw5 => ?_)
  refine z_if_ne (pc := 6) (tgt := 11) K (b01r hr2) dX1_orders_6 (by decide) (fun hc6 => ?_) (fun hc6 => ?_)
  · have h := ite_t h hc6
    refine z_iconst (pc := 9) K dX1_orders_9 ?_
    exact z_iret (pc := 10) K hw5 ⟨by decide, by decide⟩ ⟨hk, h⟩ dX1_orders_10
  · have h := ite_f h hc6
    refine z_aload_n (pc := 11) K dX1_orders_11 rfl (lv_at hl 0 rfl) ?_
    refine z_get (pc := 12) (t := 1) (k := 9) K hw5 (ob ht0) zq1 (by decide) q527 (fun _ h => h) dX1_orders_12 (zval_r kf_1_9) ?_
    refine z_aload_n (pc := 15) K dX1_orders_15 rfl (lv_at hl 0 rfl) ?_
    refine z_get (pc := 16) (t := 1) (k := 8) K hw5 (ob ht0) zq1 (by decide) q524 (fun _ h => h) dX1_orders_16 (zval_r kf_1_8) ?_
    have hg7 : tg σ (σ a0 8 0) = 3 := (z_tg (t := 1) (r := 3) hw5 ht0 ⟨by decide, by decide⟩ kf_1_8 kn_1_8 kt_1_8 (by decide) (by decide))
    refine z_getN (pc := 19) (t := 3) (k := 0) K hw5 (ob hg7) zq3 (by decide) q303 (fun _ h => h) dX1_orders_19 (zval_r kf_3_0) ?_
    have hg8 : tg σ (σ a0 9 0) = 3 := (z_tg (t := 1) (r := 3) hw5 ht0 ⟨by decide, by decide⟩ kf_1_9 kn_1_9 kt_1_9 (by decide) (by decide))
    have hg9 : tg σ (σ (σ a0 8 0) 0 0) = 4 := (z_tg (t := 3) (r := 4) hw5 hg7 ⟨by decide, by decide⟩ kf_3_0 kn_3_0 kt_3_0 (by decide) (by decide))
    refine zc_v (pc := 22) (maxL := 2) K hw5 (met_X3_begin X l σ (σ a0 9 0) (σ (σ a0 8 0) 0 0) hg8 hg9 _ h) (i_V (n := 1) (t := 3) (As := [jR X (σ (σ a0 8 0) 0 0)]) K hw5 (ob hg8) zq3 (by decide) q886 q887 q888 (sg_of K q889) rfl rfl dX1_orders_22) (locw K q889 q94) ⟨by decide, by decide⟩ hl.1 dX1_orders_22 (Nat.le_of_ble_eq_true rfl) ⟨Nat.le_refl _, Nat.le_refl _⟩ (fun σ13 _ _ hq12 hw14 => ?_)
    obtain ⟨hk15, h⟩ := hq12
    have h := h hk15
    have hk16 := kp_trans wo_X1_orders hk hk15 (fun _ q => q) (by decide)
    have hg17 : tg σ13 a0 = 1 := kp_tg hk15 wo_X3_begin ht0 (by decide)
    refine z_aload_n (pc := 25) K dX1_orders_25 rfl (lv_at hl 0 rfl) ?_
    refine z_iconst (pc := 26) K dX1_orders_26 ?_
    refine z_iconst (pc := 27) K dX1_orders_27 ?_
    refine z_iconst (pc := 28) K dX1_orders_28 ?_
    refine zc_i (pc := 29) (maxL := 6) K hw14 (met_X1_ordersFrom X l 64 σ13 a0 0 0 1 hg17 ⟨by decide, by decide⟩ ⟨by decide, by decide⟩ ⟨by decide, by decide⟩ _ h) (i_V (n := 3) (t := 1) (As := [jI 0, jI 0, jI 1]) K hw14 (ob hg17) zq1 (by decide) q1134 q1136 qs14 (sg_of K q1137) rfl rfl dX1_orders_29) (locw K q1137 q90) ⟨by decide, by decide⟩ hl.1 dX1_orders_29 (Nat.le_of_ble_eq_true rfl) ⟨Nat.le_refl _, Nat.le_refl _⟩ (fun r18 σ21 _ _ hr19 hq20 hw22 => ?_)
    obtain ⟨hk23, h⟩ := hq20
    have h := h hk23
    have hk24 := kp_trans wo_X1_orders hk16 hk23 (fun _ q => q) (by decide)
    have hg25 : tg σ21 a0 = 1 := kp_tg hk23 wo_X1_ordersFrom hg17 (by decide)
    exact z_iret (pc := 32) K hw22 hr19 ⟨hk24, h⟩ dX1_orders_32
def lp_X1_promised_44 (σ : St) (a0 : Int) (x1 : Int) (x2 : Int) (x3 : Int) (Q : Int → Prop) : Nat → Int → Int → Prop
  | 0 => fun _ _ => False
  | n + 1 => fun v4 v5 => 
    (if v5 < σ (σ a0 8 0) 8 0 then
      wp_X3_kindOf σ (σ a0 8 0) v5 (fun r3 => r3 ≠ -1 ∧ (if σ r3 2 0 = 2 then
        (0 ≤ v5 ∧ v5 < 400) ∧ (if σ (σ a0 8 0) 1 v5 = x1 then
          wp_X3_to σ (σ a0 8 0) v5 (fun r13 => (if r13 = x2 then
            (if x3 = 0 then
              rng (v4 + 1) ∧ rng (v5 + 1) ∧ (lp_X1_promised_44 σ a0 x1 x2 x3 Q n (v4 + 1) (v5 + 1))
              else
              wp_X3_stateOf σ (σ a0 8 0) v5 (fun r22 => (if r22 = x3 then
                rng (v4 + 1) ∧ rng (v5 + 1) ∧ (lp_X1_promised_44 σ a0 x1 x2 x3 Q n (v4 + 1) (v5 + 1))
                else
                rng (v4 + 0) ∧ rng (v5 + 1) ∧ (lp_X1_promised_44 σ a0 x1 x2 x3 Q n (v4 + 0) (v5 + 1)))))
            else
            rng (v4 + 0) ∧ rng (v5 + 1) ∧ (lp_X1_promised_44 σ a0 x1 x2 x3 Q n (v4 + 0) (v5 + 1))))
          else
          rng (v4 + 0) ∧ rng (v5 + 1) ∧ (lp_X1_promised_44 σ a0 x1 x2 x3 Q n (v4 + 0) (v5 + 1)))
        else
        rng (v4 + 0) ∧ rng (v5 + 1) ∧ (lp_X1_promised_44 σ a0 x1 x2 x3 Q n (v4 + 0) (v5 + 1))))
      else
      Q v4)
def wp_X1_promised (σ : St) (a0 : Int) (x1 : Int) (x2 : Int) (x3 : Int) (Q : Int → Prop) : Prop :=
  wp_X3_isWho σ (σ a0 8 0) x1 (fun r2 => (if r2 = 0 then
    Q (-1)
    else
    wp_X3_isWho σ (σ a0 8 0) x2 (fun r8 => (if r8 = 0 then
      Q (-1)
      else
      (if x3 = 0 then
        (∃ kk, lp_X1_promised_44 σ a0 x1 x2 x3 Q kk 0 0)
        else
        wp_X1_isIn σ x3 4 8 (fun r16 => (if r16 = 0 then
          Q (-1)
          else
          (∃ kk, lp_X1_promised_44 σ a0 x1 x2 x3 Q kk 0 0))))))))
set_option maxHeartbeats 4000000 in
theorem wk_X1_promised_44 {X : Cxt} {p : Program} {l : Launch} {e : Env} {s : State} {m : MethodId} {args : Array Value} {below : List Frame} {meth : Method} {c : Code} (σ : St) (a0 : Int) (x1 : Int) (x2 : Int) (x3 : Int) (Q : Int → Prop) (K : MCx X p s m args meth c cX1_promised 6 "CombTable" (some .int)) (hx1 : rng x1) (hx2 : rng x2) (hx3 : rng x3) : ∀ (n : Nat), ∀ (v4 : Int) (v5 : Int) (H : Heap) (locs : List Loc) (ls : Array Slot), lp_X1_promised_44 σ a0 x1 x2 x3 Q n v4 v5 → Wc X σ s.heap H locs → tg σ a0 = 1 → rng v4 → rng v5 → lv_has ls 6 [(0, jR X a0), (1, jI x1), (2, jI x2), (3, jI x3), (4, jI v4), (5, jI v5)] → W p l e (zrm 3 0 0) s m args below meth c H locs 0 0 (MQT below (ZQ X (qI (fun r σ' => σ' = σ ∧ Q r)) (fun _ _ => False)) args s 0 0 (zA X)) (F0 m 44 ls []) := by
  intro n
  induction n with
  | zero => intro v4 v5 H locs ls h; exact h.elim
  | succ n ih =>
    intro v4 v5 H locs ls h hw ht0 hv4 hv5 hl
    refine lv_iload (pc := 44) K.x K.b dX1_promised_44 (lv_at hl 5 rfl) ?_
    refine z_aload_n (pc := 46) K dX1_promised_46 rfl (lv_at hl 0 rfl) ?_
    refine z_get (pc := 47) (t := 1) (k := 8) K hw (ob ht0) zq1 (by decide) q524 (fun _ h => h) dX1_promised_47 (zval_r kf_1_8) ?_
    have hg1 : tg σ (σ a0 8 0) = 3 := (z_tg (t := 1) (r := 3) hw ht0 ⟨by decide, by decide⟩ kf_1_8 kn_1_8 kt_1_8 (by decide) (by decide))
    refine z_getN (pc := 50) (t := 3) (k := 8) K hw (ob hg1) zq3 (by decide) q323 (fun _ h => h) dX1_promised_50 (zval_i kf_3_8) ?_
    refine z_icmp_ge (pc := 53) (tgt := 132) K hv5 (z_rI hw (ob (t := 3) hg1) kf_3_8) dX1_promised_53 (by decide) (fun hc2 => ?_) (fun hc2 => ?_)
    · have h := ite_t h hc2
      refine lv_iload (pc := 56) K.x K.b dX1_promised_56 (lv_at hl 4 rfl) ?_
      refine z_aload_n (pc := 58) K dX1_promised_58 rfl (lv_at hl 0 rfl) ?_
      refine z_get (pc := 59) (t := 1) (k := 8) K hw (ob ht0) zq1 (by decide) q524 (fun _ h => h) dX1_promised_59 (zval_r kf_1_8) ?_
      refine lv_iload (pc := 62) K.x K.b dX1_promised_62 (lv_at hl 5 rfl) ?_
      refine zr_r (pc := 64) (maxL := 2) K hw (met_X3_kindOf X l σ (σ a0 8 0) v5 hg1 hv5 _ h) (i_V (n := 1) (t := 3) (As := [jI v5]) K hw (ob hg1) zq3 (by decide) q1023 q929 q930 (sg_of K q931) rfl rfl dX1_promised_64) (locw K q931 q94) ⟨by decide, by decide⟩ hl.1 dX1_promised_64 (Nat.le_of_ble_eq_true rfl) ⟨Nat.le_refl _, Nat.le_refl _⟩ (fun r3 _ _ hr4 h hw7 => ?_)
      obtain ⟨hn9, h⟩ := h
      have hg8 : tg σ r3 = 12 := okR_nn hn9 (by decide) (by decide) hr4
      refine z_getN (pc := 67) (t := 12) (k := 2) K hw7 (ob hg8) zq12 (by decide) q834 (fun _ h => h) dX1_promised_67 (zval_i kf_12_2) ?_
      refine z_iconst (pc := 70) K dX1_promised_70 ?_
      refine z_icmp_ne (pc := 71) (tgt := 122) K (z_rI hw7 (ob (t := 12) hg8) kf_12_2) ⟨by decide, by decide⟩ dX1_promised_71 (by decide) (fun hc10 => ?_) (fun hc10 => ?_)
      · have h := ite_t h hc10
        refine z_aload_n (pc := 74) K dX1_promised_74 rfl (lv_at hl 0 rfl) ?_
        refine z_get (pc := 75) (t := 1) (k := 8) K hw7 (ob ht0) zq1 (by decide) q524 (fun _ h => h) dX1_promised_75 (zval_r kf_1_8) ?_
        refine z_getN (pc := 78) (t := 3) (k := 1) K hw7 (ob hg1) zq3 (by decide) q306 (fun _ h => h) dX1_promised_78 (zval_p (κ := 1) kf_3_1) ?_
        refine lv_iload (pc := 81) K.x K.b dX1_promised_81 (lv_at hl 5 rfl) ?_
        obtain ⟨hj11, h⟩ := h
        refine z_iald (pc := 83) (t := 3) K hw7 hg1 ⟨by decide, by decide⟩ kf_3_1 kl_3_1 hj11 (by decide) dX1_promised_83 ?_
        refine lv_iload_n (pc := 84) K.x K.b dX1_promised_84 rfl (lv_at hl 1 rfl) ?_
        refine z_icmp_ne (pc := 85) (tgt := 122) K (z_elI (t := 3) hw7 hg1 ⟨by decide, by decide⟩ kf_3_1 kl_3_1 hj11) hx1 dX1_promised_85 (by decide) (fun hc12 => ?_) (fun hc12 => ?_)
        · have h := ite_t h hc12
          refine z_aload_n (pc := 88) K dX1_promised_88 rfl (lv_at hl 0 rfl) ?_
          refine z_get (pc := 89) (t := 1) (k := 8) K hw7 (ob ht0) zq1 (by decide) q524 (fun _ h => h) dX1_promised_89 (zval_r kf_1_8) ?_
          refine lv_iload (pc := 92) K.x K.b dX1_promised_92 (lv_at hl 5 rfl) ?_
          refine zr_i (pc := 94) (maxL := 2) K hw7 (met_X3_to X l σ (σ a0 8 0) v5 hg1 hv5 _ h) (i_V (n := 1) (t := 3) (As := [jI v5]) K hw7 (ob hg1) zq3 (by decide) q1024 q933 q934 (sg_of K q935) rfl rfl dX1_promised_94) (locw K q935 q94) ⟨by decide, by decide⟩ hl.1 dX1_promised_94 (Nat.le_of_ble_eq_true rfl) ⟨Nat.le_refl _, Nat.le_refl _⟩ (fun r13 _ _ hr14 h hw17 => ?_)
          refine lv_iload_n (pc := 97) K.x K.b dX1_promised_97 rfl (lv_at hl 2 rfl) ?_
          refine z_icmp_ne (pc := 98) (tgt := 122) K hr14 hx2 dX1_promised_98 (by decide) (fun hc18 => ?_) (fun hc18 => ?_)
          · have h := ite_t h hc18
            refine lv_iload_n (pc := 101) K.x K.b dX1_promised_101 rfl (lv_at hl 3 rfl) ?_
            refine z_if_eq (pc := 102) (tgt := 118) K hx3 dX1_promised_102 (by decide) (fun hc19 => ?_) (fun hc19 => ?_)
            · have h := ite_t h hc19
              refine z_iconst (pc := 118) K dX1_promised_118 ?_
              refine z_goto (pc := 119) (tgt := 123) K dX1_promised_119 (by decide) ?_
              refine z_iadd (pc := 123) K dX1_promised_123 ?_
              refine lv_istore (pc := 124) (lv' := [(4, jI (v4 + 1)), (0, jR X a0), (1, jI x1), (2, jI x2), (3, jI x3), (5, jI v5)]) K.x K.b dX1_promised_124 hl (by decide) rfl (fun ls hl => ?_)
              refine z_iinc (pc := 126) (k := 5) (lv' := [(5, jI (v5 + 1)), (4, jI (v4 + 1)), (0, jR X a0), (1, jI x1), (2, jI x2), (3, jI x3)]) K dX1_promised_126 hl rfl (by decide) rfl (fun ls hl => ?_)
              refine z_goto (pc := 129) (tgt := 44) K dX1_promised_129 (by decide) ?_
              obtain ⟨hr20, h⟩ := h
              obtain ⟨hr21, h⟩ := h
              exact ih (v4 + 1) (v5 + 1) _ _ _ h hw17 ht0 hr20 hr21 (lv_sub hl [2, 3, 4, 5, 1, 0] rfl)
            · have h := ite_f h hc19
              refine z_aload_n (pc := 105) K dX1_promised_105 rfl (lv_at hl 0 rfl) ?_
              refine z_get (pc := 106) (t := 1) (k := 8) K hw17 (ob ht0) zq1 (by decide) q524 (fun _ h => h) dX1_promised_106 (zval_r kf_1_8) ?_
              refine lv_iload (pc := 109) K.x K.b dX1_promised_109 (lv_at hl 5 rfl) ?_
              refine zr_i (pc := 111) (maxL := 2) K hw17 (met_X3_stateOf X l σ (σ a0 8 0) v5 hg1 hv5 _ h) (i_V (n := 1) (t := 3) (As := [jI v5]) K hw17 (ob hg1) zq3 (by decide) q1015 q1016 q1017 (sg_of K q1018) rfl rfl dX1_promised_111) (locw K q1018 q94) ⟨by decide, by decide⟩ hl.1 dX1_promised_111 (Nat.le_of_ble_eq_true rfl) ⟨Nat.le_refl _, Nat.le_refl _⟩ (fun r22 _ _ hr23 h hw26 => ?_)
              refine lv_iload_n (pc := 114) K.x K.b dX1_promised_114 rfl (lv_at hl 3 rfl) ?_
              refine z_icmp_ne (pc := 115) (tgt := 122) K hr23 hx3 dX1_promised_115 (by decide) (fun hc27 => ?_) (fun hc27 => ?_)
              · have h := ite_t h hc27
                refine z_iconst (pc := 118) K dX1_promised_118 ?_
                refine z_goto (pc := 119) (tgt := 123) K dX1_promised_119 (by decide) ?_
                refine z_iadd (pc := 123) K dX1_promised_123 ?_
                refine lv_istore (pc := 124) (lv' := [(4, jI (v4 + 1)), (0, jR X a0), (1, jI x1), (2, jI x2), (3, jI x3), (5, jI v5)]) K.x K.b dX1_promised_124 hl (by decide) rfl (fun ls hl => ?_)
                refine z_iinc (pc := 126) (k := 5) (lv' := [(5, jI (v5 + 1)), (4, jI (v4 + 1)), (0, jR X a0), (1, jI x1), (2, jI x2), (3, jI x3)]) K dX1_promised_126 hl rfl (by decide) rfl (fun ls hl => ?_)
                refine z_goto (pc := 129) (tgt := 44) K dX1_promised_129 (by decide) ?_
                obtain ⟨hr28, h⟩ := h
                obtain ⟨hr29, h⟩ := h
                exact ih (v4 + 1) (v5 + 1) _ _ _ h hw26 ht0 hr28 hr29 (lv_sub hl [2, 3, 4, 5, 1, 0] rfl)
              · have h := ite_f h hc27
                refine z_iconst (pc := 122) K dX1_promised_122 ?_
                refine z_iadd (pc := 123) K dX1_promised_123 ?_
                refine lv_istore (pc := 124) (lv' := [(4, jI (v4 + 0)), (0, jR X a0), (1, jI x1), (2, jI x2), (3, jI x3), (5, jI v5)]) K.x K.b dX1_promised_124 hl (by decide) rfl (fun ls hl => ?_)
                refine z_iinc (pc := 126) (k := 5) (lv' := [(5, jI (v5 + 1)), (4, jI (v4 + 0)), (0, jR X a0), (1, jI x1), (2, jI x2), (3, jI x3)]) K dX1_promised_126 hl rfl (by decide) rfl (fun ls hl => ?_)
                refine z_goto (pc := 129) (tgt := 44) K dX1_promised_129 (by decide) ?_
                obtain ⟨hr30, h⟩ := h
                obtain ⟨hr31, h⟩ := h
                exact ih (v4 + 0) (v5 + 1) _ _ _ h hw26 ht0 hr30 hr31 (lv_sub hl [2, 3, 4, 5, 1, 0] rfl)
          · have h := ite_f h hc18
            refine z_iconst (pc := 122) K dX1_promised_122 ?_
            refine z_iadd (pc := 123) K dX1_promised_123 ?_
            refine lv_istore (pc := 124) (lv' := [(4, jI (v4 + 0)), (0, jR X a0), (1, jI x1), (2, jI x2), (3, jI x3), (5, jI v5)]) K.x K.b dX1_promised_124 hl (by decide) rfl (fun ls hl => ?_)
            refine z_iinc (pc := 126) (k := 5) (lv' := [(5, jI (v5 + 1)), (4, jI (v4 + 0)), (0, jR X a0), (1, jI x1), (2, jI x2), (3, jI x3)]) K dX1_promised_126 hl rfl (by decide) rfl (fun ls hl => ?_)
            refine z_goto (pc := 129) (tgt := 44) K dX1_promised_129 (by decide) ?_
            obtain ⟨hr32, h⟩ := h
            obtain ⟨hr33, h⟩ := h
            exact ih (v4 + 0) (v5 + 1) _ _ _ h hw17 ht0 hr32 hr33 (lv_sub hl [2, 3, 4, 5, 1, 0] rfl)
        · have h := ite_f h hc12
          refine z_iconst (pc := 122) K dX1_promised_122 ?_
          refine z_iadd (pc := 123) K dX1_promised_123 ?_
          refine lv_istore (pc := 124) (lv' := [(4, jI (v4 + 0)), (0, jR X a0), (1, jI x1), (2, jI x2), (3, jI x3), (5, jI v5)]) K.x K.b dX1_promised_124 hl (by decide) rfl (fun ls hl => ?_)
          refine z_iinc (pc := 126) (k := 5) (lv' := [(5, jI (v5 + 1)), (4, jI (v4 + 0)), (0, jR X a0), (1, jI x1), (2, jI x2), (3, jI x3)]) K dX1_promised_126 hl rfl (by decide) rfl (fun ls hl => ?_)
          refine z_goto (pc := 129) (tgt := 44) K dX1_promised_129 (by decide) ?_
          obtain ⟨hr34, h⟩ := h
          obtain ⟨hr35, h⟩ := h
          exact ih (v4 + 0) (v5 + 1) _ _ _ h hw7 ht0 hr34 hr35 (lv_sub hl [2, 3, 4, 5, 1, 0] rfl)
      · have h := ite_f h hc10
        refine z_iconst (pc := 122) K dX1_promised_122 ?_
        refine z_iadd (pc := 123) K dX1_promised_123 ?_
        refine lv_istore (pc := 124) (lv' := [(4, jI (v4 + 0)), (0, jR X a0), (1, jI x1), (2, jI x2), (3, jI x3), (5, jI v5)]) K.x K.b dX1_promised_124 hl (by decide) rfl (fun ls hl => ?_)
        refine z_iinc (pc := 126) (k := 5) (lv' := [(5, jI (v5 + 1)), (4, jI (v4 + 0)), (0, jR X a0), (1, jI x1), (2, jI x2), (3, jI x3)]) K dX1_promised_126 hl rfl (by decide) rfl (fun ls hl => ?_)
        refine z_goto (pc := 129) (tgt := 44) K dX1_promised_129 (by decide) ?_
        obtain ⟨hr36, h⟩ := h
        obtain ⟨hr37, h⟩ := h
        exact ih (v4 + 0) (v5 + 1) _ _ _ h hw7 ht0 hr36 hr37 (lv_sub hl [2, 3, 4, 5, 1, 0] rfl)
    · have h := ite_f h hc2
      refine lv_iload (pc := 132) K.x K.b dX1_promised_132 (lv_at hl 4 rfl) ?_
      exact z_iret (pc := 134) K hw hv4 ⟨rfl, h⟩ dX1_promised_134
set_option maxHeartbeats 4000000 in
theorem met_X1_promised (X : Cxt) (l : Launch) (σ : St) (a0 : Int) (x1 : Int) (x2 : Int) (x3 : Int) (ht0 : tg σ a0 = 1) (hx1 : rng x1) (hx2 : rng x2) (hx3 : rng x3) (Q : Int → Prop) (h : wp_X1_promised σ a0 x1 x2 x3 Q) : MetT l yX1_promised (ws_ yX1_promised cX1_promised 6 (some .int)) (zrm 3 0 0) (ZP X σ [jR X a0, jI x1, jI x2, jI x3]) (ZQ X (qI (fun r σ' => σ' = σ ∧ Q r)) (fun _ _ => False)) 0 0 (zA X) := by
  refine z_start (own := "CombTable") (lv := [(0, jR X a0), (1, jI x1), (2, jI x2), (3, jI x3)]) (by decide) rfl (by simp [lv_args, jR_cat, jI_cat, jL_cat]) (by simp [lg_sl, jR_cat, jI_cat, jL_cat]) (fun p e s m below meth c ls K _ _ hw hl => ?_)
  refine z_aload_n (pc := 0) K dX1_promised_0 rfl (lv_at hl 0 rfl) ?_
  refine z_get (pc := 1) (t := 1) (k := 8) K hw (ob ht0) zq1 (by decide) q524 (fun _ h => h) dX1_promised_1 (zval_r kf_1_8) ?_
  refine lv_iload_n (pc := 4) K.x K.b dX1_promised_4 rfl (lv_at hl 1 rfl) ?_
  have hg1 : tg σ (σ a0 8 0) = 3 := (z_tg (t := 1) (r := 3) hw ht0 ⟨by decide, by decide⟩ kf_1_8 kn_1_8 kt_1_8 (by decide) (by decide))
  refine zr_z (pc := 5) (maxL := 2) K hw (met_X3_isWho X l σ (σ a0 8 0) x1 hg1 hx1 _ h) (i_V (n := 1) (t := 3) (As := [jI x1]) K hw (ob hg1) zq3 (by decide) q898 q899 q900 (sg_of K q901) rfl rfl dX1_promised_5) (locw K q901 q94) ⟨by decide, by decide⟩ hl.1 dX1_promised_5 (Nat.le_of_ble_eq_true rfl) ⟨Nat.le_refl _, Nat.le_refl _⟩ (fun r2 _ _ hr3 h hw6 => ?_)
  refine z_if_eq (pc := 8) (tgt := 36) K (b01r hr3) dX1_promised_8 (by decide) (fun hc7 => ?_) (fun hc7 => ?_)
  · have h := ite_t h hc7
    refine z_iconst (pc := 36) K dX1_promised_36 ?_
    exact z_iret (pc := 37) K hw6 ⟨by decide, by decide⟩ ⟨rfl, h⟩ dX1_promised_37
  · have h := ite_f h hc7
    refine z_aload_n (pc := 11) K dX1_promised_11 rfl (lv_at hl 0 rfl) ?_
    refine z_get (pc := 12) (t := 1) (k := 8) K hw6 (ob ht0) zq1 (by decide) q524 (fun _ h => h) dX1_promised_12 (zval_r kf_1_8) ?_
    refine lv_iload_n (pc := 15) K.x K.b dX1_promised_15 rfl (lv_at hl 2 rfl) ?_
    refine zr_z (pc := 16) (maxL := 2) K hw6 (met_X3_isWho X l σ (σ a0 8 0) x2 hg1 hx2 _ h) (i_V (n := 1) (t := 3) (As := [jI x2]) K hw6 (ob hg1) zq3 (by decide) q898 q899 q900 (sg_of K q901) rfl rfl dX1_promised_16) (locw K q901 q94) ⟨by decide, by decide⟩ hl.1 dX1_promised_16 (Nat.le_of_ble_eq_true rfl) ⟨Nat.le_refl _, Nat.le_refl _⟩ (fun r8 _ _ hr9 h hw12 => ?_)
    refine z_if_eq (pc := 19) (tgt := 36) K (b01r hr9) dX1_promised_19 (by decide) (fun hc13 => ?_) (fun hc13 => ?_)
    · have h := ite_t h hc13
      refine z_iconst (pc := 36) K dX1_promised_36 ?_
      exact z_iret (pc := 37) K hw12 ⟨by decide, by decide⟩ ⟨rfl, h⟩ dX1_promised_37
    · have h := ite_f h hc13
      refine lv_iload_n (pc := 22) K.x K.b dX1_promised_22 rfl (lv_at hl 3 rfl) ?_
      refine z_if_eq (pc := 23) (tgt := 38) K hx3 dX1_promised_23 (by decide) (fun hc14 => ?_) (fun hc14 => ?_)
      · have h := ite_t h hc14
        refine z_iconst (pc := 38) K dX1_promised_38 ?_
        refine lv_istore (pc := 39) (lv' := [(4, jI 0), (0, jR X a0), (1, jI x1), (2, jI x2), (3, jI x3)]) K.x K.b dX1_promised_39 hl (by decide) rfl (fun ls hl => ?_)
        refine z_iconst (pc := 41) K dX1_promised_41 ?_
        refine lv_istore (pc := 42) (lv' := [(5, jI 0), (4, jI 0), (0, jR X a0), (1, jI x1), (2, jI x2), (3, jI x3)]) K.x K.b dX1_promised_42 hl (by decide) rfl (fun ls hl => ?_)
        obtain ⟨n15, h⟩ := h
        exact wk_X1_promised_44 σ a0 x1 x2 x3 Q K hx1 hx2 hx3 n15 0 0 _ _ _ h hw12 ht0 ⟨by decide, by decide⟩ ⟨by decide, by decide⟩ (lv_sub hl [2, 3, 4, 5, 1, 0] rfl)
      · have h := ite_f h hc14
        refine lv_iload_n (pc := 26) K.x K.b dX1_promised_26 rfl (lv_at hl 3 rfl) ?_
        refine z_iconst (pc := 27) K dX1_promised_27 ?_
        refine z_bipush (pc := 28) K dX1_promised_28 (by decide) ?_
        refine zr_z (pc := 30) (maxL := 3) K hw12 (met_X1_isIn X l σ x3 4 8 hx3 ⟨by decide, by decide⟩ ⟨by decide, by decide⟩ _ h) (i_S (n := 3) (As := [jI x3, jI 4, jI 8]) K (by decide) q1010 q682 q90 (sg_of K q683) rfl rfl dX1_promised_30) (locw K q683 q90) ⟨by decide, by decide⟩ hl.1 dX1_promised_30 (Nat.le_of_ble_eq_true rfl) ⟨Nat.le_refl _, Nat.le_refl _⟩ (fun r16 _ _ hr17 h hw20 => ?_)
        refine z_if_ne (pc := 33) (tgt := 38) K (b01r hr17) dX1_promised_33 (by decide) (fun hc21 => ?_) (fun hc21 => ?_)
        · have h := ite_t h hc21
          refine z_iconst (pc := 36) K dX1_promised_36 ?_
          exact z_iret (pc := 37) K hw20 ⟨by decide, by decide⟩ ⟨rfl, h⟩ dX1_promised_37
        · have h := ite_f h hc21
          refine z_iconst (pc := 38) K dX1_promised_38 ?_
          refine lv_istore (pc := 39) (lv' := [(4, jI 0), (0, jR X a0), (1, jI x1), (2, jI x2), (3, jI x3)]) K.x K.b dX1_promised_39 hl (by decide) rfl (fun ls hl => ?_)
          refine z_iconst (pc := 41) K dX1_promised_41 ?_
          refine lv_istore (pc := 42) (lv' := [(5, jI 0), (4, jI 0), (0, jR X a0), (1, jI x1), (2, jI x2), (3, jI x3)]) K.x K.b dX1_promised_42 hl (by decide) rfl (fun ls hl => ?_)
          obtain ⟨n22, h⟩ := h
          exact wk_X1_promised_44 σ a0 x1 x2 x3 Q K hx1 hx2 hx3 n22 0 0 _ _ _ h hw20 ht0 ⟨by decide, by decide⟩ ⟨by decide, by decide⟩ (lv_sub hl [2, 3, 4, 5, 1, 0] rfl)
def wp_X1_rank (σ : St) (a0 : Int) (x1 : Int) (Q : Int → Prop) : Prop :=
  wp_X3_isWho σ (σ a0 8 0) x1 (fun r2 => (if r2 = 0 then
    Q (-1)
    else
    (0 ≤ x1 ∧ x1 < 8) ∧ (σ (σ (σ a0 8 0) 0 0) 0 x1) ≠ -1 ∧ Q (σ (σ (σ (σ a0 8 0) 0 0) 0 x1) 1 0)))
set_option maxHeartbeats 4000000 in
theorem met_X1_rank (X : Cxt) (l : Launch) (σ : St) (a0 : Int) (x1 : Int) (ht0 : tg σ a0 = 1) (hx1 : rng x1) (Q : Int → Prop) (h : wp_X1_rank σ a0 x1 Q) : MetT l yX1_rank (ws_ yX1_rank cX1_rank 2 (some .int)) (zrm 3 0 0) (ZP X σ [jR X a0, jI x1]) (ZQ X (qI (fun r σ' => σ' = σ ∧ Q r)) (fun _ _ => False)) 0 0 (zA X) := by
  refine z_start (own := "CombTable") (lv := [(0, jR X a0), (1, jI x1)]) (by decide) rfl (by simp [lv_args, jR_cat, jI_cat, jL_cat]) (by simp [lg_sl, jR_cat, jI_cat, jL_cat]) (fun p e s m below meth c ls K _ _ hw hl => ?_)
  refine z_aload_n (pc := 0) K dX1_rank_0 rfl (lv_at hl 0 rfl) ?_
  refine z_get (pc := 1) (t := 1) (k := 8) K hw (ob ht0) zq1 (by decide) q524 (fun _ h => h) dX1_rank_1 (zval_r kf_1_8) ?_
  refine lv_iload_n (pc := 4) K.x K.b dX1_rank_4 rfl (lv_at hl 1 rfl) ?_
  have hg1 : tg σ (σ a0 8 0) = 3 := (z_tg (t := 1) (r := 3) hw ht0 ⟨by decide, by decide⟩ kf_1_8 kn_1_8 kt_1_8 (by decide) (by decide))
  refine zr_z (pc := 5) (maxL := 2) K hw (met_X3_isWho X l σ (σ a0 8 0) x1 hg1 hx1 _ h) (i_V (n := 1) (t := 3) (As := [jI x1]) K hw (ob hg1) zq3 (by decide) q898 q899 q900 (sg_of K q901) rfl rfl dX1_rank_5) (locw K q901 q94) ⟨by decide, by decide⟩ hl.1 dX1_rank_5 (Nat.le_of_ble_eq_true rfl) ⟨Nat.le_refl _, Nat.le_refl _⟩ (fun r2 _ _ hr3 h hw6 => ?_)
  refine z_if_eq (pc := 8) (tgt := 29) K (b01r hr3) dX1_rank_8 (by decide) (fun hc7 => ?_) (fun hc7 => ?_)
  · have h := ite_t h hc7
    refine z_iconst (pc := 29) K dX1_rank_29 ?_
    exact z_iret (pc := 30) K hw6 ⟨by decide, by decide⟩ ⟨rfl, h⟩ dX1_rank_30
  · have h := ite_f h hc7
    refine z_aload_n (pc := 11) K dX1_rank_11 rfl (lv_at hl 0 rfl) ?_
    refine z_get (pc := 12) (t := 1) (k := 8) K hw6 (ob ht0) zq1 (by decide) q524 (fun _ h => h) dX1_rank_12 (zval_r kf_1_8) ?_
    refine z_getN (pc := 15) (t := 3) (k := 0) K hw6 (ob hg1) zq3 (by decide) q303 (fun _ h => h) dX1_rank_15 (zval_r kf_3_0) ?_
    have hg8 : tg σ (σ (σ a0 8 0) 0 0) = 4 := (z_tg (t := 3) (r := 4) hw6 hg1 ⟨by decide, by decide⟩ kf_3_0 kn_3_0 kt_3_0 (by decide) (by decide))
    refine z_getN (pc := 18) (t := 4) (k := 0) K hw6 (ob hg8) zq4 (by decide) q246 (fun _ h => h) dX1_rank_18 (zval_p (κ := 5) kf_4_0) ?_
    refine lv_iload_n (pc := 21) K.x K.b dX1_rank_21 rfl (lv_at hl 1 rfl) ?_
    obtain ⟨hj9, h⟩ := h
    refine z_aald (pc := 22) (t := 4) (κ := 5) K hw6 hg8 ⟨by decide, by decide⟩ kf_4_0 ⟨by decide, by decide⟩ kl_4_0 hj9 (by decide) dX1_rank_22 ?_
    obtain ⟨hn11, h⟩ := h
    have hg10 : tg σ (σ (σ (σ a0 8 0) 0 0) 0 x1) = 11 := okR_nn hn11 (by decide) (by decide) (z_el (t := 4) (κ := 5) (r := 11) hw6 hg8 ⟨by decide, by decide⟩ kf_4_0 (by decide) kt_4_0 kl_4_0 hj9)
    refine z_getN (pc := 23) (t := 11) (k := 1) K hw6 (ob hg10) zq11 (by decide) q811 (fun _ h => h) dX1_rank_23 (zval_i kf_11_1) ?_
    refine z_goto (pc := 26) (tgt := 30) K dX1_rank_26 (by decide) ?_
    exact z_iret (pc := 30) K hw6 (z_rI hw6 (ob (t := 11) hg10) kf_11_1) ⟨rfl, h⟩ dX1_rank_30
def ws_X1_restore : List (Int × Nat) := [(1, 34), (3, 0), (3, 1), (3, 2), (3, 3), (3, 4), (3, 5), (3, 6), (3, 7), (3, 8), (3, 9), (5, 0), (5, 1), (5, 2)]
theorem wo_X1_restore : wsOk ws_X1_restore = true := rfl
def wp_X1_restore (σ : St) (a0 : Int) (x1 : Int) (Q : Int → St → Prop) : Prop :=
  wp_X1_isIn σ x1 0 1 (fun r1 => (if r1 = 0 then
    Q 0 σ
    else
    (0 ≤ x1 ∧ x1 < 2) ∧ (if σ a0 35 x1 = -1 then
      Q 0 σ
      else
      wp_X3_be σ (σ a0 8 0) (σ a0 35 x1) (fun σ14 => Kp ws_X3_be σ σ14 → (σ14 a0 36 x1) ≠ -1 ∧ wp_X5_be σ14 (σ14 a0 11 0) (σ14 a0 36 x1) (fun σ25 => Kp ws_X5_be σ14 σ25 → ∀ σ31 : St, σ31 = st σ25 a0 34 0 (σ25 a0 37 x1) → Q 1 σ31)))))
set_option maxHeartbeats 4000000 in
theorem met_X1_restore (X : Cxt) (l : Launch) (σ : St) (a0 : Int) (x1 : Int) (ht0 : tg σ a0 = 1) (hx1 : rng x1) (Q : Int → St → Prop) (h : wp_X1_restore σ a0 x1 Q) : MetT l yX1_restore (ws_ yX1_restore cX1_restore 2 (some .boolean)) (zrm 2 0 0) (ZP X σ [jR X a0, jI x1]) (ZQ X (qZ (fun r σ' => Kp ws_X1_restore σ σ' ∧ Q r σ')) (fun _ _ => False)) 0 0 (zA X) := by
  refine z_start (own := "CombTable") (lv := [(0, jR X a0), (1, jI x1)]) (by decide) rfl (by simp [lv_args, jR_cat, jI_cat, jL_cat]) (by simp [lg_sl, jR_cat, jI_cat, jL_cat]) (fun p e s m below meth c ls K _ _ hw hl => ?_)
  have hk : Kp ws_X1_restore σ σ := kp_rf σ
  refine lv_iload_n (pc := 0) K.x K.b dX1_restore_0 rfl (lv_at hl 1 rfl) ?_
  refine z_iconst (pc := 1) K dX1_restore_1 ?_
  refine z_iconst (pc := 2) K dX1_restore_2 ?_
  refine zr_z (pc := 3) (maxL := 3) K hw (met_X1_isIn X l σ x1 0 1 hx1 ⟨by decide, by decide⟩ ⟨by decide, by decide⟩ _ h) (i_S (n := 3) (As := [jI x1, jI 0, jI 1]) K (by decide) q1010 q682 q90 (sg_of K q683) rfl rfl dX1_restore_3) (locw K q683 q90) ⟨by decide, by decide⟩ hl.1 dX1_restore_3 (Nat.le_of_ble_eq_true rfl) ⟨Nat.le_refl _, Nat.le_refl _⟩ (fun r1 _ _ hr2 h hw5 => ?_)
  refine z_if_eq (pc := 6) (tgt := 18) K (b01r hr2) dX1_restore_6 (by decide) (fun hc6 => ?_) (fun hc6 => ?_)
  · have h := ite_t h hc6
    refine z_iconst (pc := 18) K dX1_restore_18 ?_
    exact z_zret (pc := 19) K hw5 ⟨by decide, by decide⟩ ⟨hk, h⟩ dX1_restore_19
  · have h := ite_f h hc6
    refine z_aload_n (pc := 9) K dX1_restore_9 rfl (lv_at hl 0 rfl) ?_
    refine z_get (pc := 10) (t := 1) (k := 35) K hw5 (ob ht0) zq1 (by decide) q553 (fun _ h => h) dX1_restore_10 (zval_p (κ := 7) kf_1_35) ?_
    refine lv_iload_n (pc := 13) K.x K.b dX1_restore_13 rfl (lv_at hl 1 rfl) ?_
    obtain ⟨hj7, h⟩ := h
    refine z_aald (pc := 14) (t := 1) (κ := 7) K hw5 ht0 ⟨by decide, by decide⟩ kf_1_35 ⟨by decide, by decide⟩ kl_1_35 hj7 (by decide) dX1_restore_14 ?_
    refine z_ifnonnull (pc := 15) (tgt := 20) K dX1_restore_15 (by decide) (fun hc8 => ?_) (fun hc8 => ?_)
    · have h := ite_t h hc8
      refine z_iconst (pc := 18) K dX1_restore_18 ?_
      exact z_zret (pc := 19) K hw5 ⟨by decide, by decide⟩ ⟨hk, h⟩ dX1_restore_19
    · have h := ite_f h hc8
      refine z_aload_n (pc := 20) K dX1_restore_20 rfl (lv_at hl 0 rfl) ?_
      refine z_get (pc := 21) (t := 1) (k := 8) K hw5 (ob ht0) zq1 (by decide) q524 (fun _ h => h) dX1_restore_21 (zval_r kf_1_8) ?_
      refine z_aload_n (pc := 24) K dX1_restore_24 rfl (lv_at hl 0 rfl) ?_
      refine z_get (pc := 25) (t := 1) (k := 35) K hw5 (ob ht0) zq1 (by decide) q553 (fun _ h => h) dX1_restore_25 (zval_p (κ := 7) kf_1_35) ?_
      refine lv_iload_n (pc := 28) K.x K.b dX1_restore_28 rfl (lv_at hl 1 rfl) ?_
      refine z_aald (pc := 29) (t := 1) (κ := 7) K hw5 ht0 ⟨by decide, by decide⟩ kf_1_35 ⟨by decide, by decide⟩ kl_1_35 hj7 (by decide) dX1_restore_29 ?_
      have hg9 : tg σ (σ a0 8 0) = 3 := (z_tg (t := 1) (r := 3) hw5 ht0 ⟨by decide, by decide⟩ kf_1_8 kn_1_8 kt_1_8 (by decide) (by decide))
      have hg10 : tg σ (σ a0 35 x1) = 3 := okR_nn hc8 (by decide) (by decide) (z_el (t := 1) (κ := 7) (r := 3) hw5 ht0 ⟨by decide, by decide⟩ kf_1_35 (by decide) kt_1_35 kl_1_35 hj7)
      refine zc_v (pc := 30) (maxL := 2) K hw5 (met_X3_be X l σ (σ a0 8 0) (σ a0 35 x1) hg9 hg10 _ h) (i_V (n := 1) (t := 3) (As := [jR X (σ a0 35 x1)]) K hw5 (ob hg9) zq3 (by decide) q991 q992 q993 (sg_of K q994) rfl rfl dX1_restore_30) (locw K q994 q94) ⟨by decide, by decide⟩ hl.1 dX1_restore_30 (Nat.le_of_ble_eq_true rfl) ⟨Nat.le_refl _, Nat.le_refl _⟩ (fun σ14 _ _ hq13 hw15 => ?_)
      obtain ⟨hk16, h⟩ := hq13
      have h := h hk16
      have hk17 := kp_trans wo_X1_restore hk hk16 (fun _ q => q) (by decide)
      have hg18 : tg σ14 a0 = 1 := kp_tg hk16 wo_X3_be ht0 (by decide)
      refine z_aload_n (pc := 33) K dX1_restore_33 rfl (lv_at hl 0 rfl) ?_
      refine z_get (pc := 34) (t := 1) (k := 11) K hw15 (ob hg18) zq1 (by decide) q529 (fun _ h => h) dX1_restore_34 (zval_r kf_1_11) ?_
      refine z_aload_n (pc := 37) K dX1_restore_37 rfl (lv_at hl 0 rfl) ?_
      refine z_get (pc := 38) (t := 1) (k := 36) K hw15 (ob hg18) zq1 (by decide) q554 (fun _ h => h) dX1_restore_38 (zval_p (κ := 8) kf_1_36) ?_
      refine lv_iload_n (pc := 41) K.x K.b dX1_restore_41 rfl (lv_at hl 1 rfl) ?_
      refine z_aald (pc := 42) (t := 1) (κ := 8) K hw15 hg18 ⟨by decide, by decide⟩ kf_1_36 ⟨by decide, by decide⟩ kl_1_36 hj7 (by decide) dX1_restore_42 ?_
      have hg19 : tg σ14 (σ14 a0 11 0) = 5 := (z_tg (t := 1) (r := 5) hw15 hg18 ⟨by decide, by decide⟩ kf_1_11 kn_1_11 kt_1_11 (by decide) (by decide))
      obtain ⟨hn21, h⟩ := h
      have hg20 : tg σ14 (σ14 a0 36 x1) = 5 := okR_nn hn21 (by decide) (by decide) (z_el (t := 1) (κ := 8) (r := 5) hw15 hg18 ⟨by decide, by decide⟩ kf_1_36 (by decide) kt_1_36 kl_1_36 hj7)
      refine zc_v (pc := 43) (maxL := 2) K hw15 (met_X5_be X l σ14 (σ14 a0 11 0) (σ14 a0 36 x1) hg19 hg20 _ h) (i_V (n := 1) (t := 5) (As := [jR X (σ14 a0 36 x1)]) K hw15 (ob hg19) zq5 (by decide) q1062 q1063 q1064 (sg_of K q1065) rfl rfl dX1_restore_43) (locw K q1065 q96) ⟨by decide, by decide⟩ hl.1 dX1_restore_43 (Nat.le_of_ble_eq_true rfl) ⟨Nat.le_refl _, Nat.le_refl _⟩ (fun σ25 _ _ hq24 hw26 => ?_)
      obtain ⟨hk27, h⟩ := hq24
      have h := h hk27
      have hk28 := kp_trans wo_X1_restore hk17 hk27 (fun _ q => q) (by decide)
      have hg29 : tg σ25 a0 = 1 := kp_tg hk27 wo_X5_be hg18 (by decide)
      refine z_aload_n (pc := 46) K dX1_restore_46 rfl (lv_at hl 0 rfl) ?_
      refine z_aload_n (pc := 47) K dX1_restore_47 rfl (lv_at hl 0 rfl) ?_
      refine z_get (pc := 48) (t := 1) (k := 37) K hw26 (ob hg29) zq1 (by decide) q555 (fun _ h => h) dX1_restore_48 (zval_p (κ := 9) kf_1_37) ?_
      refine lv_iload_n (pc := 51) K.x K.b dX1_restore_51 rfl (lv_at hl 1 rfl) ?_
      refine z_aald (pc := 52) (t := 1) (κ := 9) K hw26 hg29 ⟨by decide, by decide⟩ kf_1_37 ⟨by decide, by decide⟩ kl_1_37 hj7 (by decide) dX1_restore_52 ?_
      refine z_putr (pc := 53) (t := 1) 34 K hw26 (ob hg29) zq1 (by decide) kf_1_34 zt_1_34 (((z_el (t := 1) (κ := 9) (r := 100) hw26 hg29 ⟨by decide, by decide⟩ kf_1_37 (by decide) kt_1_37 kl_1_37 hj7)).imp_left (fun q => ⟨q, rfl⟩)) q552 (fun _ h => h) rfl dX1_restore_53 (fun _ _ hw30 => ?_)
      obtain ⟨σ31, e32⟩ : ∃ z, z = st σ25 a0 34 0 (σ25 a0 37 x1) := ⟨_, rfl⟩
      have h := h σ31 e32
      have hw30 := wc_e e32 hw30
      have hk33 := kp_e e32 hk28 wo_X1_restore (by decide) hg29 (t := 1) (by decide)
      have hg34 : tg σ31 a0 = 1 := (tg_e e32 (by decide)).trans hg29
      refine z_iconst (pc := 56) K dX1_restore_56 ?_
      exact z_zret (pc := 57) K hw30 ⟨by decide, by decide⟩ ⟨hk33, h⟩ dX1_restore_57
def ws_X1_road : List (Int × Nat) := [(1, 30), (1, 31), (3, 0), (3, 1), (3, 2), (3, 3), (3, 4), (3, 5), (3, 6), (3, 7), (3, 8), (3, 9)]
theorem wo_X1_road : wsOk ws_X1_road = true := rfl
def wp_X1_road (σ : St) (a0 : Int) (x1 : Int) (x2 : Int) (x3 : Int) (Q : Int → St → Prop) : Prop :=
  wp_X1_leadsBy σ a0 x1 x2 x3 (-1) (fun r1 σ4 => Kp ws_X1_leadsBy σ σ4 → (if 0 ≤ r1 then
    wp_X1_keepFound σ4 a0 r1 (σ4 (σ4 a0 8 0) 8 0) (fun σ14 => Kp ws_X1_keepFound σ4 σ14 → Q r1 σ14)
    else
    Q r1 σ4))
set_option maxHeartbeats 4000000 in
theorem met_X1_road (X : Cxt) (l : Launch) (σ : St) (a0 : Int) (x1 : Int) (x2 : Int) (x3 : Int) (ht0 : tg σ a0 = 1) (hx1 : rng x1) (hx2 : rng x2) (hx3 : rng x3) (Q : Int → St → Prop) (h : wp_X1_road σ a0 x1 x2 x3 Q) : MetT l yX1_road (ws_ yX1_road cX1_road 5 (some .int)) (zrm 70 0 0) (ZP X σ [jR X a0, jI x1, jI x2, jI x3]) (ZQ X (qI (fun r σ' => Kp ws_X1_road σ σ' ∧ Q r σ')) (fun _ _ => False)) 0 0 (zA X) := by
  refine z_start (own := "CombTable") (lv := [(0, jR X a0), (1, jI x1), (2, jI x2), (3, jI x3)]) (by decide) rfl (by simp [lv_args, jR_cat, jI_cat, jL_cat]) (by simp [lg_sl, jR_cat, jI_cat, jL_cat]) (fun p e s m below meth c ls K _ _ hw hl => ?_)
  have hk : Kp ws_X1_road σ σ := kp_rf σ
  refine z_aload_n (pc := 0) K dX1_road_0 rfl (lv_at hl 0 rfl) ?_
  refine lv_iload_n (pc := 1) K.x K.b dX1_road_1 rfl (lv_at hl 1 rfl) ?_
  refine lv_iload_n (pc := 2) K.x K.b dX1_road_2 rfl (lv_at hl 2 rfl) ?_
  refine lv_iload_n (pc := 3) K.x K.b dX1_road_3 rfl (lv_at hl 3 rfl) ?_
  refine z_iconst (pc := 4) K dX1_road_4 ?_
  refine zc_i (pc := 5) (maxL := 6) K hw (met_X1_leadsBy X l σ a0 x1 x2 x3 (-1) ht0 hx1 hx2 hx3 ⟨by decide, by decide⟩ _ h) (i_V (n := 4) (t := 1) (As := [jI x1, jI x2, jI x3, jI (-1)]) K hw (ob ht0) zq1 (by decide) q1165 q1167 qs17 (sg_of K q1168) rfl rfl dX1_road_5) (locw K q1168 q90) ⟨by decide, by decide⟩ hl.1 dX1_road_5 (Nat.le_of_ble_eq_true rfl) ⟨Nat.le_refl _, Nat.le_refl _⟩ (fun r1 σ4 _ _ hr2 hq3 hw5 => ?_)
  obtain ⟨hk6, h⟩ := hq3
  have h := h hk6
  have hk7 := kp_trans wo_X1_road hk hk6 (fun _ q => q) (by decide)
  have hg8 : tg σ4 a0 = 1 := kp_tg hk6 wo_X1_leadsBy ht0 (by decide)
  refine lv_istore (pc := 8) (lv' := [(4, jI r1), (0, jR X a0), (1, jI x1), (2, jI x2), (3, jI x3)]) K.x K.b dX1_road_8 hl (by decide) rfl (fun ls hl => ?_)
  refine lv_iload (pc := 10) K.x K.b dX1_road_10 (lv_at hl 0 rfl) ?_
  refine z_if_lt (pc := 12) (tgt := 28) K hr2 dX1_road_12 (by decide) (fun hc9 => ?_) (fun hc9 => ?_)
  · have h := ite_t h hc9
    refine z_aload_n (pc := 15) K dX1_road_15 rfl (lv_at hl 1 rfl) ?_
    refine lv_iload (pc := 16) K.x K.b dX1_road_16 (lv_at hl 0 rfl) ?_
    refine z_aload_n (pc := 18) K dX1_road_18 rfl (lv_at hl 1 rfl) ?_
    refine z_get (pc := 19) (t := 1) (k := 8) K hw5 (ob hg8) zq1 (by decide) q524 (fun _ h => h) dX1_road_19 (zval_r kf_1_8) ?_
    have hg10 : tg σ4 (σ4 a0 8 0) = 3 := (z_tg (t := 1) (r := 3) hw5 hg8 ⟨by decide, by decide⟩ kf_1_8 kn_1_8 kt_1_8 (by decide) (by decide))
    refine z_getN (pc := 22) (t := 3) (k := 8) K hw5 (ob hg10) zq3 (by decide) q323 (fun _ h => h) dX1_road_22 (zval_i kf_3_8) ?_
    refine zc_v (pc := 25) (maxL := 4) K hw5 (met_X1_keepFound X l σ4 a0 r1 (σ4 (σ4 a0 8 0) 8 0) hg8 hr2 (z_rI hw5 (ob (t := 3) hg10) kf_3_8) _ h) (i_V (n := 2) (t := 1) (As := [jI r1, jI (σ4 (σ4 a0 8 0) 8 0)]) K hw5 (ob hg8) zq1 (by decide) q1177 q1179 qs19 (sg_of K q1180) rfl rfl dX1_road_25) (locw K q1180 q90) ⟨by decide, by decide⟩ hl.1 dX1_road_25 (Nat.le_of_ble_eq_true rfl) ⟨Nat.le_refl _, Nat.le_refl _⟩ (fun σ14 _ _ hq13 hw15 => ?_)
    obtain ⟨hk16, h⟩ := hq13
    have h := h hk16
    have hk17 := kp_trans wo_X1_road hk7 hk16 (fun _ q => q) (by decide)
    have hg18 : tg σ14 a0 = 1 := kp_tg hk16 wo_X1_keepFound hg8 (by decide)
    refine lv_iload (pc := 28) K.x K.b dX1_road_28 (lv_at hl 0 rfl) ?_
    exact z_iret (pc := 30) K hw15 hr2 ⟨hk17, h⟩ dX1_road_30
  · have h := ite_f h hc9
    refine lv_iload (pc := 28) K.x K.b dX1_road_28 (lv_at hl 0 rfl) ?_
    exact z_iret (pc := 30) K hw5 hr2 ⟨hk7, h⟩ dX1_road_30
def ws_X1_say : List (Int × Nat) := [(3, 1), (3, 2), (3, 3), (3, 4), (3, 5), (3, 6), (3, 7), (3, 8), (3, 9)]
theorem wo_X1_say : wsOk ws_X1_say = true := rfl
def wp_X1_say (σ : St) (a0 : Int) (x1 : Int) (x2 : Int) (Q : Int → St → Prop) : Prop :=
  wp_X3_isWho σ (σ a0 8 0) x1 (fun r2 => (if r2 = 0 then
    Q (-1) σ
    else
    wp_X3_isKind σ (σ a0 8 0) x2 (fun r8 => (if r8 = 0 then
      Q (-1) σ
      else
      (if σ (σ a0 8 0) 8 0 = 400 then
        Q (-1) σ
        else
        wp_X3_tries σ (σ a0 8 0) x1 x2 (fun r15 σ18 => Kp ws_X3_tries σ σ18 → Q r15 σ18))))))
set_option maxHeartbeats 4000000 in
theorem met_X1_say (X : Cxt) (l : Launch) (σ : St) (a0 : Int) (x1 : Int) (x2 : Int) (ht0 : tg σ a0 = 1) (hx1 : rng x1) (hx2 : rng x2) (Q : Int → St → Prop) (h : wp_X1_say σ a0 x1 x2 Q) : MetT l yX1_say (ws_ yX1_say cX1_say 3 (some .int)) (zrm 5 0 0) (ZP X σ [jR X a0, jI x1, jI x2]) (ZQ X (qI (fun r σ' => Kp ws_X1_say σ σ' ∧ Q r σ')) (fun _ _ => False)) 0 0 (zA X) := by
  refine z_start (own := "CombTable") (lv := [(0, jR X a0), (1, jI x1), (2, jI x2)]) (by decide) rfl (by simp [lv_args, jR_cat, jI_cat, jL_cat]) (by simp [lg_sl, jR_cat, jI_cat, jL_cat]) (fun p e s m below meth c ls K _ _ hw hl => ?_)
  have hk : Kp ws_X1_say σ σ := kp_rf σ
  refine z_aload_n (pc := 0) K dX1_say_0 rfl (lv_at hl 0 rfl) ?_
  refine z_get (pc := 1) (t := 1) (k := 8) K hw (ob ht0) zq1 (by decide) q524 (fun _ h => h) dX1_say_1 (zval_r kf_1_8) ?_
  refine lv_iload_n (pc := 4) K.x K.b dX1_say_4 rfl (lv_at hl 1 rfl) ?_
  have hg1 : tg σ (σ a0 8 0) = 3 := (z_tg (t := 1) (r := 3) hw ht0 ⟨by decide, by decide⟩ kf_1_8 kn_1_8 kt_1_8 (by decide) (by decide))
  refine zr_z (pc := 5) (maxL := 2) K hw (met_X3_isWho X l σ (σ a0 8 0) x1 hg1 hx1 _ h) (i_V (n := 1) (t := 3) (As := [jI x1]) K hw (ob hg1) zq3 (by decide) q898 q899 q900 (sg_of K q901) rfl rfl dX1_say_5) (locw K q901 q94) ⟨by decide, by decide⟩ hl.1 dX1_say_5 (Nat.le_of_ble_eq_true rfl) ⟨Nat.le_refl _, Nat.le_refl _⟩ (fun r2 _ _ hr3 h hw6 => ?_)
  refine z_if_eq (pc := 8) (tgt := 35) K (b01r hr3) dX1_say_8 (by decide) (fun hc7 => ?_) (fun hc7 => ?_)
  · have h := ite_t h hc7
    refine z_iconst (pc := 35) K dX1_say_35 ?_
    refine z_goto (pc := 36) (tgt := 48) K dX1_say_36 (by decide) ?_
    exact z_iret (pc := 48) K hw6 ⟨by decide, by decide⟩ ⟨hk, h⟩ dX1_say_48
  · have h := ite_f h hc7
    refine z_aload_n (pc := 11) K dX1_say_11 rfl (lv_at hl 0 rfl) ?_
    refine z_get (pc := 12) (t := 1) (k := 8) K hw6 (ob ht0) zq1 (by decide) q524 (fun _ h => h) dX1_say_12 (zval_r kf_1_8) ?_
    refine lv_iload_n (pc := 15) K.x K.b dX1_say_15 rfl (lv_at hl 2 rfl) ?_
    refine zr_z (pc := 16) (maxL := 2) K hw6 (met_X3_isKind X l σ (σ a0 8 0) x2 hg1 hx2 _ h) (i_V (n := 1) (t := 3) (As := [jI x2]) K hw6 (ob hg1) zq3 (by decide) q907 q908 q909 (sg_of K q910) rfl rfl dX1_say_16) (locw K q910 q94) ⟨by decide, by decide⟩ hl.1 dX1_say_16 (Nat.le_of_ble_eq_true rfl) ⟨Nat.le_refl _, Nat.le_refl _⟩ (fun r8 _ _ hr9 h hw12 => ?_)
    refine z_if_eq (pc := 19) (tgt := 35) K (b01r hr9) dX1_say_19 (by decide) (fun hc13 => ?_) (fun hc13 => ?_)
    · have h := ite_t h hc13
      refine z_iconst (pc := 35) K dX1_say_35 ?_
      refine z_goto (pc := 36) (tgt := 48) K dX1_say_36 (by decide) ?_
      exact z_iret (pc := 48) K hw12 ⟨by decide, by decide⟩ ⟨hk, h⟩ dX1_say_48
    · have h := ite_f h hc13
      refine z_aload_n (pc := 22) K dX1_say_22 rfl (lv_at hl 0 rfl) ?_
      refine z_get (pc := 23) (t := 1) (k := 8) K hw12 (ob ht0) zq1 (by decide) q524 (fun _ h => h) dX1_say_23 (zval_r kf_1_8) ?_
      refine z_getN (pc := 26) (t := 3) (k := 8) K hw12 (ob hg1) zq3 (by decide) q323 (fun _ h => h) dX1_say_26 (zval_i kf_3_8) ?_
      refine z_sipush (pc := 29) K dX1_say_29 (by decide) ?_
      refine z_icmp_ne (pc := 32) (tgt := 39) K (z_rI hw12 (ob (t := 3) hg1) kf_3_8) ⟨by decide, by decide⟩ dX1_say_32 (by decide) (fun hc14 => ?_) (fun hc14 => ?_)
      · have h := ite_t h hc14
        refine z_iconst (pc := 35) K dX1_say_35 ?_
        refine z_goto (pc := 36) (tgt := 48) K dX1_say_36 (by decide) ?_
        exact z_iret (pc := 48) K hw12 ⟨by decide, by decide⟩ ⟨hk, h⟩ dX1_say_48
      · have h := ite_f h hc14
        refine z_aload_n (pc := 39) K dX1_say_39 rfl (lv_at hl 0 rfl) ?_
        refine z_get (pc := 40) (t := 1) (k := 8) K hw12 (ob ht0) zq1 (by decide) q524 (fun _ h => h) dX1_say_40 (zval_r kf_1_8) ?_
        refine lv_iload_n (pc := 43) K.x K.b dX1_say_43 rfl (lv_at hl 1 rfl) ?_
        refine lv_iload_n (pc := 44) K.x K.b dX1_say_44 rfl (lv_at hl 2 rfl) ?_
        refine zc_i (pc := 45) (maxL := 4) K hw12 (met_X3_tries X l σ (σ a0 8 0) x1 x2 hg1 hx1 hx2 _ h) (i_V (n := 2) (t := 3) (As := [jI x1, jI x2]) K hw12 (ob hg1) zq3 (by decide) q911 q912 q913 (sg_of K q914) rfl rfl dX1_say_45) (locw K q914 q94) ⟨by decide, by decide⟩ hl.1 dX1_say_45 (Nat.le_of_ble_eq_true rfl) ⟨Nat.le_refl _, Nat.le_refl _⟩ (fun r15 σ18 _ _ hr16 hq17 hw19 => ?_)
        obtain ⟨hk20, h⟩ := hq17
        have h := h hk20
        have hk21 := kp_trans wo_X1_say hk hk20 (fun _ q => q) (by decide)
        have hg22 : tg σ18 a0 = 1 := kp_tg hk20 wo_X3_tries ht0 (by decide)
        exact z_iret (pc := 48) K hw19 hr16 ⟨hk21, h⟩ dX1_say_48
def wp_X1_spoke_b71 (σ : St) (a0 : Int) (x1 : Int) (x2 : Int) (Q : Int → Prop) (L39 : Int → Int → Prop) (v4 : Int) (s0 : Int) : Prop :=
  (if x2 = (-1) then
    rng (s0 + 1) ∧ rng (v4 + 1) ∧ (L39 (s0 + 1) (v4 + 1))
    else
    (0 ≤ v4 ∧ v4 < 400) ∧ (if σ (σ a0 8 0) 2 v4 = x2 then
      rng (s0 + 1) ∧ rng (v4 + 1) ∧ (L39 (s0 + 1) (v4 + 1))
      else
      rng (s0 + 0) ∧ rng (v4 + 1) ∧ (L39 (s0 + 0) (v4 + 1))))
def lp_X1_spoke_39 (σ : St) (a0 : Int) (x1 : Int) (x2 : Int) (Q : Int → Prop) : Nat → Int → Int → Prop
  | 0 => fun _ _ => False
  | n + 1 => fun v3 v4 => 
    (if v4 < σ (σ a0 8 0) 8 0 then
      (if x1 = (-1) then
        (wp_X1_spoke_b71 σ a0 x1 x2 Q (lp_X1_spoke_39 σ a0 x1 x2 Q n) v4 v3)
        else
        (0 ≤ v4 ∧ v4 < 400) ∧ (if σ (σ a0 8 0) 1 v4 = x1 then
          (wp_X1_spoke_b71 σ a0 x1 x2 Q (lp_X1_spoke_39 σ a0 x1 x2 Q n) v4 v3)
          else
          rng (v3 + 0) ∧ rng (v4 + 1) ∧ (lp_X1_spoke_39 σ a0 x1 x2 Q n (v3 + 0) (v4 + 1))))
      else
      Q v3)
def wp_X1_spoke_b16 (σ : St) (a0 : Int) (x1 : Int) (x2 : Int) (Q : Int → Prop) : Prop :=
  (if x2 = (-1) then
    (∃ kk, lp_X1_spoke_39 σ a0 x1 x2 Q kk 0 0)
    else
    wp_X3_isKind σ (σ a0 8 0) x2 (fun r4 => (if r4 = 0 then
      Q (-1)
      else
      (∃ kk, lp_X1_spoke_39 σ a0 x1 x2 Q kk 0 0))))
def wp_X1_spoke (σ : St) (a0 : Int) (x1 : Int) (x2 : Int) (Q : Int → Prop) : Prop :=
  (if x1 = (-1) then
    (wp_X1_spoke_b16 σ a0 x1 x2 Q)
    else
    wp_X3_isWho σ (σ a0 8 0) x1 (fun r3 => (if r3 = 0 then
      Q (-1)
      else
      (wp_X1_spoke_b16 σ a0 x1 x2 Q))))
set_option maxHeartbeats 4000000 in
theorem wk_X1_spoke_b71 {X : Cxt} {p : Program} {l : Launch} {e : Env} {s : State} {m : MethodId} {args : Array Value} {below : List Frame} {meth : Method} {c : Code} (σ : St) (a0 : Int) (x1 : Int) (x2 : Int) (Q : Int → Prop) (K : MCx X p s m args meth c cX1_spoke 5 "CombTable" (some .int)) (hx1 : rng x1) (hx2 : rng x2) (L39 : Int → Int → Prop) (hL39 : ∀ (v3 : Int) (v4 : Int) (H : Heap) (locs : List Loc) (ls : Array Slot), L39 v3 v4 → Wc X σ s.heap H locs → tg σ a0 = 1 → rng v3 → rng v4 → lv_has ls 5 [(0, jR X a0), (1, jI x1), (2, jI x2), (3, jI v3), (4, jI v4)] → W p l e (zrm 3 0 0) s m args below meth c H locs 0 0 (MQT below (ZQ X (qI (fun r σ' => σ' = σ ∧ Q r)) (fun _ _ => False)) args s 0 0 (zA X)) (F0 m 39 ls [])) : ∀ (v4 : Int) (s0 : Int) (H : Heap) (locs : List Loc) (ls : Array Slot), wp_X1_spoke_b71 σ a0 x1 x2 Q L39 v4 s0 → Wc X σ s.heap H locs → tg σ a0 = 1 → rng v4 → rng s0 → lv_has ls 5 [(0, jR X a0), (1, jI x1), (2, jI x2), (4, jI v4)] → W p l e (zrm 3 0 0) s m args below meth c H locs 0 0 (MQT below (ZQ X (qI (fun r σ' => σ' = σ ∧ Q r)) (fun _ _ => False)) args s 0 0 (zA X)) (F0 m 71 ls [jI s0]) := by
  intro v4 s0 H locs ls h hw ht0 hv4 hs0 hl
  refine lv_iload_n (pc := 71) K.x K.b dX1_spoke_71 rfl (lv_at hl 2 rfl) ?_
  refine z_iconst (pc := 72) K dX1_spoke_72 ?_
  refine z_icmp_eq (pc := 73) (tgt := 90) K hx2 ⟨by decide, by decide⟩ dX1_spoke_73 (by decide) (fun hc1 => ?_) (fun hc1 => ?_)
  · have h := ite_t h hc1
    refine z_iconst (pc := 90) K dX1_spoke_90 ?_
    refine z_goto (pc := 91) (tgt := 95) K dX1_spoke_91 (by decide) ?_
    refine z_iadd (pc := 95) K dX1_spoke_95 ?_
    refine lv_istore_n (pc := 96) (lv' := [(3, jI (s0 + 1)), (0, jR X a0), (1, jI x1), (2, jI x2), (4, jI v4)]) K.x K.b dX1_spoke_96 rfl hl (by decide) rfl (fun ls hl => ?_)
    refine z_iinc (pc := 97) (k := 4) (lv' := [(4, jI (v4 + 1)), (3, jI (s0 + 1)), (0, jR X a0), (1, jI x1), (2, jI x2)]) K dX1_spoke_97 hl rfl (by decide) rfl (fun ls hl => ?_)
    refine z_goto (pc := 100) (tgt := 39) K dX1_spoke_100 (by decide) ?_
    obtain ⟨hr2, h⟩ := h
    obtain ⟨hr3, h⟩ := h
    exact hL39 (s0 + 1) (v4 + 1) _ _ _ h hw ht0 hr2 hr3 (lv_sub hl [2, 3, 4, 1, 0] rfl)
  · have h := ite_f h hc1
    refine z_aload_n (pc := 76) K dX1_spoke_76 rfl (lv_at hl 0 rfl) ?_
    refine z_get (pc := 77) (t := 1) (k := 8) K hw (ob ht0) zq1 (by decide) q524 (fun _ h => h) dX1_spoke_77 (zval_r kf_1_8) ?_
    have hg4 : tg σ (σ a0 8 0) = 3 := (z_tg (t := 1) (r := 3) hw ht0 ⟨by decide, by decide⟩ kf_1_8 kn_1_8 kt_1_8 (by decide) (by decide))
    refine z_getN (pc := 80) (t := 3) (k := 2) K hw (ob hg4) zq3 (by decide) q309 (fun _ h => h) dX1_spoke_80 (zval_p (κ := 1) kf_3_2) ?_
    refine lv_iload (pc := 83) K.x K.b dX1_spoke_83 (lv_at hl 3 rfl) ?_
    obtain ⟨hj5, h⟩ := h
    refine z_iald (pc := 85) (t := 3) K hw hg4 ⟨by decide, by decide⟩ kf_3_2 kl_3_2 hj5 (by decide) dX1_spoke_85 ?_
    refine lv_iload_n (pc := 86) K.x K.b dX1_spoke_86 rfl (lv_at hl 2 rfl) ?_
    refine z_icmp_ne (pc := 87) (tgt := 94) K (z_elI (t := 3) hw hg4 ⟨by decide, by decide⟩ kf_3_2 kl_3_2 hj5) hx2 dX1_spoke_87 (by decide) (fun hc6 => ?_) (fun hc6 => ?_)
    · have h := ite_t h hc6
      refine z_iconst (pc := 90) K dX1_spoke_90 ?_
      refine z_goto (pc := 91) (tgt := 95) K dX1_spoke_91 (by decide) ?_
      refine z_iadd (pc := 95) K dX1_spoke_95 ?_
      refine lv_istore_n (pc := 96) (lv' := [(3, jI (s0 + 1)), (0, jR X a0), (1, jI x1), (2, jI x2), (4, jI v4)]) K.x K.b dX1_spoke_96 rfl hl (by decide) rfl (fun ls hl => ?_)
      refine z_iinc (pc := 97) (k := 4) (lv' := [(4, jI (v4 + 1)), (3, jI (s0 + 1)), (0, jR X a0), (1, jI x1), (2, jI x2)]) K dX1_spoke_97 hl rfl (by decide) rfl (fun ls hl => ?_)
      refine z_goto (pc := 100) (tgt := 39) K dX1_spoke_100 (by decide) ?_
      obtain ⟨hr7, h⟩ := h
      obtain ⟨hr8, h⟩ := h
      exact hL39 (s0 + 1) (v4 + 1) _ _ _ h hw ht0 hr7 hr8 (lv_sub hl [2, 3, 4, 1, 0] rfl)
    · have h := ite_f h hc6
      refine z_iconst (pc := 94) K dX1_spoke_94 ?_
      refine z_iadd (pc := 95) K dX1_spoke_95 ?_
      refine lv_istore_n (pc := 96) (lv' := [(3, jI (s0 + 0)), (0, jR X a0), (1, jI x1), (2, jI x2), (4, jI v4)]) K.x K.b dX1_spoke_96 rfl hl (by decide) rfl (fun ls hl => ?_)
      refine z_iinc (pc := 97) (k := 4) (lv' := [(4, jI (v4 + 1)), (3, jI (s0 + 0)), (0, jR X a0), (1, jI x1), (2, jI x2)]) K dX1_spoke_97 hl rfl (by decide) rfl (fun ls hl => ?_)
      refine z_goto (pc := 100) (tgt := 39) K dX1_spoke_100 (by decide) ?_
      obtain ⟨hr9, h⟩ := h
      obtain ⟨hr10, h⟩ := h
      exact hL39 (s0 + 0) (v4 + 1) _ _ _ h hw ht0 hr9 hr10 (lv_sub hl [2, 3, 4, 1, 0] rfl)
set_option maxHeartbeats 4000000 in
theorem wk_X1_spoke_39 {X : Cxt} {p : Program} {l : Launch} {e : Env} {s : State} {m : MethodId} {args : Array Value} {below : List Frame} {meth : Method} {c : Code} (σ : St) (a0 : Int) (x1 : Int) (x2 : Int) (Q : Int → Prop) (K : MCx X p s m args meth c cX1_spoke 5 "CombTable" (some .int)) (hx1 : rng x1) (hx2 : rng x2) : ∀ (n : Nat), ∀ (v3 : Int) (v4 : Int) (H : Heap) (locs : List Loc) (ls : Array Slot), lp_X1_spoke_39 σ a0 x1 x2 Q n v3 v4 → Wc X σ s.heap H locs → tg σ a0 = 1 → rng v3 → rng v4 → lv_has ls 5 [(0, jR X a0), (1, jI x1), (2, jI x2), (3, jI v3), (4, jI v4)] → W p l e (zrm 3 0 0) s m args below meth c H locs 0 0 (MQT below (ZQ X (qI (fun r σ' => σ' = σ ∧ Q r)) (fun _ _ => False)) args s 0 0 (zA X)) (F0 m 39 ls []) := by
  intro n
  induction n with
  | zero => intro v3 v4 H locs ls h; exact h.elim
  | succ n ih =>
    intro v3 v4 H locs ls h hw ht0 hv3 hv4 hl
    refine lv_iload (pc := 39) K.x K.b dX1_spoke_39 (lv_at hl 4 rfl) ?_
    refine z_aload_n (pc := 41) K dX1_spoke_41 rfl (lv_at hl 0 rfl) ?_
    refine z_get (pc := 42) (t := 1) (k := 8) K hw (ob ht0) zq1 (by decide) q524 (fun _ h => h) dX1_spoke_42 (zval_r kf_1_8) ?_
    have hg1 : tg σ (σ a0 8 0) = 3 := (z_tg (t := 1) (r := 3) hw ht0 ⟨by decide, by decide⟩ kf_1_8 kn_1_8 kt_1_8 (by decide) (by decide))
    refine z_getN (pc := 45) (t := 3) (k := 8) K hw (ob hg1) zq3 (by decide) q323 (fun _ h => h) dX1_spoke_45 (zval_i kf_3_8) ?_
    refine z_icmp_ge (pc := 48) (tgt := 103) K hv4 (z_rI hw (ob (t := 3) hg1) kf_3_8) dX1_spoke_48 (by decide) (fun hc2 => ?_) (fun hc2 => ?_)
    · have h := ite_t h hc2
      refine lv_iload_n (pc := 51) K.x K.b dX1_spoke_51 rfl (lv_at hl 3 rfl) ?_
      refine lv_iload_n (pc := 52) K.x K.b dX1_spoke_52 rfl (lv_at hl 1 rfl) ?_
      refine z_iconst (pc := 53) K dX1_spoke_53 ?_
      refine z_icmp_eq (pc := 54) (tgt := 71) K hx1 ⟨by decide, by decide⟩ dX1_spoke_54 (by decide) (fun hc3 => ?_) (fun hc3 => ?_)
      · have h := ite_t h hc3
        exact wk_X1_spoke_b71 σ a0 x1 x2 Q K hx1 hx2 (lp_X1_spoke_39 σ a0 x1 x2 Q n) ih v4 v3 _ _ _ h hw ht0 hv4 hv3 (lv_sub hl [0, 1, 2, 4] rfl)
      · have h := ite_f h hc3
        refine z_aload_n (pc := 57) K dX1_spoke_57 rfl (lv_at hl 0 rfl) ?_
        refine z_get (pc := 58) (t := 1) (k := 8) K hw (ob ht0) zq1 (by decide) q524 (fun _ h => h) dX1_spoke_58 (zval_r kf_1_8) ?_
        refine z_getN (pc := 61) (t := 3) (k := 1) K hw (ob hg1) zq3 (by decide) q306 (fun _ h => h) dX1_spoke_61 (zval_p (κ := 1) kf_3_1) ?_
        refine lv_iload (pc := 64) K.x K.b dX1_spoke_64 (lv_at hl 4 rfl) ?_
        obtain ⟨hj4, h⟩ := h
        refine z_iald (pc := 66) (t := 3) K hw hg1 ⟨by decide, by decide⟩ kf_3_1 kl_3_1 hj4 (by decide) dX1_spoke_66 ?_
        refine lv_iload_n (pc := 67) K.x K.b dX1_spoke_67 rfl (lv_at hl 1 rfl) ?_
        refine z_icmp_ne (pc := 68) (tgt := 94) K (z_elI (t := 3) hw hg1 ⟨by decide, by decide⟩ kf_3_1 kl_3_1 hj4) hx1 dX1_spoke_68 (by decide) (fun hc5 => ?_) (fun hc5 => ?_)
        · have h := ite_t h hc5
          exact wk_X1_spoke_b71 σ a0 x1 x2 Q K hx1 hx2 (lp_X1_spoke_39 σ a0 x1 x2 Q n) ih v4 v3 _ _ _ h hw ht0 hv4 hv3 (lv_sub hl [0, 1, 2, 4] rfl)
        · have h := ite_f h hc5
          refine z_iconst (pc := 94) K dX1_spoke_94 ?_
          refine z_iadd (pc := 95) K dX1_spoke_95 ?_
          refine lv_istore_n (pc := 96) (lv' := [(3, jI (v3 + 0)), (0, jR X a0), (1, jI x1), (2, jI x2), (4, jI v4)]) K.x K.b dX1_spoke_96 rfl hl (by decide) rfl (fun ls hl => ?_)
          refine z_iinc (pc := 97) (k := 4) (lv' := [(4, jI (v4 + 1)), (3, jI (v3 + 0)), (0, jR X a0), (1, jI x1), (2, jI x2)]) K dX1_spoke_97 hl rfl (by decide) rfl (fun ls hl => ?_)
          refine z_goto (pc := 100) (tgt := 39) K dX1_spoke_100 (by decide) ?_
          obtain ⟨hr6, h⟩ := h
          obtain ⟨hr7, h⟩ := h
          exact ih (v3 + 0) (v4 + 1) _ _ _ h hw ht0 hr6 hr7 (lv_sub hl [2, 3, 4, 1, 0] rfl)
    · have h := ite_f h hc2
      refine lv_iload_n (pc := 103) K.x K.b dX1_spoke_103 rfl (lv_at hl 3 rfl) ?_
      exact z_iret (pc := 104) K hw hv3 ⟨rfl, h⟩ dX1_spoke_104
set_option maxHeartbeats 4000000 in
theorem wk_X1_spoke_b16 {X : Cxt} {p : Program} {l : Launch} {e : Env} {s : State} {m : MethodId} {args : Array Value} {below : List Frame} {meth : Method} {c : Code} (σ : St) (a0 : Int) (x1 : Int) (x2 : Int) (Q : Int → Prop) (K : MCx X p s m args meth c cX1_spoke 5 "CombTable" (some .int)) (hx1 : rng x1) (hx2 : rng x2) : ∀ (H : Heap) (locs : List Loc) (ls : Array Slot), wp_X1_spoke_b16 σ a0 x1 x2 Q → Wc X σ s.heap H locs → tg σ a0 = 1 → lv_has ls 5 [(0, jR X a0), (1, jI x1), (2, jI x2)] → W p l e (zrm 3 0 0) s m args below meth c H locs 0 0 (MQT below (ZQ X (qI (fun r σ' => σ' = σ ∧ Q r)) (fun _ _ => False)) args s 0 0 (zA X)) (F0 m 16 ls []) := by
  intro H locs ls h hw ht0 hl
  refine lv_iload_n (pc := 16) K.x K.b dX1_spoke_16 rfl (lv_at hl 2 rfl) ?_
  refine z_iconst (pc := 17) K dX1_spoke_17 ?_
  refine z_icmp_eq (pc := 18) (tgt := 34) K hx2 ⟨by decide, by decide⟩ dX1_spoke_18 (by decide) (fun hc1 => ?_) (fun hc1 => ?_)
  · have h := ite_t h hc1
    refine z_iconst (pc := 34) K dX1_spoke_34 ?_
    refine lv_istore_n (pc := 35) (lv' := [(3, jI 0), (0, jR X a0), (1, jI x1), (2, jI x2)]) K.x K.b dX1_spoke_35 rfl hl (by decide) rfl (fun ls hl => ?_)
    refine z_iconst (pc := 36) K dX1_spoke_36 ?_
    refine lv_istore (pc := 37) (lv' := [(4, jI 0), (3, jI 0), (0, jR X a0), (1, jI x1), (2, jI x2)]) K.x K.b dX1_spoke_37 hl (by decide) rfl (fun ls hl => ?_)
    obtain ⟨n2, h⟩ := h
    exact wk_X1_spoke_39 σ a0 x1 x2 Q K hx1 hx2 n2 0 0 _ _ _ h hw ht0 ⟨by decide, by decide⟩ ⟨by decide, by decide⟩ (lv_sub hl [2, 3, 4, 1, 0] rfl)
  · have h := ite_f h hc1
    refine z_aload_n (pc := 21) K dX1_spoke_21 rfl (lv_at hl 0 rfl) ?_
    refine z_get (pc := 22) (t := 1) (k := 8) K hw (ob ht0) zq1 (by decide) q524 (fun _ h => h) dX1_spoke_22 (zval_r kf_1_8) ?_
    refine lv_iload_n (pc := 25) K.x K.b dX1_spoke_25 rfl (lv_at hl 2 rfl) ?_
    have hg3 : tg σ (σ a0 8 0) = 3 := (z_tg (t := 1) (r := 3) hw ht0 ⟨by decide, by decide⟩ kf_1_8 kn_1_8 kt_1_8 (by decide) (by decide))
    refine zr_z (pc := 26) (maxL := 2) K hw (met_X3_isKind X l σ (σ a0 8 0) x2 hg3 hx2 _ h) (i_V (n := 1) (t := 3) (As := [jI x2]) K hw (ob hg3) zq3 (by decide) q907 q908 q909 (sg_of K q910) rfl rfl dX1_spoke_26) (locw K q910 q94) ⟨by decide, by decide⟩ hl.1 dX1_spoke_26 (Nat.le_of_ble_eq_true rfl) ⟨Nat.le_refl _, Nat.le_refl _⟩ (fun r4 _ _ hr5 h hw8 => ?_)
    refine z_if_ne (pc := 29) (tgt := 34) K (b01r hr5) dX1_spoke_29 (by decide) (fun hc9 => ?_) (fun hc9 => ?_)
    · have h := ite_t h hc9
      refine z_iconst (pc := 32) K dX1_spoke_32 ?_
      exact z_iret (pc := 33) K hw8 ⟨by decide, by decide⟩ ⟨rfl, h⟩ dX1_spoke_33
    · have h := ite_f h hc9
      refine z_iconst (pc := 34) K dX1_spoke_34 ?_
      refine lv_istore_n (pc := 35) (lv' := [(3, jI 0), (0, jR X a0), (1, jI x1), (2, jI x2)]) K.x K.b dX1_spoke_35 rfl hl (by decide) rfl (fun ls hl => ?_)
      refine z_iconst (pc := 36) K dX1_spoke_36 ?_
      refine lv_istore (pc := 37) (lv' := [(4, jI 0), (3, jI 0), (0, jR X a0), (1, jI x1), (2, jI x2)]) K.x K.b dX1_spoke_37 hl (by decide) rfl (fun ls hl => ?_)
      obtain ⟨n10, h⟩ := h
      exact wk_X1_spoke_39 σ a0 x1 x2 Q K hx1 hx2 n10 0 0 _ _ _ h hw8 ht0 ⟨by decide, by decide⟩ ⟨by decide, by decide⟩ (lv_sub hl [2, 3, 4, 1, 0] rfl)
set_option maxHeartbeats 4000000 in
theorem met_X1_spoke (X : Cxt) (l : Launch) (σ : St) (a0 : Int) (x1 : Int) (x2 : Int) (ht0 : tg σ a0 = 1) (hx1 : rng x1) (hx2 : rng x2) (Q : Int → Prop) (h : wp_X1_spoke σ a0 x1 x2 Q) : MetT l yX1_spoke (ws_ yX1_spoke cX1_spoke 5 (some .int)) (zrm 3 0 0) (ZP X σ [jR X a0, jI x1, jI x2]) (ZQ X (qI (fun r σ' => σ' = σ ∧ Q r)) (fun _ _ => False)) 0 0 (zA X) := by
  refine z_start (own := "CombTable") (lv := [(0, jR X a0), (1, jI x1), (2, jI x2)]) (by decide) rfl (by simp [lv_args, jR_cat, jI_cat, jL_cat]) (by simp [lg_sl, jR_cat, jI_cat, jL_cat]) (fun p e s m below meth c ls K _ _ hw hl => ?_)
  refine lv_iload_n (pc := 0) K.x K.b dX1_spoke_0 rfl (lv_at hl 1 rfl) ?_
  refine z_iconst (pc := 1) K dX1_spoke_1 ?_
  refine z_icmp_eq (pc := 2) (tgt := 16) K hx1 ⟨by decide, by decide⟩ dX1_spoke_2 (by decide) (fun hc1 => ?_) (fun hc1 => ?_)
  · have h := ite_t h hc1
    exact wk_X1_spoke_b16 σ a0 x1 x2 Q K hx1 hx2 _ _ _ h hw ht0 (lv_sub hl [0, 1, 2] rfl)
  · have h := ite_f h hc1
    refine z_aload_n (pc := 5) K dX1_spoke_5 rfl (lv_at hl 0 rfl) ?_
    refine z_get (pc := 6) (t := 1) (k := 8) K hw (ob ht0) zq1 (by decide) q524 (fun _ h => h) dX1_spoke_6 (zval_r kf_1_8) ?_
    refine lv_iload_n (pc := 9) K.x K.b dX1_spoke_9 rfl (lv_at hl 1 rfl) ?_
    have hg2 : tg σ (σ a0 8 0) = 3 := (z_tg (t := 1) (r := 3) hw ht0 ⟨by decide, by decide⟩ kf_1_8 kn_1_8 kt_1_8 (by decide) (by decide))
    refine zr_z (pc := 10) (maxL := 2) K hw (met_X3_isWho X l σ (σ a0 8 0) x1 hg2 hx1 _ h) (i_V (n := 1) (t := 3) (As := [jI x1]) K hw (ob hg2) zq3 (by decide) q898 q899 q900 (sg_of K q901) rfl rfl dX1_spoke_10) (locw K q901 q94) ⟨by decide, by decide⟩ hl.1 dX1_spoke_10 (Nat.le_of_ble_eq_true rfl) ⟨Nat.le_refl _, Nat.le_refl _⟩ (fun r3 _ _ hr4 h hw7 => ?_)
    refine z_if_eq (pc := 13) (tgt := 32) K (b01r hr4) dX1_spoke_13 (by decide) (fun hc8 => ?_) (fun hc8 => ?_)
    · have h := ite_t h hc8
      refine z_iconst (pc := 32) K dX1_spoke_32 ?_
      exact z_iret (pc := 33) K hw7 ⟨by decide, by decide⟩ ⟨rfl, h⟩ dX1_spoke_33
    · have h := ite_f h hc8
      exact wk_X1_spoke_b16 σ a0 x1 x2 Q K hx1 hx2 _ _ _ h hw7 ht0 (lv_sub hl [0, 1, 2] rfl)
def wp_X1_sure (σ : St) (a0 : Int) (x1 : Int) (x2 : Int) (Q : Int → Prop) : Prop :=
  (if σ a0 24 0 = 0 then
    Q (-1)
    else
    rng ((σ a0 22 0) - 1) ∧ wp_X1_isIn σ x1 0 ((σ a0 22 0) - 1) (fun r3 => (if r3 = 0 then
      Q (-1)
      else
      wp_X1_isIn σ x2 0 2 (fun r9 => (if r9 = 0 then
        Q (-1)
        else
        (if x2 = 0 then
          (0 ≤ x1 ∧ x1 < 24) ∧ Q (σ a0 19 x1)
          else
          (if x2 = 1 then
            (0 ≤ x1 ∧ x1 < 24) ∧ Q (σ a0 20 x1)
            else
            (0 ≤ x1 ∧ x1 < 24) ∧ Q (σ a0 21 x1))))))))
set_option maxHeartbeats 4000000 in
theorem met_X1_sure (X : Cxt) (l : Launch) (σ : St) (a0 : Int) (x1 : Int) (x2 : Int) (ht0 : tg σ a0 = 1) (hx1 : rng x1) (hx2 : rng x2) (Q : Int → Prop) (h : wp_X1_sure σ a0 x1 x2 Q) : MetT l yX1_sure (ws_ yX1_sure cX1_sure 3 (some .int)) (zrm 2 0 0) (ZP X σ [jR X a0, jI x1, jI x2]) (ZQ X (qI (fun r σ' => σ' = σ ∧ Q r)) (fun _ _ => False)) 0 0 (zA X) := by
  refine z_start (own := "CombTable") (lv := [(0, jR X a0), (1, jI x1), (2, jI x2)]) (by decide) rfl (by simp [lv_args, jR_cat, jI_cat, jL_cat]) (by simp [lg_sl, jR_cat, jI_cat, jL_cat]) (fun p e s m below meth c ls K _ _ hw hl => ?_)
  refine z_aload_n (pc := 0) K dX1_sure_0 rfl (lv_at hl 0 rfl) ?_
  refine z_get (pc := 1) (t := 1) (k := 24) K hw (ob ht0) zq1 (by decide) q542 (fun _ h => h) dX1_sure_1 (zval_i kf_1_24) ?_
  refine z_if_eq (pc := 4) (tgt := 30) K (z_rI hw (ob (t := 1) ht0) kf_1_24) dX1_sure_4 (by decide) (fun hc1 => ?_) (fun hc1 => ?_)
  · have h := ite_t h hc1
    refine z_iconst (pc := 30) K dX1_sure_30 ?_
    exact z_iret (pc := 31) K hw ⟨by decide, by decide⟩ ⟨rfl, h⟩ dX1_sure_31
  · have h := ite_f h hc1
    refine lv_iload_n (pc := 7) K.x K.b dX1_sure_7 rfl (lv_at hl 1 rfl) ?_
    refine z_iconst (pc := 8) K dX1_sure_8 ?_
    refine z_aload_n (pc := 9) K dX1_sure_9 rfl (lv_at hl 0 rfl) ?_
    refine z_get (pc := 10) (t := 1) (k := 22) K hw (ob ht0) zq1 (by decide) q540 (fun _ h => h) dX1_sure_10 (zval_i kf_1_22) ?_
    refine z_iconst (pc := 13) K dX1_sure_13 ?_
    refine z_isub (pc := 14) K dX1_sure_14 ?_
    obtain ⟨hr2, h⟩ := h
    refine zr_z (pc := 15) (maxL := 3) K hw (met_X1_isIn X l σ x1 0 ((σ a0 22 0) - 1) hx1 ⟨by decide, by decide⟩ hr2 _ h) (i_S (n := 3) (As := [jI x1, jI 0, jI ((σ a0 22 0) - 1)]) K (by decide) q1010 q682 q90 (sg_of K q683) rfl rfl dX1_sure_15) (locw K q683 q90) ⟨by decide, by decide⟩ hl.1 dX1_sure_15 (Nat.le_of_ble_eq_true rfl) ⟨Nat.le_refl _, Nat.le_refl _⟩ (fun r3 _ _ hr4 h hw7 => ?_)
    refine z_if_eq (pc := 18) (tgt := 30) K (b01r hr4) dX1_sure_18 (by decide) (fun hc8 => ?_) (fun hc8 => ?_)
    · have h := ite_t h hc8
      refine z_iconst (pc := 30) K dX1_sure_30 ?_
      exact z_iret (pc := 31) K hw7 ⟨by decide, by decide⟩ ⟨rfl, h⟩ dX1_sure_31
    · have h := ite_f h hc8
      refine lv_iload_n (pc := 21) K.x K.b dX1_sure_21 rfl (lv_at hl 2 rfl) ?_
      refine z_iconst (pc := 22) K dX1_sure_22 ?_
      refine z_iconst (pc := 23) K dX1_sure_23 ?_
      refine zr_z (pc := 24) (maxL := 3) K hw7 (met_X1_isIn X l σ x2 0 2 hx2 ⟨by decide, by decide⟩ ⟨by decide, by decide⟩ _ h) (i_S (n := 3) (As := [jI x2, jI 0, jI 2]) K (by decide) q1010 q682 q90 (sg_of K q683) rfl rfl dX1_sure_24) (locw K q683 q90) ⟨by decide, by decide⟩ hl.1 dX1_sure_24 (Nat.le_of_ble_eq_true rfl) ⟨Nat.le_refl _, Nat.le_refl _⟩ (fun r9 _ _ hr10 h hw13 => ?_)
      refine z_if_ne (pc := 27) (tgt := 32) K (b01r hr10) dX1_sure_27 (by decide) (fun hc14 => ?_) (fun hc14 => ?_)
      · have h := ite_t h hc14
        refine z_iconst (pc := 30) K dX1_sure_30 ?_
        exact z_iret (pc := 31) K hw13 ⟨by decide, by decide⟩ ⟨rfl, h⟩ dX1_sure_31
      · have h := ite_f h hc14
        refine lv_iload_n (pc := 32) K.x K.b dX1_sure_32 rfl (lv_at hl 2 rfl) ?_
        refine z_if_ne (pc := 33) (tgt := 45) K hx2 dX1_sure_33 (by decide) (fun hc15 => ?_) (fun hc15 => ?_)
        · have h := ite_t h hc15
          refine z_aload_n (pc := 36) K dX1_sure_36 rfl (lv_at hl 0 rfl) ?_
          refine z_get (pc := 37) (t := 1) (k := 19) K hw13 (ob ht0) zq1 (by decide) q537 (fun _ h => h) dX1_sure_37 (zval_p (κ := 1) kf_1_19) ?_
          refine lv_iload_n (pc := 40) K.x K.b dX1_sure_40 rfl (lv_at hl 1 rfl) ?_
          obtain ⟨hj16, h⟩ := h
          refine z_iald (pc := 41) (t := 1) K hw13 ht0 ⟨by decide, by decide⟩ kf_1_19 kl_1_19 hj16 (by decide) dX1_sure_41 ?_
          refine z_goto (pc := 42) (tgt := 65) K dX1_sure_42 (by decide) ?_
          exact z_iret (pc := 65) K hw13 (z_elI (t := 1) hw13 ht0 ⟨by decide, by decide⟩ kf_1_19 kl_1_19 hj16) ⟨rfl, h⟩ dX1_sure_65
        · have h := ite_f h hc15
          refine lv_iload_n (pc := 45) K.x K.b dX1_sure_45 rfl (lv_at hl 2 rfl) ?_
          refine z_iconst (pc := 46) K dX1_sure_46 ?_
          refine z_icmp_ne (pc := 47) (tgt := 59) K hx2 ⟨by decide, by decide⟩ dX1_sure_47 (by decide) (fun hc17 => ?_) (fun hc17 => ?_)
          · have h := ite_t h hc17
            refine z_aload_n (pc := 50) K dX1_sure_50 rfl (lv_at hl 0 rfl) ?_
            refine z_get (pc := 51) (t := 1) (k := 20) K hw13 (ob ht0) zq1 (by decide) q538 (fun _ h => h) dX1_sure_51 (zval_p (κ := 1) kf_1_20) ?_
            refine lv_iload_n (pc := 54) K.x K.b dX1_sure_54 rfl (lv_at hl 1 rfl) ?_
            obtain ⟨hj18, h⟩ := h
            refine z_iald (pc := 55) (t := 1) K hw13 ht0 ⟨by decide, by decide⟩ kf_1_20 kl_1_20 hj18 (by decide) dX1_sure_55 ?_
            refine z_goto (pc := 56) (tgt := 65) K dX1_sure_56 (by decide) ?_
            exact z_iret (pc := 65) K hw13 (z_elI (t := 1) hw13 ht0 ⟨by decide, by decide⟩ kf_1_20 kl_1_20 hj18) ⟨rfl, h⟩ dX1_sure_65
          · have h := ite_f h hc17
            refine z_aload_n (pc := 59) K dX1_sure_59 rfl (lv_at hl 0 rfl) ?_
            refine z_get (pc := 60) (t := 1) (k := 21) K hw13 (ob ht0) zq1 (by decide) q539 (fun _ h => h) dX1_sure_60 (zval_p (κ := 1) kf_1_21) ?_
            refine lv_iload_n (pc := 63) K.x K.b dX1_sure_63 rfl (lv_at hl 1 rfl) ?_
            obtain ⟨hj19, h⟩ := h
            refine z_iald (pc := 64) (t := 1) K hw13 ht0 ⟨by decide, by decide⟩ kf_1_21 kl_1_21 hj19 (by decide) dX1_sure_64 ?_
            exact z_iret (pc := 65) K hw13 (z_elI (t := 1) hw13 ht0 ⟨by decide, by decide⟩ kf_1_21 kl_1_21 hj19) ⟨rfl, h⟩ dX1_sure_65
def lp_X1_thread_29 (σ : St) (a0 : Int) (x1 : Int) (x2 : Int) (Q : Int → Prop) : Nat → Int → Int → Prop
  | 0 => fun _ _ => False
  | n + 1 => fun v3 v4 => 
    (if v4 < σ (σ a0 8 0) 8 0 then
      (0 ≤ v4 ∧ v4 < 400) ∧ (if σ (σ a0 8 0) 4 v4 = x1 then
        (if v3 = x2 then
          Q v4
          else
          rng (v3 + 1) ∧ rng (v4 + 1) ∧ (lp_X1_thread_29 σ a0 x1 x2 Q n (v3 + 1) (v4 + 1)))
        else
        rng (v4 + 1) ∧ (lp_X1_thread_29 σ a0 x1 x2 Q n v3 (v4 + 1)))
      else
      (if x2 = (-1) then
        Q v3
        else
        Q (-1)))
def wp_X1_thread (σ : St) (a0 : Int) (x1 : Int) (x2 : Int) (Q : Int → Prop) : Prop :=
  rng ((σ (σ a0 8 0) 9 0) - 1) ∧ wp_X1_isIn σ x1 0 ((σ (σ a0 8 0) 9 0) - 1) (fun r3 => (if r3 = 0 then
    Q (-1)
    else
    (if x2 < (-1) then
      Q (-1)
      else
      (∃ kk, lp_X1_thread_29 σ a0 x1 x2 Q kk 0 0))))
set_option maxHeartbeats 4000000 in
theorem wk_X1_thread_29 {X : Cxt} {p : Program} {l : Launch} {e : Env} {s : State} {m : MethodId} {args : Array Value} {below : List Frame} {meth : Method} {c : Code} (σ : St) (a0 : Int) (x1 : Int) (x2 : Int) (Q : Int → Prop) (K : MCx X p s m args meth c cX1_thread 5 "CombTable" (some .int)) (hx1 : rng x1) (hx2 : rng x2) : ∀ (n : Nat), ∀ (v3 : Int) (v4 : Int) (H : Heap) (locs : List Loc) (ls : Array Slot), lp_X1_thread_29 σ a0 x1 x2 Q n v3 v4 → Wc X σ s.heap H locs → tg σ a0 = 1 → rng v3 → rng v4 → lv_has ls 5 [(0, jR X a0), (1, jI x1), (2, jI x2), (3, jI v3), (4, jI v4)] → W p l e (zrm 2 0 0) s m args below meth c H locs 0 0 (MQT below (ZQ X (qI (fun r σ' => σ' = σ ∧ Q r)) (fun _ _ => False)) args s 0 0 (zA X)) (F0 m 29 ls []) := by
  intro n
  induction n with
  | zero => intro v3 v4 H locs ls h; exact h.elim
  | succ n ih =>
    intro v3 v4 H locs ls h hw ht0 hv3 hv4 hl
    refine lv_iload (pc := 29) K.x K.b dX1_thread_29 (lv_at hl 4 rfl) ?_
    refine z_aload_n (pc := 31) K dX1_thread_31 rfl (lv_at hl 0 rfl) ?_
    refine z_get (pc := 32) (t := 1) (k := 8) K hw (ob ht0) zq1 (by decide) q524 (fun _ h => h) dX1_thread_32 (zval_r kf_1_8) ?_
    have hg1 : tg σ (σ a0 8 0) = 3 := (z_tg (t := 1) (r := 3) hw ht0 ⟨by decide, by decide⟩ kf_1_8 kn_1_8 kt_1_8 (by decide) (by decide))
    refine z_getN (pc := 35) (t := 3) (k := 8) K hw (ob hg1) zq3 (by decide) q323 (fun _ h => h) dX1_thread_35 (zval_i kf_3_8) ?_
    refine z_icmp_ge (pc := 38) (tgt := 75) K hv4 (z_rI hw (ob (t := 3) hg1) kf_3_8) dX1_thread_38 (by decide) (fun hc2 => ?_) (fun hc2 => ?_)
    · have h := ite_t h hc2
      refine z_aload_n (pc := 41) K dX1_thread_41 rfl (lv_at hl 0 rfl) ?_
      refine z_get (pc := 42) (t := 1) (k := 8) K hw (ob ht0) zq1 (by decide) q524 (fun _ h => h) dX1_thread_42 (zval_r kf_1_8) ?_
      refine z_getN (pc := 45) (t := 3) (k := 4) K hw (ob hg1) zq3 (by decide) q315 (fun _ h => h) dX1_thread_45 (zval_p (κ := 1) kf_3_4) ?_
      refine lv_iload (pc := 48) K.x K.b dX1_thread_48 (lv_at hl 4 rfl) ?_
      obtain ⟨hj3, h⟩ := h
      refine z_iald (pc := 50) (t := 3) K hw hg1 ⟨by decide, by decide⟩ kf_3_4 kl_3_4 hj3 (by decide) dX1_thread_50 ?_
      refine lv_iload_n (pc := 51) K.x K.b dX1_thread_51 rfl (lv_at hl 1 rfl) ?_
      refine z_icmp_eq (pc := 52) (tgt := 58) K (z_elI (t := 3) hw hg1 ⟨by decide, by decide⟩ kf_3_4 kl_3_4 hj3) hx1 dX1_thread_52 (by decide) (fun hc4 => ?_) (fun hc4 => ?_)
      · have h := ite_t h hc4
        refine lv_iload_n (pc := 58) K.x K.b dX1_thread_58 rfl (lv_at hl 3 rfl) ?_
        refine lv_iload_n (pc := 59) K.x K.b dX1_thread_59 rfl (lv_at hl 2 rfl) ?_
        refine z_icmp_ne (pc := 60) (tgt := 66) K hv3 hx2 dX1_thread_60 (by decide) (fun hc5 => ?_) (fun hc5 => ?_)
        · have h := ite_t h hc5
          refine lv_iload (pc := 63) K.x K.b dX1_thread_63 (lv_at hl 4 rfl) ?_
          exact z_iret (pc := 65) K hw hv4 ⟨rfl, h⟩ dX1_thread_65
        · have h := ite_f h hc5
          refine z_iinc (pc := 66) (k := 3) (lv' := [(3, jI (v3 + 1)), (0, jR X a0), (1, jI x1), (2, jI x2), (4, jI v4)]) K dX1_thread_66 hl rfl (by decide) rfl (fun ls hl => ?_)
          refine z_iinc (pc := 69) (k := 4) (lv' := [(4, jI (v4 + 1)), (3, jI (v3 + 1)), (0, jR X a0), (1, jI x1), (2, jI x2)]) K dX1_thread_69 hl rfl (by decide) rfl (fun ls hl => ?_)
          refine z_goto (pc := 72) (tgt := 29) K dX1_thread_72 (by decide) ?_
          obtain ⟨hr6, h⟩ := h
          obtain ⟨hr7, h⟩ := h
          exact ih (v3 + 1) (v4 + 1) _ _ _ h hw ht0 hr6 hr7 (lv_sub hl [2, 3, 4, 1, 0] rfl)
      · have h := ite_f h hc4
        refine z_goto (pc := 55) (tgt := 69) K dX1_thread_55 (by decide) ?_
        refine z_iinc (pc := 69) (k := 4) (lv' := [(4, jI (v4 + 1)), (0, jR X a0), (1, jI x1), (2, jI x2), (3, jI v3)]) K dX1_thread_69 hl rfl (by decide) rfl (fun ls hl => ?_)
        refine z_goto (pc := 72) (tgt := 29) K dX1_thread_72 (by decide) ?_
        obtain ⟨hr8, h⟩ := h
        exact ih v3 (v4 + 1) _ _ _ h hw ht0 hv3 hr8 (lv_sub hl [1, 2, 3, 4, 0] rfl)
    · have h := ite_f h hc2
      refine lv_iload_n (pc := 75) K.x K.b dX1_thread_75 rfl (lv_at hl 2 rfl) ?_
      refine z_iconst (pc := 76) K dX1_thread_76 ?_
      refine z_icmp_ne (pc := 77) (tgt := 84) K hx2 ⟨by decide, by decide⟩ dX1_thread_77 (by decide) (fun hc9 => ?_) (fun hc9 => ?_)
      · have h := ite_t h hc9
        refine lv_iload_n (pc := 80) K.x K.b dX1_thread_80 rfl (lv_at hl 3 rfl) ?_
        refine z_goto (pc := 81) (tgt := 85) K dX1_thread_81 (by decide) ?_
        exact z_iret (pc := 85) K hw hv3 ⟨rfl, h⟩ dX1_thread_85
      · have h := ite_f h hc9
        refine z_iconst (pc := 84) K dX1_thread_84 ?_
        exact z_iret (pc := 85) K hw ⟨by decide, by decide⟩ ⟨rfl, h⟩ dX1_thread_85
set_option maxHeartbeats 4000000 in
theorem met_X1_thread (X : Cxt) (l : Launch) (σ : St) (a0 : Int) (x1 : Int) (x2 : Int) (ht0 : tg σ a0 = 1) (hx1 : rng x1) (hx2 : rng x2) (Q : Int → Prop) (h : wp_X1_thread σ a0 x1 x2 Q) : MetT l yX1_thread (ws_ yX1_thread cX1_thread 5 (some .int)) (zrm 2 0 0) (ZP X σ [jR X a0, jI x1, jI x2]) (ZQ X (qI (fun r σ' => σ' = σ ∧ Q r)) (fun _ _ => False)) 0 0 (zA X) := by
  refine z_start (own := "CombTable") (lv := [(0, jR X a0), (1, jI x1), (2, jI x2)]) (by decide) rfl (by simp [lv_args, jR_cat, jI_cat, jL_cat]) (by simp [lg_sl, jR_cat, jI_cat, jL_cat]) (fun p e s m below meth c ls K _ _ hw hl => ?_)
  refine lv_iload_n (pc := 0) K.x K.b dX1_thread_0 rfl (lv_at hl 1 rfl) ?_
  refine z_iconst (pc := 1) K dX1_thread_1 ?_
  refine z_aload_n (pc := 2) K dX1_thread_2 rfl (lv_at hl 0 rfl) ?_
  refine z_get (pc := 3) (t := 1) (k := 8) K hw (ob ht0) zq1 (by decide) q524 (fun _ h => h) dX1_thread_3 (zval_r kf_1_8) ?_
  have hg1 : tg σ (σ a0 8 0) = 3 := (z_tg (t := 1) (r := 3) hw ht0 ⟨by decide, by decide⟩ kf_1_8 kn_1_8 kt_1_8 (by decide) (by decide))
  refine z_getN (pc := 6) (t := 3) (k := 9) K hw (ob hg1) zq3 (by decide) q325 (fun _ h => h) dX1_thread_6 (zval_i kf_3_9) ?_
  refine z_iconst (pc := 9) K dX1_thread_9 ?_
  refine z_isub (pc := 10) K dX1_thread_10 ?_
  obtain ⟨hr2, h⟩ := h
  refine zr_z (pc := 11) (maxL := 3) K hw (met_X1_isIn X l σ x1 0 ((σ (σ a0 8 0) 9 0) - 1) hx1 ⟨by decide, by decide⟩ hr2 _ h) (i_S (n := 3) (As := [jI x1, jI 0, jI ((σ (σ a0 8 0) 9 0) - 1)]) K (by decide) q1010 q682 q90 (sg_of K q683) rfl rfl dX1_thread_11) (locw K q683 q90) ⟨by decide, by decide⟩ hl.1 dX1_thread_11 (Nat.le_of_ble_eq_true rfl) ⟨Nat.le_refl _, Nat.le_refl _⟩ (fun r3 _ _ hr4 h hw7 => ?_)
  refine z_if_eq (pc := 14) (tgt := 22) K (b01r hr4) dX1_thread_14 (by decide) (fun hc8 => ?_) (fun hc8 => ?_)
  · have h := ite_t h hc8
    refine z_iconst (pc := 22) K dX1_thread_22 ?_
    exact z_iret (pc := 23) K hw7 ⟨by decide, by decide⟩ ⟨rfl, h⟩ dX1_thread_23
  · have h := ite_f h hc8
    refine lv_iload_n (pc := 17) K.x K.b dX1_thread_17 rfl (lv_at hl 2 rfl) ?_
    refine z_iconst (pc := 18) K dX1_thread_18 ?_
    refine z_icmp_ge (pc := 19) (tgt := 24) K hx2 ⟨by decide, by decide⟩ dX1_thread_19 (by decide) (fun hc9 => ?_) (fun hc9 => ?_)
    · have h := ite_t h hc9
      refine z_iconst (pc := 22) K dX1_thread_22 ?_
      exact z_iret (pc := 23) K hw7 ⟨by decide, by decide⟩ ⟨rfl, h⟩ dX1_thread_23
    · have h := ite_f h hc9
      refine z_iconst (pc := 24) K dX1_thread_24 ?_
      refine lv_istore_n (pc := 25) (lv' := [(3, jI 0), (0, jR X a0), (1, jI x1), (2, jI x2)]) K.x K.b dX1_thread_25 rfl hl (by decide) rfl (fun ls hl => ?_)
      refine z_iconst (pc := 26) K dX1_thread_26 ?_
      refine lv_istore (pc := 27) (lv' := [(4, jI 0), (3, jI 0), (0, jR X a0), (1, jI x1), (2, jI x2)]) K.x K.b dX1_thread_27 hl (by decide) rfl (fun ls hl => ?_)
      obtain ⟨n10, h⟩ := h
      exact wk_X1_thread_29 σ a0 x1 x2 Q K hx1 hx2 n10 0 0 _ _ _ h hw7 ht0 ⟨by decide, by decide⟩ ⟨by decide, by decide⟩ (lv_sub hl [2, 3, 4, 1, 0] rfl)
def wp_X1_threads (σ : St) (a0 : Int) (Q : Int → Prop) : Prop :=
  Q (σ (σ a0 8 0) 9 0)
set_option maxHeartbeats 4000000 in
theorem met_X1_threads (X : Cxt) (l : Launch) (σ : St) (a0 : Int) (ht0 : tg σ a0 = 1) (Q : Int → Prop) (h : wp_X1_threads σ a0 Q) : MetT l yX1_threads (ws_ yX1_threads cX1_threads 1 (some .int)) (zrm 1 0 0) (ZP X σ [jR X a0]) (ZQ X (qI (fun r σ' => σ' = σ ∧ Q r)) (fun _ _ => False)) 0 0 (zA X) := by
  refine z_start (own := "CombTable") (lv := [(0, jR X a0)]) (by decide) rfl (by simp [lv_args, jR_cat, jI_cat, jL_cat]) (by simp [lg_sl, jR_cat, jI_cat, jL_cat]) (fun p e s m below meth c ls K _ _ hw hl => ?_)
  refine z_aload_n (pc := 0) K dX1_threads_0 rfl (lv_at hl 0 rfl) ?_
  refine z_get (pc := 1) (t := 1) (k := 8) K hw (ob ht0) zq1 (by decide) q524 (fun _ h => h) dX1_threads_1 (zval_r kf_1_8) ?_
  have hg1 : tg σ (σ a0 8 0) = 3 := (z_tg (t := 1) (r := 3) hw ht0 ⟨by decide, by decide⟩ kf_1_8 kn_1_8 kt_1_8 (by decide) (by decide))
  refine z_getN (pc := 4) (t := 3) (k := 9) K hw (ob hg1) zq3 (by decide) q325 (fun _ h => h) dX1_threads_4 (zval_i kf_3_9) ?_
  exact z_iret (pc := 7) K hw (z_rI hw (ob (t := 3) hg1) kf_3_9) ⟨rfl, h⟩ dX1_threads_7
def ws_X1_undo : List (Int × Nat) := [(3, 6), (3, 8), (3, 9)]
theorem wo_X1_undo : wsOk ws_X1_undo = true := rfl
def wp_X1_undo (σ : St) (a0 : Int) (Q : Int → St → Prop) : Prop :=
  (if σ (σ a0 8 0) 8 0 = 0 then
    Q (-1) σ
    else
    wp_X3_undo σ (σ a0 8 0) (fun σ6 => Kp ws_X3_undo σ σ6 → Q (σ6 (σ6 a0 8 0) 8 0) σ6))
set_option maxHeartbeats 4000000 in
theorem met_X1_undo (X : Cxt) (l : Launch) (σ : St) (a0 : Int) (ht0 : tg σ a0 = 1) (Q : Int → St → Prop) (h : wp_X1_undo σ a0 Q) : MetT l yX1_undo (ws_ yX1_undo cX1_undo 1 (some .int)) (zrm 2 0 0) (ZP X σ [jR X a0]) (ZQ X (qI (fun r σ' => Kp ws_X1_undo σ σ' ∧ Q r σ')) (fun _ _ => False)) 0 0 (zA X) := by
  refine z_start (own := "CombTable") (lv := [(0, jR X a0)]) (by decide) rfl (by simp [lv_args, jR_cat, jI_cat, jL_cat]) (by simp [lg_sl, jR_cat, jI_cat, jL_cat]) (fun p e s m below meth c ls K _ _ hw hl => ?_)
  have hk : Kp ws_X1_undo σ σ := kp_rf σ
  refine z_aload_n (pc := 0) K dX1_undo_0 rfl (lv_at hl 0 rfl) ?_
  refine z_get (pc := 1) (t := 1) (k := 8) K hw (ob ht0) zq1 (by decide) q524 (fun _ h => h) dX1_undo_1 (zval_r kf_1_8) ?_
  have hg1 : tg σ (σ a0 8 0) = 3 := (z_tg (t := 1) (r := 3) hw ht0 ⟨by decide, by decide⟩ kf_1_8 kn_1_8 kt_1_8 (by decide) (by decide))
  refine z_getN (pc := 4) (t := 3) (k := 8) K hw (ob hg1) zq3 (by decide) q323 (fun _ h => h) dX1_undo_4 (zval_i kf_3_8) ?_
  refine z_if_ne (pc := 7) (tgt := 12) K (z_rI hw (ob (t := 3) hg1) kf_3_8) dX1_undo_7 (by decide) (fun hc2 => ?_) (fun hc2 => ?_)
  · have h := ite_t h hc2
    refine z_iconst (pc := 10) K dX1_undo_10 ?_
    exact z_iret (pc := 11) K hw ⟨by decide, by decide⟩ ⟨hk, h⟩ dX1_undo_11
  · have h := ite_f h hc2
    refine z_aload_n (pc := 12) K dX1_undo_12 rfl (lv_at hl 0 rfl) ?_
    refine z_get (pc := 13) (t := 1) (k := 8) K hw (ob ht0) zq1 (by decide) q524 (fun _ h => h) dX1_undo_13 (zval_r kf_1_8) ?_
    refine zc_v (pc := 16) (maxL := 2) K hw (met_X3_undo X l σ (σ a0 8 0) hg1 _ h) (i_V (n := 0) (t := 3) (As := []) K hw (ob hg1) zq3 (by decide) q953 q954 q955 (sg_of K q956) rfl rfl dX1_undo_16) (locw K q956 q94) ⟨by decide, by decide⟩ hl.1 dX1_undo_16 (Nat.le_of_ble_eq_true rfl) ⟨Nat.le_refl _, Nat.le_refl _⟩ (fun σ6 _ _ hq5 hw7 => ?_)
    obtain ⟨hk8, h⟩ := hq5
    have h := h hk8
    have hk9 := kp_trans wo_X1_undo hk hk8 (fun _ q => q) (by decide)
    have hg10 : tg σ6 a0 = 1 := kp_tg hk8 wo_X3_undo ht0 (by decide)
    refine z_aload_n (pc := 19) K dX1_undo_19 rfl (lv_at hl 0 rfl) ?_
    refine z_get (pc := 20) (t := 1) (k := 8) K hw7 (ob hg10) zq1 (by decide) q524 (fun _ h => h) dX1_undo_20 (zval_r kf_1_8) ?_
    have hg11 : tg σ6 (σ6 a0 8 0) = 3 := (z_tg (t := 1) (r := 3) hw7 hg10 ⟨by decide, by decide⟩ kf_1_8 kn_1_8 kt_1_8 (by decide) (by decide))
    refine z_getN (pc := 23) (t := 3) (k := 8) K hw7 (ob hg11) zq3 (by decide) q323 (fun _ h => h) dX1_undo_23 (zval_i kf_3_8) ?_
    exact z_iret (pc := 26) K hw7 (z_rI hw7 (ob (t := 3) hg11) kf_3_8) ⟨hk9, h⟩ dX1_undo_26
def ws_X1_unlike : List (Int × Nat) := [(1, 30), (1, 31), (1, 32), (3, 0), (3, 1), (3, 2), (3, 3), (3, 4), (3, 5), (3, 6), (3, 7), (3, 8), (3, 9)]
theorem wo_X1_unlike : wsOk ws_X1_unlike = true := rfl
def lp_X1_unlike_153 (a0 : Int) (x1 : Int) (x2 : Int) (Q : Int → St → Prop) (σ0 : St) : Nat → St → Int → Int → Prop
  | 0 => fun _ _ _ => False
  | n + 1 => fun σ v6 v7 => 
    Kp ws_X1_unlike σ0 σ → (if v7 < v6 then
      (σ a0 32 0) ≠ -1 ∧ (0 ≤ v7 ∧ v7 < 400) ∧ (0 ≤ v7 ∧ v7 < 8) ∧ rng ((16 * (σ (σ a0 32 0) 1 v7)) + (σ (σ a0 32 0) 2 v7)) ∧ ∀ σ8 : St, σ8 = st σ a0 30 v7 ((16 * (σ (σ a0 32 0) 1 v7)) + (σ (σ a0 32 0) 2 v7)) → rng (v7 + 1) ∧ (lp_X1_unlike_153 a0 x1 x2 Q σ0 n σ8 v6 (v7 + 1))
      else
      Q v6 σ)
def lp_X1_unlike_100 (a0 : Int) (x1 : Int) (x2 : Int) (Q : Int → St → Prop) (σ0 : St) : Nat → St → Int → Int → Int → Int → Prop
  | 0 => fun _ _ _ _ _ => False
  | n + 1 => fun σ v3 v4 v5 v6 => 
    Kp ws_X1_unlike σ0 σ → (if v6 ≤ x2 then
      wp_X3_begin σ (σ a0 9 0) (σ (σ a0 8 0) 0 0) (fun σ8 => Kp ws_X3_begin σ σ8 → wp_X3_begin σ8 (σ8 a0 10 0) v3 (fun σ18 => Kp ws_X3_begin σ8 σ18 → wg_X1_isUnlike 64 0 σ18 a0 v4 v5 v6 (fun r24 σ27 => Kp ws_X1_isUnlike σ18 σ27 → (if r24 = 0 then
        rng (v6 + 1) ∧ (lp_X1_unlike_100 a0 x1 x2 Q σ0 n σ27 v3 v4 v5 (v6 + 1))
        else
        ∀ σ36 : St, σ36 = st σ27 a0 31 0 v6 → (∃ kk, lp_X1_unlike_153 a0 x1 x2 Q σ0 kk σ36 v6 0)))))
      else
      Q 0 σ)
def wp_X1_unlike (σ : St) (a0 : Int) (x1 : Int) (x2 : Int) (Q : Int → St → Prop) : Prop :=
  wp_X1_isIn σ x1 0 1 (fun r1 => (if r1 = 0 then
    Q (-3) σ
    else
    (0 ≤ x1 ∧ x1 < 2) ∧ (if σ a0 35 x1 = -1 then
      Q (-3) σ
      else
      wp_X1_isIn σ x2 1 6 (fun r9 => (if r9 = 0 then
        Q (-3) σ
        else
        rng ((if σ (σ (σ a0 8 0) 0 0) 3 0 < σ (σ (σ a0 35 x1) 0 0) 3 0 then σ (σ (σ a0 35 x1) 0 0) 3 0 else σ (σ (σ a0 8 0) 0 0) 3 0) * (if σ (σ (σ a0 8 0) 0 0) 4 0 < σ (σ (σ a0 35 x1) 0 0) 4 0 then σ (σ (σ a0 35 x1) 0 0) 4 0 else σ (σ (σ a0 8 0) 0 0) 4 0)) ∧ wp_X1_isFar σ ((if σ (σ (σ a0 8 0) 0 0) 3 0 < σ (σ (σ a0 35 x1) 0 0) 3 0 then σ (σ (σ a0 35 x1) 0 0) 3 0 else σ (σ (σ a0 8 0) 0 0) 3 0) * (if σ (σ (σ a0 8 0) 0 0) 4 0 < σ (σ (σ a0 35 x1) 0 0) 4 0 then σ (σ (σ a0 35 x1) 0 0) 4 0 else σ (σ (σ a0 8 0) 0 0) 4 0)) x2 300000 (fun r20 => (if r20 = 0 then
          (∃ kk, lp_X1_unlike_100 a0 x1 x2 Q σ kk σ (σ (σ a0 35 x1) 0 0) (if σ (σ (σ a0 8 0) 0 0) 3 0 < σ (σ (σ a0 35 x1) 0 0) 3 0 then σ (σ (σ a0 35 x1) 0 0) 3 0 else σ (σ (σ a0 8 0) 0 0) 3 0) (if σ (σ (σ a0 8 0) 0 0) 4 0 < σ (σ (σ a0 35 x1) 0 0) 4 0 then σ (σ (σ a0 35 x1) 0 0) 4 0 else σ (σ (σ a0 8 0) 0 0) 4 0) 1)
          else
          Q (-2) σ)))))))
set_option maxHeartbeats 4000000 in
theorem wk_X1_unlike_153 {X : Cxt} {p : Program} {l : Launch} {e : Env} {s : State} {m : MethodId} {args : Array Value} {below : List Frame} {meth : Method} {c : Code} (a0 : Int) (x1 : Int) (x2 : Int) (Q : Int → St → Prop) (σ0 : St) (K : MCx X p s m args meth c cX1_unlike 8 "CombTable" (some .int)) (hx1 : rng x1) (hx2 : rng x2) : ∀ (n : Nat), ∀ (σ : St) (v6 : Int) (v7 : Int) (H : Heap) (locs : List Loc) (ls : Array Slot), lp_X1_unlike_153 a0 x1 x2 Q σ0 n σ v6 v7 → Wc X σ s.heap H locs → Kp ws_X1_unlike σ0 σ → tg σ a0 = 1 → rng v6 → rng v7 → lv_has ls 8 [(0, jR X a0), (6, jI v6), (7, jI v7)] → W p l e (zrm 68 0 0) s m args below meth c H locs 0 0 (MQT below (ZQ X (qI (fun r σ' => Kp ws_X1_unlike σ0 σ' ∧ Q r σ')) (fun _ _ => False)) args s 0 0 (zA X)) (F0 m 153 ls []) := by
  intro n
  induction n with
  | zero => intro σ v6 v7 H locs ls h; exact h.elim
  | succ n ih =>
    intro σ v6 v7 H locs ls h hw hk ht0 hv6 hv7 hl
    have h := h hk
    refine lv_iload (pc := 153) K.x K.b dX1_unlike_153 (lv_at hl 2 rfl) ?_
    refine lv_iload (pc := 155) K.x K.b dX1_unlike_155 (lv_at hl 1 rfl) ?_
    refine z_icmp_ge (pc := 157) (tgt := 197) K hv7 hv6 dX1_unlike_157 (by decide) (fun hc1 => ?_) (fun hc1 => ?_)
    · have h := ite_t h hc1
      refine z_aload_n (pc := 160) K dX1_unlike_160 rfl (lv_at hl 0 rfl) ?_
      refine z_get (pc := 161) (t := 1) (k := 30) K hw (ob ht0) zq1 (by decide) q548 (fun _ h => h) dX1_unlike_161 (zval_p (κ := 1) kf_1_30) ?_
      refine lv_iload (pc := 164) K.x K.b dX1_unlike_164 (lv_at hl 2 rfl) ?_
      refine z_bipush (pc := 166) K dX1_unlike_166 (by decide) ?_
      refine z_aload_n (pc := 168) K dX1_unlike_168 rfl (lv_at hl 0 rfl) ?_
      refine z_get (pc := 169) (t := 1) (k := 32) K hw (ob ht0) zq1 (by decide) q550 (fun _ h => h) dX1_unlike_169 (zval_r kf_1_32) ?_
      obtain ⟨hn3, h⟩ := h
      have hg2 : tg σ (σ a0 32 0) = 3 := okR_nn hn3 (by decide) (by decide) (z_ok (t := 1) (r := 3) hw ht0 ⟨by decide, by decide⟩ kf_1_32 kt_1_32)
      refine z_getN (pc := 172) (t := 3) (k := 1) K hw (ob hg2) zq3 (by decide) q306 (fun _ h => h) dX1_unlike_172 (zval_p (κ := 1) kf_3_1) ?_
      refine lv_iload (pc := 175) K.x K.b dX1_unlike_175 (lv_at hl 2 rfl) ?_
      obtain ⟨hj4, h⟩ := h
      refine z_iald (pc := 177) (t := 3) K hw hg2 ⟨by decide, by decide⟩ kf_3_1 kl_3_1 hj4 (by decide) dX1_unlike_177 ?_
      refine z_imul (pc := 178) K dX1_unlike_178 ?_
      refine z_aload_n (pc := 179) K dX1_unlike_179 rfl (lv_at hl 0 rfl) ?_
      refine z_get (pc := 180) (t := 1) (k := 32) K hw (ob ht0) zq1 (by decide) q550 (fun _ h => h) dX1_unlike_180 (zval_r kf_1_32) ?_
      refine z_getN (pc := 183) (t := 3) (k := 2) K hw (ob hg2) zq3 (by decide) q309 (fun _ h => h) dX1_unlike_183 (zval_p (κ := 1) kf_3_2) ?_
      refine lv_iload (pc := 186) K.x K.b dX1_unlike_186 (lv_at hl 2 rfl) ?_
      refine z_iald (pc := 188) (t := 3) K hw hg2 ⟨by decide, by decide⟩ kf_3_2 kl_3_2 hj4 (by decide) dX1_unlike_188 ?_
      refine z_iadd (pc := 189) K dX1_unlike_189 ?_
      obtain ⟨hj5, h⟩ := h
      obtain ⟨hr6, h⟩ := h
      refine z_iast (pc := 190) (t := 1) K hw ht0 ⟨by decide, by decide⟩ kf_1_30 kl_1_30 hj5 (by decide) hr6 dX1_unlike_190 (fun _ _ hw7 => ?_)
      obtain ⟨σ8, e9⟩ : ∃ z, z = st σ a0 30 v7 ((16 * (σ (σ a0 32 0) 1 v7)) + (σ (σ a0 32 0) 2 v7)) := ⟨_, rfl⟩
      have h := h σ8 e9
      have hw7 := wc_e e9 hw7
      have hk10 := kp_e e9 hk wo_X1_unlike hj5.1 ht0 (t := 1) (by decide)
      have hg11 : tg σ8 a0 = 1 := (tg_e e9 (by decide)).trans ht0
      refine z_iinc (pc := 191) (k := 2) (lv' := [(7, jI (v7 + 1)), (0, jR X a0), (6, jI v6)]) K dX1_unlike_191 hl rfl (by decide) rfl (fun ls hl => ?_)
      refine z_goto (pc := 194) (tgt := 153) K dX1_unlike_194 (by decide) ?_
      obtain ⟨hr12, h⟩ := h
      exact ih σ8 v6 (v7 + 1) _ _ _ h hw7 hk10 hg11 hv6 hr12 (lv_sub hl [1, 2, 0] rfl)
    · have h := ite_f h hc1
      refine lv_iload (pc := 197) K.x K.b dX1_unlike_197 (lv_at hl 1 rfl) ?_
      exact z_iret (pc := 199) K hw hv6 ⟨hk, h⟩ dX1_unlike_199
set_option maxHeartbeats 4000000 in
theorem wk_X1_unlike_100 {X : Cxt} {p : Program} {l : Launch} {e : Env} {s : State} {m : MethodId} {args : Array Value} {below : List Frame} {meth : Method} {c : Code} (a0 : Int) (x1 : Int) (x2 : Int) (Q : Int → St → Prop) (σ0 : St) (K : MCx X p s m args meth c cX1_unlike 8 "CombTable" (some .int)) (hx1 : rng x1) (hx2 : rng x2) : ∀ (n : Nat), ∀ (σ : St) (v3 : Int) (v4 : Int) (v5 : Int) (v6 : Int) (H : Heap) (locs : List Loc) (ls : Array Slot), lp_X1_unlike_100 a0 x1 x2 Q σ0 n σ v3 v4 v5 v6 → Wc X σ s.heap H locs → Kp ws_X1_unlike σ0 σ → tg σ a0 = 1 → tg σ v3 = 4 → rng v4 → rng v5 → rng v6 → lv_has ls 8 [(0, jR X a0), (2, jI x2), (3, jR X v3), (4, jI v4), (5, jI v5), (6, jI v6)] → W p l e (zrm 68 0 0) s m args below meth c H locs 0 0 (MQT below (ZQ X (qI (fun r σ' => Kp ws_X1_unlike σ0 σ' ∧ Q r σ')) (fun _ _ => False)) args s 0 0 (zA X)) (F0 m 100 ls []) := by
  intro n
  induction n with
  | zero => intro σ v3 v4 v5 v6 H locs ls h; exact h.elim
  | succ n ih =>
    intro σ v3 v4 v5 v6 H locs ls h hw hk ht0 htv3 hv4 hv5 hv6 hl
    have h := h hk
    refine lv_iload (pc := 100) K.x K.b dX1_unlike_100 (lv_at hl 5 rfl) ?_
    refine lv_iload_n (pc := 102) K.x K.b dX1_unlike_102 rfl (lv_at hl 1 rfl) ?_
    refine z_icmp_gt (pc := 103) (tgt := 206) K hv6 hx2 dX1_unlike_103 (by decide) (fun hc1 => ?_) (fun hc1 => ?_)
    · have h := ite_t h hc1
      refine z_aload_n (pc := 106) K dX1_unlike_106 rfl (lv_at hl 0 rfl) ?_
      refine z_get (pc := 107) (t := 1) (k := 9) K hw (ob ht0) zq1 (by decide) q527 (fun _ h => h) dX1_unlike_107 (zval_r kf_1_9) ?_
      refine z_aload_n (pc := 110) K dX1_unlike_110 rfl (lv_at hl 0 rfl) ?_
      refine z_get (pc := 111) (t := 1) (k := 8) K hw (ob ht0) zq1 (by decide) q524 (fun _ h => h) dX1_unlike_111 (zval_r kf_1_8) ?_
      have hg2 : tg σ (σ a0 8 0) = 3 := (z_tg (t := 1) (r := 3) hw ht0 ⟨by decide, by decide⟩ kf_1_8 kn_1_8 kt_1_8 (by decide) (by decide))
      refine z_getN (pc := 114) (t := 3) (k := 0) K hw (ob hg2) zq3 (by decide) q303 (fun _ h => h) dX1_unlike_114 (zval_r kf_3_0) ?_
      have hg3 : tg σ (σ a0 9 0) = 3 := (z_tg (t := 1) (r := 3) hw ht0 ⟨by decide, by decide⟩ kf_1_9 kn_1_9 kt_1_9 (by decide) (by decide))
      have hg4 : tg σ (σ (σ a0 8 0) 0 0) = 4 := (z_tg (t := 3) (r := 4) hw hg2 ⟨by decide, by decide⟩ kf_3_0 kn_3_0 kt_3_0 (by decide) (by decide))
      refine zc_v (pc := 117) (maxL := 2) K hw (met_X3_begin X l σ (σ a0 9 0) (σ (σ a0 8 0) 0 0) hg3 hg4 _ h) (i_V (n := 1) (t := 3) (As := [jR X (σ (σ a0 8 0) 0 0)]) K hw (ob hg3) zq3 (by decide) q886 q887 q888 (sg_of K q889) rfl rfl dX1_unlike_117) (locw K q889 q94) ⟨by decide, by decide⟩ hl.1 dX1_unlike_117 (Nat.le_of_ble_eq_true rfl) ⟨Nat.le_refl _, Nat.le_refl _⟩ (fun σ8 _ _ hq7 hw9 => ?_)
      obtain ⟨hk10, h⟩ := hq7
      have h := h hk10
      have hk11 := kp_trans wo_X1_unlike hk hk10 (fun _ q => q) (by decide)
      have hg12 : tg σ8 a0 = 1 := kp_tg hk10 wo_X3_begin ht0 (by decide)
      have hg13 : tg σ8 v3 = 4 := kp_tg hk10 wo_X3_begin htv3 (by decide)
      refine z_aload_n (pc := 120) K dX1_unlike_120 rfl (lv_at hl 0 rfl) ?_
      refine z_get (pc := 121) (t := 1) (k := 10) K hw9 (ob hg12) zq1 (by decide) q528 (fun _ h => h) dX1_unlike_121 (zval_r kf_1_10) ?_
      refine z_aload_n (pc := 124) K dX1_unlike_124 rfl (lv_at hl 2 rfl) ?_
      have hg14 : tg σ8 (σ8 a0 10 0) = 3 := (z_tg (t := 1) (r := 3) hw9 hg12 ⟨by decide, by decide⟩ kf_1_10 kn_1_10 kt_1_10 (by decide) (by decide))
      refine zc_v (pc := 125) (maxL := 2) K hw9 (met_X3_begin X l σ8 (σ8 a0 10 0) v3 hg14 hg13 _ h) (i_V (n := 1) (t := 3) (As := [jR X v3]) K hw9 (ob hg14) zq3 (by decide) q886 q887 q888 (sg_of K q889) rfl rfl dX1_unlike_125) (locw K q889 q94) ⟨by decide, by decide⟩ hl.1 dX1_unlike_125 (Nat.le_of_ble_eq_true rfl) ⟨Nat.le_refl _, Nat.le_refl _⟩ (fun σ18 _ _ hq17 hw19 => ?_)
      obtain ⟨hk20, h⟩ := hq17
      have h := h hk20
      have hk21 := kp_trans wo_X1_unlike hk11 hk20 (fun _ q => q) (by decide)
      have hg22 : tg σ18 a0 = 1 := kp_tg hk20 wo_X3_begin hg12 (by decide)
      have hg23 : tg σ18 v3 = 4 := kp_tg hk20 wo_X3_begin hg13 (by decide)
      refine z_aload_n (pc := 128) K dX1_unlike_128 rfl (lv_at hl 0 rfl) ?_
      refine lv_iload (pc := 129) K.x K.b dX1_unlike_129 (lv_at hl 3 rfl) ?_
      refine lv_iload (pc := 131) K.x K.b dX1_unlike_131 (lv_at hl 4 rfl) ?_
      refine lv_iload (pc := 133) K.x K.b dX1_unlike_133 (lv_at hl 5 rfl) ?_
      refine zc_z (pc := 135) (maxL := 8) K hw19 (met_X1_isUnlike X l 64 σ18 a0 v4 v5 v6 hg22 hv4 hv5 hv6 _ h) (i_V (n := 3) (t := 1) (As := [jI v4, jI v5, jI v6]) K hw19 (ob hg22) zq1 (by decide) q1201 q1203 qs22 (sg_of K q1204) rfl rfl dX1_unlike_135) (locw K q1204 q90) ⟨by decide, by decide⟩ hl.1 dX1_unlike_135 (Nat.le_of_ble_eq_true rfl) ⟨Nat.le_refl _, Nat.le_refl _⟩ (fun r24 σ27 _ _ hr25 hq26 hw28 => ?_)
      obtain ⟨hk29, h⟩ := hq26
      have h := h hk29
      have hk30 := kp_trans wo_X1_unlike hk21 hk29 (fun _ q => q) (by decide)
      have hg31 : tg σ27 a0 = 1 := kp_tg hk29 wo_X1_isUnlike hg22 (by decide)
      have hg32 : tg σ27 v3 = 4 := kp_tg hk29 wo_X1_isUnlike hg23 (by decide)
      refine z_if_ne (pc := 138) (tgt := 144) K (b01r hr25) dX1_unlike_138 (by decide) (fun hc33 => ?_) (fun hc33 => ?_)
      · have h := ite_t h hc33
        refine z_goto (pc := 141) (tgt := 200) K dX1_unlike_141 (by decide) ?_
        refine z_iinc (pc := 200) (k := 5) (lv' := [(6, jI (v6 + 1)), (0, jR X a0), (2, jI x2), (3, jR X v3), (4, jI v4), (5, jI v5)]) K dX1_unlike_200 hl rfl (by decide) rfl (fun ls hl => ?_)
        refine z_goto (pc := 203) (tgt := 100) K dX1_unlike_203 (by decide) ?_
        obtain ⟨hr34, h⟩ := h
        exact ih σ27 v3 v4 v5 (v6 + 1) _ _ _ h hw28 hk30 hg31 hg32 hv4 hv5 hr34 (lv_sub hl [1, 2, 3, 4, 5, 0] rfl)
      · have h := ite_f h hc33
        refine z_aload_n (pc := 144) K dX1_unlike_144 rfl (lv_at hl 0 rfl) ?_
        refine lv_iload (pc := 145) K.x K.b dX1_unlike_145 (lv_at hl 5 rfl) ?_
        refine z_puti (pc := 147) (t := 1) 31 K hw28 (ob hg31) zq1 (by decide) kf_1_31 zt_1_31 hv6 q549 (fun _ h => h) rfl dX1_unlike_147 (fun _ _ hw35 => ?_)
        obtain ⟨σ36, e37⟩ : ∃ z, z = st σ27 a0 31 0 v6 := ⟨_, rfl⟩
        have h := h σ36 e37
        have hw35 := wc_e e37 hw35
        have hk38 := kp_e e37 hk30 wo_X1_unlike (by decide) hg31 (t := 1) (by decide)
        have hg39 : tg σ36 a0 = 1 := (tg_e e37 (by decide)).trans hg31
        have hg40 : tg σ36 v3 = 4 := (tg_e e37 (by decide)).trans hg32
        refine z_iconst (pc := 150) K dX1_unlike_150 ?_
        refine lv_istore (pc := 151) (lv' := [(7, jI 0), (0, jR X a0), (2, jI x2), (3, jR X v3), (4, jI v4), (5, jI v5), (6, jI v6)]) K.x K.b dX1_unlike_151 hl (by decide) rfl (fun ls hl => ?_)
        obtain ⟨n41, h⟩ := h
        exact wk_X1_unlike_153 a0 x1 x2 Q σ0 K hx1 hx2 n41 σ36 v6 0 _ _ _ h hw35 hk38 hg39 hv6 ⟨by decide, by decide⟩ (lv_sub hl [1, 6, 0] rfl)
    · have h := ite_f h hc1
      refine z_iconst (pc := 206) K dX1_unlike_206 ?_
      exact z_iret (pc := 207) K hw ⟨by decide, by decide⟩ ⟨hk, h⟩ dX1_unlike_207
set_option maxHeartbeats 4000000 in
theorem met_X1_unlike (X : Cxt) (l : Launch) (σ : St) (a0 : Int) (x1 : Int) (x2 : Int) (ht0 : tg σ a0 = 1) (hx1 : rng x1) (hx2 : rng x2) (Q : Int → St → Prop) (h : wp_X1_unlike σ a0 x1 x2 Q) : MetT l yX1_unlike (ws_ yX1_unlike cX1_unlike 8 (some .int)) (zrm 68 0 0) (ZP X σ [jR X a0, jI x1, jI x2]) (ZQ X (qI (fun r σ' => Kp ws_X1_unlike σ σ' ∧ Q r σ')) (fun _ _ => False)) 0 0 (zA X) := by
  refine z_start (own := "CombTable") (lv := [(0, jR X a0), (1, jI x1), (2, jI x2)]) (by decide) rfl (by simp [lv_args, jR_cat, jI_cat, jL_cat]) (by simp [lg_sl, jR_cat, jI_cat, jL_cat]) (fun p e s m below meth c ls K _ _ hw hl => ?_)
  have hk : Kp ws_X1_unlike σ σ := kp_rf σ
  refine lv_iload_n (pc := 0) K.x K.b dX1_unlike_0 rfl (lv_at hl 1 rfl) ?_
  refine z_iconst (pc := 1) K dX1_unlike_1 ?_
  refine z_iconst (pc := 2) K dX1_unlike_2 ?_
  refine zr_z (pc := 3) (maxL := 3) K hw (met_X1_isIn X l σ x1 0 1 hx1 ⟨by decide, by decide⟩ ⟨by decide, by decide⟩ _ h) (i_S (n := 3) (As := [jI x1, jI 0, jI 1]) K (by decide) q1010 q682 q90 (sg_of K q683) rfl rfl dX1_unlike_3) (locw K q683 q90) ⟨by decide, by decide⟩ hl.1 dX1_unlike_3 (Nat.le_of_ble_eq_true rfl) ⟨Nat.le_refl _, Nat.le_refl _⟩ (fun r1 _ _ hr2 h hw5 => ?_)
  refine z_if_eq (pc := 6) (tgt := 28) K (b01r hr2) dX1_unlike_6 (by decide) (fun hc6 => ?_) (fun hc6 => ?_)
  · have h := ite_t h hc6
    refine z_bipush (pc := 28) K dX1_unlike_28 (by decide) ?_
    exact z_iret (pc := 30) K hw5 ⟨by decide, by decide⟩ ⟨hk, h⟩ dX1_unlike_30
  · have h := ite_f h hc6
    refine z_aload_n (pc := 9) K dX1_unlike_9 rfl (lv_at hl 0 rfl) ?_
    refine z_get (pc := 10) (t := 1) (k := 35) K hw5 (ob ht0) zq1 (by decide) q553 (fun _ h => h) dX1_unlike_10 (zval_p (κ := 7) kf_1_35) ?_
    refine lv_iload_n (pc := 13) K.x K.b dX1_unlike_13 rfl (lv_at hl 1 rfl) ?_
    obtain ⟨hj7, h⟩ := h
    refine z_aald (pc := 14) (t := 1) (κ := 7) K hw5 ht0 ⟨by decide, by decide⟩ kf_1_35 ⟨by decide, by decide⟩ kl_1_35 hj7 (by decide) dX1_unlike_14 ?_
    refine z_ifnull (pc := 15) (tgt := 28) K dX1_unlike_15 (by decide) (fun hc8 => ?_) (fun hc8 => ?_)
    · have h := ite_t h hc8
      refine z_bipush (pc := 28) K dX1_unlike_28 (by decide) ?_
      exact z_iret (pc := 30) K hw5 ⟨by decide, by decide⟩ ⟨hk, h⟩ dX1_unlike_30
    · have h := ite_f h hc8
      refine lv_iload_n (pc := 18) K.x K.b dX1_unlike_18 rfl (lv_at hl 2 rfl) ?_
      refine z_iconst (pc := 19) K dX1_unlike_19 ?_
      refine z_bipush (pc := 20) K dX1_unlike_20 (by decide) ?_
      refine zr_z (pc := 22) (maxL := 3) K hw5 (met_X1_isIn X l σ x2 1 6 hx2 ⟨by decide, by decide⟩ ⟨by decide, by decide⟩ _ h) (i_S (n := 3) (As := [jI x2, jI 1, jI 6]) K (by decide) q1010 q682 q90 (sg_of K q683) rfl rfl dX1_unlike_22) (locw K q683 q90) ⟨by decide, by decide⟩ hl.1 dX1_unlike_22 (Nat.le_of_ble_eq_true rfl) ⟨Nat.le_refl _, Nat.le_refl _⟩ (fun r9 _ _ hr10 h hw13 => ?_)
      refine z_if_ne (pc := 25) (tgt := 31) K (b01r hr10) dX1_unlike_25 (by decide) (fun hc14 => ?_) (fun hc14 => ?_)
      · have h := ite_t h hc14
        refine z_bipush (pc := 28) K dX1_unlike_28 (by decide) ?_
        exact z_iret (pc := 30) K hw13 ⟨by decide, by decide⟩ ⟨hk, h⟩ dX1_unlike_30
      · have h := ite_f h hc14
        refine z_aload_n (pc := 31) K dX1_unlike_31 rfl (lv_at hl 0 rfl) ?_
        refine z_get (pc := 32) (t := 1) (k := 35) K hw13 (ob ht0) zq1 (by decide) q553 (fun _ h => h) dX1_unlike_32 (zval_p (κ := 7) kf_1_35) ?_
        refine lv_iload_n (pc := 35) K.x K.b dX1_unlike_35 rfl (lv_at hl 1 rfl) ?_
        refine z_aald (pc := 36) (t := 1) (κ := 7) K hw13 ht0 ⟨by decide, by decide⟩ kf_1_35 ⟨by decide, by decide⟩ kl_1_35 hj7 (by decide) dX1_unlike_36 ?_
        have hg15 : tg σ (σ a0 35 x1) = 3 := okR_nn hc8 (by decide) (by decide) (z_el (t := 1) (κ := 7) (r := 3) hw13 ht0 ⟨by decide, by decide⟩ kf_1_35 (by decide) kt_1_35 kl_1_35 hj7)
        refine z_getN (pc := 37) (t := 3) (k := 0) K hw13 (ob hg15) zq3 (by decide) q303 (fun _ h => h) dX1_unlike_37 (zval_r kf_3_0) ?_
        refine z_astore_n (pc := 40) (lv' := [(3, jR X (σ (σ a0 35 x1) 0 0)), (0, jR X a0), (1, jI x1), (2, jI x2)]) K dX1_unlike_40 rfl hl (by decide) rfl (fun ls hl => ?_)
        refine z_aload_n (pc := 41) K dX1_unlike_41 rfl (lv_at hl 1 rfl) ?_
        refine z_get (pc := 42) (t := 1) (k := 8) K hw13 (ob ht0) zq1 (by decide) q524 (fun _ h => h) dX1_unlike_42 (zval_r kf_1_8) ?_
        have hg16 : tg σ (σ a0 8 0) = 3 := (z_tg (t := 1) (r := 3) hw13 ht0 ⟨by decide, by decide⟩ kf_1_8 kn_1_8 kt_1_8 (by decide) (by decide))
        refine z_getN (pc := 45) (t := 3) (k := 0) K hw13 (ob hg16) zq3 (by decide) q303 (fun _ h => h) dX1_unlike_45 (zval_r kf_3_0) ?_
        have hg17 : tg σ (σ (σ a0 8 0) 0 0) = 4 := (z_tg (t := 3) (r := 4) hw13 hg16 ⟨by decide, by decide⟩ kf_3_0 kn_3_0 kt_3_0 (by decide) (by decide))
        refine z_getN (pc := 48) (t := 4) (k := 3) K hw13 (ob hg17) zq4 (by decide) q261 (fun _ h => h) dX1_unlike_48 (zval_i kf_4_3) ?_
        refine z_aload_n (pc := 51) K dX1_unlike_51 rfl (lv_at hl 0 rfl) ?_
        have hg18 : tg σ (σ (σ a0 35 x1) 0 0) = 4 := (z_tg (t := 3) (r := 4) hw13 hg15 ⟨by decide, by decide⟩ kf_3_0 kn_3_0 kt_3_0 (by decide) (by decide))
        refine z_getN (pc := 52) (t := 4) (k := 3) K hw13 (ob hg18) zq4 (by decide) q261 (fun _ h => h) dX1_unlike_52 (zval_i kf_4_3) ?_
        refine z_mmax (pc := 55) K (z_rI hw13 (ob (t := 4) hg17) kf_4_3) (z_rI hw13 (ob (t := 4) hg18) kf_4_3) q1078 q1079 q113 q1080 ⟨by decide, by decide⟩ ⟨Nat.le_refl _, Nat.le_refl _⟩ hl.1 (Nat.le_of_ble_eq_true rfl) dX1_unlike_55 ?_
        refine lv_istore (pc := 58) (lv' := [(4, jI (if σ (σ (σ a0 8 0) 0 0) 3 0 < σ (σ (σ a0 35 x1) 0 0) 3 0 then σ (σ (σ a0 35 x1) 0 0) 3 0 else σ (σ (σ a0 8 0) 0 0) 3 0)), (3, jR X (σ (σ a0 35 x1) 0 0)), (0, jR X a0), (1, jI x1), (2, jI x2)]) K.x K.b dX1_unlike_58 hl (by decide) (by simp [jR_cat]) (fun ls hl => ?_)
        refine z_aload_n (pc := 60) K dX1_unlike_60 rfl (lv_at hl 2 rfl) ?_
        refine z_get (pc := 61) (t := 1) (k := 8) K hw13 (ob ht0) zq1 (by decide) q524 (fun _ h => h) dX1_unlike_61 (zval_r kf_1_8) ?_
        refine z_getN (pc := 64) (t := 3) (k := 0) K hw13 (ob hg16) zq3 (by decide) q303 (fun _ h => h) dX1_unlike_64 (zval_r kf_3_0) ?_
        refine z_getN (pc := 67) (t := 4) (k := 4) K hw13 (ob hg17) zq4 (by decide) q267 (fun _ h => h) dX1_unlike_67 (zval_i kf_4_4) ?_
        refine z_aload_n (pc := 70) K dX1_unlike_70 rfl (lv_at hl 1 rfl) ?_
        refine z_getN (pc := 71) (t := 4) (k := 4) K hw13 (ob hg18) zq4 (by decide) q267 (fun _ h => h) dX1_unlike_71 (zval_i kf_4_4) ?_
        refine z_mmax (pc := 74) K (z_rI hw13 (ob (t := 4) hg17) kf_4_4) (z_rI hw13 (ob (t := 4) hg18) kf_4_4) q1078 q1079 q113 q1080 ⟨by decide, by decide⟩ ⟨Nat.le_refl _, Nat.le_refl _⟩ hl.1 (Nat.le_of_ble_eq_true rfl) dX1_unlike_74 ?_
        refine lv_istore (pc := 77) (lv' := [(5, jI (if σ (σ (σ a0 8 0) 0 0) 4 0 < σ (σ (σ a0 35 x1) 0 0) 4 0 then σ (σ (σ a0 35 x1) 0 0) 4 0 else σ (σ (σ a0 8 0) 0 0) 4 0)), (4, jI (if σ (σ (σ a0 8 0) 0 0) 3 0 < σ (σ (σ a0 35 x1) 0 0) 3 0 then σ (σ (σ a0 35 x1) 0 0) 3 0 else σ (σ (σ a0 8 0) 0 0) 3 0)), (3, jR X (σ (σ a0 35 x1) 0 0)), (0, jR X a0), (1, jI x1), (2, jI x2)]) K.x K.b dX1_unlike_77 hl (by decide) rfl (fun ls hl => ?_)
        refine lv_iload (pc := 79) K.x K.b dX1_unlike_79 (lv_at hl 1 rfl) ?_
        refine lv_iload (pc := 81) K.x K.b dX1_unlike_81 (lv_at hl 0 rfl) ?_
        refine z_imul (pc := 83) K dX1_unlike_83 ?_
        refine lv_iload_n (pc := 84) K.x K.b dX1_unlike_84 rfl (lv_at hl 5 rfl) ?_
        refine z_ldcw (pc := 85) (z := 300000) K q1169 (by decide) dX1_unlike_85 ?_
        obtain ⟨hr19, h⟩ := h
        refine zr_z (pc := 88) (maxL := 6) K hw13 (met_X1_isFar X l σ ((if σ (σ (σ a0 8 0) 0 0) 3 0 < σ (σ (σ a0 35 x1) 0 0) 3 0 then σ (σ (σ a0 35 x1) 0 0) 3 0 else σ (σ (σ a0 8 0) 0 0) 3 0) * (if σ (σ (σ a0 8 0) 0 0) 4 0 < σ (σ (σ a0 35 x1) 0 0) 4 0 then σ (σ (σ a0 35 x1) 0 0) 4 0 else σ (σ (σ a0 8 0) 0 0) 4 0)) x2 300000 hr19 hx2 ⟨by decide, by decide⟩ _ h) (i_S (n := 3) (As := [jI ((if σ (σ (σ a0 8 0) 0 0) 3 0 < σ (σ (σ a0 35 x1) 0 0) 3 0 then σ (σ (σ a0 35 x1) 0 0) 3 0 else σ (σ (σ a0 8 0) 0 0) 3 0) * (if σ (σ (σ a0 8 0) 0 0) 4 0 < σ (σ (σ a0 35 x1) 0 0) 4 0 then σ (σ (σ a0 35 x1) 0 0) 4 0 else σ (σ (σ a0 8 0) 0 0) 4 0)), jI x2, jI 300000]) K (by decide) q1170 q1171 q90 (sg_of K q1172) rfl rfl dX1_unlike_88) (locw K q1172 q90) ⟨by decide, by decide⟩ hl.1 dX1_unlike_88 (Nat.le_of_ble_eq_true rfl) ⟨Nat.le_refl _, Nat.le_refl _⟩ (fun r20 _ _ hr21 h hw24 => ?_)
        refine z_if_eq (pc := 91) (tgt := 97) K (b01r hr21) dX1_unlike_91 (by decide) (fun hc25 => ?_) (fun hc25 => ?_)
        · have h := ite_t h hc25
          refine z_iconst (pc := 97) K dX1_unlike_97 ?_
          refine lv_istore (pc := 98) (lv' := [(6, jI 1), (5, jI (if σ (σ (σ a0 8 0) 0 0) 4 0 < σ (σ (σ a0 35 x1) 0 0) 4 0 then σ (σ (σ a0 35 x1) 0 0) 4 0 else σ (σ (σ a0 8 0) 0 0) 4 0)), (4, jI (if σ (σ (σ a0 8 0) 0 0) 3 0 < σ (σ (σ a0 35 x1) 0 0) 3 0 then σ (σ (σ a0 35 x1) 0 0) 3 0 else σ (σ (σ a0 8 0) 0 0) 3 0)), (3, jR X (σ (σ a0 35 x1) 0 0)), (0, jR X a0), (1, jI x1), (2, jI x2)]) K.x K.b dX1_unlike_98 hl (by decide) rfl (fun ls hl => ?_)
          obtain ⟨n26, h⟩ := h
          exact wk_X1_unlike_100 a0 x1 x2 Q σ K hx1 hx2 n26 σ (σ (σ a0 35 x1) 0 0) (if σ (σ (σ a0 8 0) 0 0) 3 0 < σ (σ (σ a0 35 x1) 0 0) 3 0 then σ (σ (σ a0 35 x1) 0 0) 3 0 else σ (σ (σ a0 8 0) 0 0) 3 0) (if σ (σ (σ a0 8 0) 0 0) 4 0 < σ (σ (σ a0 35 x1) 0 0) 4 0 then σ (σ (σ a0 35 x1) 0 0) 4 0 else σ (σ (σ a0 8 0) 0 0) 4 0) 1 _ _ _ h hw24 hk ht0 hg18 (rng_if (z_rI hw13 (ob (t := 4) hg18) kf_4_3) (z_rI hw13 (ob (t := 4) hg17) kf_4_3)) (rng_if (z_rI hw13 (ob (t := 4) hg18) kf_4_4) (z_rI hw13 (ob (t := 4) hg17) kf_4_4)) ⟨by decide, by decide⟩ (lv_sub hl [4, 6, 3, 2, 1, 0] rfl)
        · have h := ite_f h hc25
          refine z_bipush (pc := 94) K dX1_unlike_94 (by decide) ?_
          exact z_iret (pc := 96) K hw24 ⟨by decide, by decide⟩ ⟨hk, h⟩ dX1_unlike_96
def ws_X5_change : List (Int × Nat) := [(5, 0), (5, 1)]
theorem wo_X5_change : wsOk ws_X5_change = true := rfl
def wp_X5_change (σ : St) (a0 : Int) (x1 : Int) (Q : St → Prop) : Prop :=
  (0 ≤ x1 ∧ x1 < 24) ∧ (0 ≤ x1 + 1 ∧ x1 + 1 < 24) ∧ ∀ σ4 : St, σ4 = st σ a0 0 x1 (σ a0 0 (x1 + 1)) → ∀ σ9 : St, σ9 = st σ4 a0 0 (x1 + 1) (σ a0 0 x1) → ∀ σ14 : St, σ14 = st σ9 a0 1 x1 (σ9 a0 1 (x1 + 1)) → ∀ σ19 : St, σ19 = st σ14 a0 1 (x1 + 1) (σ9 a0 1 x1) → Q σ19
set_option maxHeartbeats 4000000 in
theorem met_X5_change (X : Cxt) (l : Launch) (σ : St) (a0 : Int) (x1 : Int) (ht0 : tg σ a0 = 5) (hx1 : rng x1) (Q : St → Prop) (h : wp_X5_change σ a0 x1 Q) : MetT l yX5_change (ws_ yX5_change cX5_change 4 (none)) (zrm 1 0 0) (ZP X σ [jR X a0, jI x1]) (ZQ X (qV (fun σ' => Kp ws_X5_change σ σ' ∧ Q σ')) (fun _ _ => False)) 0 0 (zA X) := by
  refine z_start (own := "CombTable$Minutes") (lv := [(0, jR X a0), (1, jI x1)]) (by decide) rfl (by simp [lv_args, jR_cat, jI_cat, jL_cat]) (by simp [lg_sl, jR_cat, jI_cat, jL_cat]) (fun p e s m below meth c ls K _ _ hw hl => ?_)
  have hk : Kp ws_X5_change σ σ := kp_rf σ
  refine z_aload_n (pc := 0) K dX5_change_0 rfl (lv_at hl 0 rfl) ?_
  refine z_get (pc := 1) (t := 5) (k := 0) K hw (ob ht0) zq5 (by decide) q353 (fun _ h => h) dX5_change_1 (zval_p (κ := 1) kf_5_0) ?_
  refine lv_iload_n (pc := 4) K.x K.b dX5_change_4 rfl (lv_at hl 1 rfl) ?_
  obtain ⟨hj1, h⟩ := h
  refine z_iald (pc := 5) (t := 5) K hw ht0 ⟨by decide, by decide⟩ kf_5_0 kl_5_0 hj1 (by decide) dX5_change_5 ?_
  refine lv_istore_n (pc := 6) (lv' := [(2, jI (σ a0 0 x1)), (0, jR X a0), (1, jI x1)]) K.x K.b dX5_change_6 rfl hl (by decide) rfl (fun ls hl => ?_)
  refine z_aload_n (pc := 7) K dX5_change_7 rfl (lv_at hl 1 rfl) ?_
  refine z_get (pc := 8) (t := 5) (k := 0) K hw (ob ht0) zq5 (by decide) q353 (fun _ h => h) dX5_change_8 (zval_p (κ := 1) kf_5_0) ?_
  refine lv_iload_n (pc := 11) K.x K.b dX5_change_11 rfl (lv_at hl 2 rfl) ?_
  refine z_aload_n (pc := 12) K dX5_change_12 rfl (lv_at hl 1 rfl) ?_
  refine z_get (pc := 13) (t := 5) (k := 0) K hw (ob ht0) zq5 (by decide) q353 (fun _ h => h) dX5_change_13 (zval_p (κ := 1) kf_5_0) ?_
  refine lv_iload_n (pc := 16) K.x K.b dX5_change_16 rfl (lv_at hl 2 rfl) ?_
  refine z_iconst (pc := 17) K dX5_change_17 ?_
  refine z_iadd (pc := 18) K dX5_change_18 ?_
  obtain ⟨hj2, h⟩ := h
  refine z_iald (pc := 19) (t := 5) K hw ht0 ⟨by decide, by decide⟩ kf_5_0 kl_5_0 hj2 (by decide) dX5_change_19 ?_
  refine z_iast (pc := 20) (t := 5) K hw ht0 ⟨by decide, by decide⟩ kf_5_0 kl_5_0 hj1 (by decide) (z_elI (t := 5) hw ht0 ⟨by decide, by decide⟩ kf_5_0 kl_5_0 hj2) dX5_change_20 (fun _ _ hw3 => ?_)
  obtain ⟨σ4, e5⟩ : ∃ z, z = st σ a0 0 x1 (σ a0 0 (x1 + 1)) := ⟨_, rfl⟩
  have h := h σ4 e5
  have hw3 := wc_e e5 hw3
  have hk6 := kp_e e5 hk wo_X5_change hj1.1 ht0 (t := 5) (by decide)
  have hg7 : tg σ4 a0 = 5 := (tg_e e5 (by decide)).trans ht0
  refine z_aload_n (pc := 21) K dX5_change_21 rfl (lv_at hl 1 rfl) ?_
  refine z_get (pc := 22) (t := 5) (k := 0) K hw3 (ob hg7) zq5 (by decide) q353 (fun _ h => h) dX5_change_22 (zval_p (κ := 1) kf_5_0) ?_
  refine lv_iload_n (pc := 25) K.x K.b dX5_change_25 rfl (lv_at hl 2 rfl) ?_
  refine z_iconst (pc := 26) K dX5_change_26 ?_
  refine z_iadd (pc := 27) K dX5_change_27 ?_
  refine lv_iload_n (pc := 28) K.x K.b dX5_change_28 rfl (lv_at hl 0 rfl) ?_
  refine z_iast (pc := 29) (t := 5) K hw3 hg7 ⟨by decide, by decide⟩ kf_5_0 kl_5_0 hj2 (by decide) (z_elI (t := 5) hw ht0 ⟨by decide, by decide⟩ kf_5_0 kl_5_0 hj1) dX5_change_29 (fun _ _ hw8 => ?_)
  obtain ⟨σ9, e10⟩ : ∃ z, z = st σ4 a0 0 (x1 + 1) (σ a0 0 x1) := ⟨_, rfl⟩
  have h := h σ9 e10
  have hw8 := wc_e e10 hw8
  have hk11 := kp_e e10 hk6 wo_X5_change hj2.1 hg7 (t := 5) (by decide)
  have hg12 : tg σ9 a0 = 5 := (tg_e e10 (by decide)).trans hg7
  refine z_aload_n (pc := 30) K dX5_change_30 rfl (lv_at hl 1 rfl) ?_
  refine z_get (pc := 31) (t := 5) (k := 1) K hw8 (ob hg12) zq5 (by decide) q356 (fun _ h => h) dX5_change_31 (zval_p (κ := 1) kf_5_1) ?_
  refine lv_iload_n (pc := 34) K.x K.b dX5_change_34 rfl (lv_at hl 2 rfl) ?_
  refine z_iald (pc := 35) (t := 5) K hw8 hg12 ⟨by decide, by decide⟩ kf_5_1 kl_5_1 hj1 (by decide) dX5_change_35 ?_
  refine lv_istore_n (pc := 36) (lv' := [(3, jI (σ9 a0 1 x1)), (2, jI (σ a0 0 x1)), (0, jR X a0), (1, jI x1)]) K.x K.b dX5_change_36 rfl hl (by decide) rfl (fun ls hl => ?_)
  refine z_aload_n (pc := 37) K dX5_change_37 rfl (lv_at hl 2 rfl) ?_
  refine z_get (pc := 38) (t := 5) (k := 1) K hw8 (ob hg12) zq5 (by decide) q356 (fun _ h => h) dX5_change_38 (zval_p (κ := 1) kf_5_1) ?_
  refine lv_iload_n (pc := 41) K.x K.b dX5_change_41 rfl (lv_at hl 3 rfl) ?_
  refine z_aload_n (pc := 42) K dX5_change_42 rfl (lv_at hl 2 rfl) ?_
  refine z_get (pc := 43) (t := 5) (k := 1) K hw8 (ob hg12) zq5 (by decide) q356 (fun _ h => h) dX5_change_43 (zval_p (κ := 1) kf_5_1) ?_
  refine lv_iload_n (pc := 46) K.x K.b dX5_change_46 rfl (lv_at hl 3 rfl) ?_
  refine z_iconst (pc := 47) K dX5_change_47 ?_
  refine z_iadd (pc := 48) K dX5_change_48 ?_
  refine z_iald (pc := 49) (t := 5) K hw8 hg12 ⟨by decide, by decide⟩ kf_5_1 kl_5_1 hj2 (by decide) dX5_change_49 ?_
  refine z_iast (pc := 50) (t := 5) K hw8 hg12 ⟨by decide, by decide⟩ kf_5_1 kl_5_1 hj1 (by decide) (z_elI (t := 5) hw8 hg12 ⟨by decide, by decide⟩ kf_5_1 kl_5_1 hj2) dX5_change_50 (fun _ _ hw13 => ?_)
  obtain ⟨σ14, e15⟩ : ∃ z, z = st σ9 a0 1 x1 (σ9 a0 1 (x1 + 1)) := ⟨_, rfl⟩
  have h := h σ14 e15
  have hw13 := wc_e e15 hw13
  have hk16 := kp_e e15 hk11 wo_X5_change hj1.1 hg12 (t := 5) (by decide)
  have hg17 : tg σ14 a0 = 5 := (tg_e e15 (by decide)).trans hg12
  refine z_aload_n (pc := 51) K dX5_change_51 rfl (lv_at hl 2 rfl) ?_
  refine z_get (pc := 52) (t := 5) (k := 1) K hw13 (ob hg17) zq5 (by decide) q356 (fun _ h => h) dX5_change_52 (zval_p (κ := 1) kf_5_1) ?_
  refine lv_iload_n (pc := 55) K.x K.b dX5_change_55 rfl (lv_at hl 3 rfl) ?_
  refine z_iconst (pc := 56) K dX5_change_56 ?_
  refine z_iadd (pc := 57) K dX5_change_57 ?_
  refine lv_iload_n (pc := 58) K.x K.b dX5_change_58 rfl (lv_at hl 0 rfl) ?_
  refine z_iast (pc := 59) (t := 5) K hw13 hg17 ⟨by decide, by decide⟩ kf_5_1 kl_5_1 hj2 (by decide) (z_elI (t := 5) hw8 hg12 ⟨by decide, by decide⟩ kf_5_1 kl_5_1 hj1) dX5_change_59 (fun _ _ hw18 => ?_)
  obtain ⟨σ19, e20⟩ : ∃ z, z = st σ14 a0 1 (x1 + 1) (σ9 a0 1 x1) := ⟨_, rfl⟩
  have h := h σ19 e20
  have hw18 := wc_e e20 hw18
  have hk21 := kp_e e20 hk16 wo_X5_change hj2.1 hg17 (t := 5) (by decide)
  have hg22 : tg σ19 a0 = 5 := (tg_e e20 (by decide)).trans hg17
  exact z_vret (pc := 60) K hw18 ⟨hk21, h⟩ dX5_change_60
def ws_X5_leave : List (Int × Nat) := [(5, 0), (5, 1), (5, 2)]
theorem wo_X5_leave : wsOk ws_X5_leave = true := rfl
def lp_X5_leave_12 (a0 : Int) (x1 : Int) (Q : St → Prop) (σ0 : St) : Nat → St → Int → Prop
  | 0 => fun _ _ => False
  | n + 1 => fun σ v2 => 
    Kp ws_X5_leave σ0 σ → (if v2 < σ a0 2 0 then
      (0 ≤ v2 + 1 ∧ v2 + 1 < 24) ∧ (0 ≤ v2 ∧ v2 < 24) ∧ ∀ σ5 : St, σ5 = st σ a0 0 v2 (σ a0 0 (v2 + 1)) → ∀ σ10 : St, σ10 = st σ5 a0 1 v2 (σ5 a0 1 (v2 + 1)) → rng (v2 + 1) ∧ (lp_X5_leave_12 a0 x1 Q σ0 n σ10 (v2 + 1))
      else
      Q σ)
def wp_X5_leave (σ : St) (a0 : Int) (x1 : Int) (Q : St → Prop) : Prop :=
  rng ((σ a0 2 0) - 1) ∧ ∀ σ3 : St, σ3 = st σ a0 2 0 ((σ a0 2 0) - 1) → (∃ kk, lp_X5_leave_12 a0 x1 Q σ kk σ3 x1)
set_option maxHeartbeats 4000000 in
theorem wk_X5_leave_12 {X : Cxt} {p : Program} {l : Launch} {e : Env} {s : State} {m : MethodId} {args : Array Value} {below : List Frame} {meth : Method} {c : Code} (a0 : Int) (x1 : Int) (Q : St → Prop) (σ0 : St) (K : MCx X p s m args meth c cX5_leave 3 "CombTable$Minutes" (none)) (hx1 : rng x1) : ∀ (n : Nat), ∀ (σ : St) (v2 : Int) (H : Heap) (locs : List Loc) (ls : Array Slot), lp_X5_leave_12 a0 x1 Q σ0 n σ v2 → Wc X σ s.heap H locs → Kp ws_X5_leave σ0 σ → tg σ a0 = 5 → rng v2 → lv_has ls 3 [(0, jR X a0), (2, jI v2)] → W p l e (zrm 1 0 0) s m args below meth c H locs 0 0 (MQT below (ZQ X (qV (fun σ' => Kp ws_X5_leave σ0 σ' ∧ Q σ')) (fun _ _ => False)) args s 0 0 (zA X)) (F0 m 12 ls []) := by
  intro n
  induction n with
  | zero => intro σ v2 H locs ls h; exact h.elim
  | succ n ih =>
    intro σ v2 H locs ls h hw hk ht0 hv2 hl
    have h := h hk
    refine lv_iload_n (pc := 12) K.x K.b dX5_leave_12 rfl (lv_at hl 1 rfl) ?_
    refine z_aload_n (pc := 13) K dX5_leave_13 rfl (lv_at hl 0 rfl) ?_
    refine z_get (pc := 14) (t := 5) (k := 2) K hw (ob ht0) zq5 (by decide) q360 (fun _ h => h) dX5_leave_14 (zval_i kf_5_2) ?_
    refine z_icmp_ge (pc := 17) (tgt := 54) K hv2 (z_rI hw (ob (t := 5) ht0) kf_5_2) dX5_leave_17 (by decide) (fun hc1 => ?_) (fun hc1 => ?_)
    · have h := ite_t h hc1
      refine z_aload_n (pc := 20) K dX5_leave_20 rfl (lv_at hl 0 rfl) ?_
      refine z_get (pc := 21) (t := 5) (k := 0) K hw (ob ht0) zq5 (by decide) q353 (fun _ h => h) dX5_leave_21 (zval_p (κ := 1) kf_5_0) ?_
      refine lv_iload_n (pc := 24) K.x K.b dX5_leave_24 rfl (lv_at hl 1 rfl) ?_
      refine z_aload_n (pc := 25) K dX5_leave_25 rfl (lv_at hl 0 rfl) ?_
      refine z_get (pc := 26) (t := 5) (k := 0) K hw (ob ht0) zq5 (by decide) q353 (fun _ h => h) dX5_leave_26 (zval_p (κ := 1) kf_5_0) ?_
      refine lv_iload_n (pc := 29) K.x K.b dX5_leave_29 rfl (lv_at hl 1 rfl) ?_
      refine z_iconst (pc := 30) K dX5_leave_30 ?_
      refine z_iadd (pc := 31) K dX5_leave_31 ?_
      obtain ⟨hj2, h⟩ := h
      refine z_iald (pc := 32) (t := 5) K hw ht0 ⟨by decide, by decide⟩ kf_5_0 kl_5_0 hj2 (by decide) dX5_leave_32 ?_
      obtain ⟨hj3, h⟩ := h
      refine z_iast (pc := 33) (t := 5) K hw ht0 ⟨by decide, by decide⟩ kf_5_0 kl_5_0 hj3 (by decide) (z_elI (t := 5) hw ht0 ⟨by decide, by decide⟩ kf_5_0 kl_5_0 hj2) dX5_leave_33 (fun _ _ hw4 => ?_)
      obtain ⟨σ5, e6⟩ : ∃ z, z = st σ a0 0 v2 (σ a0 0 (v2 + 1)) := ⟨_, rfl⟩
      have h := h σ5 e6
      have hw4 := wc_e e6 hw4
      have hk7 := kp_e e6 hk wo_X5_leave hj3.1 ht0 (t := 5) (by decide)
      have hg8 : tg σ5 a0 = 5 := (tg_e e6 (by decide)).trans ht0
      refine z_aload_n (pc := 34) K dX5_leave_34 rfl (lv_at hl 0 rfl) ?_
      refine z_get (pc := 35) (t := 5) (k := 1) K hw4 (ob hg8) zq5 (by decide) q356 (fun _ h => h) dX5_leave_35 (zval_p (κ := 1) kf_5_1) ?_
      refine lv_iload_n (pc := 38) K.x K.b dX5_leave_38 rfl (lv_at hl 1 rfl) ?_
      refine z_aload_n (pc := 39) K dX5_leave_39 rfl (lv_at hl 0 rfl) ?_
      refine z_get (pc := 40) (t := 5) (k := 1) K hw4 (ob hg8) zq5 (by decide) q356 (fun _ h => h) dX5_leave_40 (zval_p (κ := 1) kf_5_1) ?_
      refine lv_iload_n (pc := 43) K.x K.b dX5_leave_43 rfl (lv_at hl 1 rfl) ?_
      refine z_iconst (pc := 44) K dX5_leave_44 ?_
      refine z_iadd (pc := 45) K dX5_leave_45 ?_
      refine z_iald (pc := 46) (t := 5) K hw4 hg8 ⟨by decide, by decide⟩ kf_5_1 kl_5_1 hj2 (by decide) dX5_leave_46 ?_
      refine z_iast (pc := 47) (t := 5) K hw4 hg8 ⟨by decide, by decide⟩ kf_5_1 kl_5_1 hj3 (by decide) (z_elI (t := 5) hw4 hg8 ⟨by decide, by decide⟩ kf_5_1 kl_5_1 hj2) dX5_leave_47 (fun _ _ hw9 => ?_)
      obtain ⟨σ10, e11⟩ : ∃ z, z = st σ5 a0 1 v2 (σ5 a0 1 (v2 + 1)) := ⟨_, rfl⟩
      have h := h σ10 e11
      have hw9 := wc_e e11 hw9
      have hk12 := kp_e e11 hk7 wo_X5_leave hj3.1 hg8 (t := 5) (by decide)
      have hg13 : tg σ10 a0 = 5 := (tg_e e11 (by decide)).trans hg8
      refine z_iinc (pc := 48) (k := 1) (lv' := [(2, jI (v2 + 1)), (0, jR X a0)]) K dX5_leave_48 hl rfl (by decide) rfl (fun ls hl => ?_)
      refine z_goto (pc := 51) (tgt := 12) K dX5_leave_51 (by decide) ?_
      obtain ⟨hr14, h⟩ := h
      exact ih σ10 (v2 + 1) _ _ _ h hw9 hk12 hg13 hr14 (lv_sub hl [1, 0] rfl)
    · have h := ite_f h hc1
      exact z_vret (pc := 54) K hw ⟨hk, h⟩ dX5_leave_54
set_option maxHeartbeats 4000000 in
theorem met_X5_leave (X : Cxt) (l : Launch) (σ : St) (a0 : Int) (x1 : Int) (ht0 : tg σ a0 = 5) (hx1 : rng x1) (Q : St → Prop) (h : wp_X5_leave σ a0 x1 Q) : MetT l yX5_leave (ws_ yX5_leave cX5_leave 3 (none)) (zrm 1 0 0) (ZP X σ [jR X a0, jI x1]) (ZQ X (qV (fun σ' => Kp ws_X5_leave σ σ' ∧ Q σ')) (fun _ _ => False)) 0 0 (zA X) := by
  refine z_start (own := "CombTable$Minutes") (lv := [(0, jR X a0), (1, jI x1)]) (by decide) rfl (by simp [lv_args, jR_cat, jI_cat, jL_cat]) (by simp [lg_sl, jR_cat, jI_cat, jL_cat]) (fun p e s m below meth c ls K _ _ hw hl => ?_)
  have hk : Kp ws_X5_leave σ σ := kp_rf σ
  refine z_aload_n (pc := 0) K dX5_leave_0 rfl (lv_at hl 0 rfl) ?_
  refine lv_dup (pc := 1) K.x K.b dX5_leave_1 (jR_cat _ _) ?_
  refine z_get (pc := 2) (t := 5) (k := 2) K hw (ob ht0) zq5 (by decide) q360 (fun _ h => h) dX5_leave_2 (zval_i kf_5_2) ?_
  refine z_iconst (pc := 5) K dX5_leave_5 ?_
  refine z_isub (pc := 6) K dX5_leave_6 ?_
  obtain ⟨hr1, h⟩ := h
  refine z_puti (pc := 7) (t := 5) 2 K hw (ob ht0) zq5 (by decide) kf_5_2 zt_5_2 hr1 q360 (fun _ h => h) rfl dX5_leave_7 (fun _ _ hw2 => ?_)
  obtain ⟨σ3, e4⟩ : ∃ z, z = st σ a0 2 0 ((σ a0 2 0) - 1) := ⟨_, rfl⟩
  have h := h σ3 e4
  have hw2 := wc_e e4 hw2
  have hk5 := kp_e e4 hk wo_X5_leave (by decide) ht0 (t := 5) (by decide)
  have hg6 : tg σ3 a0 = 5 := (tg_e e4 (by decide)).trans ht0
  refine lv_iload_n (pc := 10) K.x K.b dX5_leave_10 rfl (lv_at hl 1 rfl) ?_
  refine lv_istore_n (pc := 11) (lv' := [(2, jI x1), (0, jR X a0), (1, jI x1)]) K.x K.b dX5_leave_11 rfl hl (by decide) rfl (fun ls hl => ?_)
  obtain ⟨n7, h⟩ := h
  exact wk_X5_leave_12 a0 x1 Q σ K hx1 n7 σ3 x1 _ _ _ h hw2 hk5 hg6 hx1 (lv_sub hl [1, 0] rfl)
def ws_X1_wholes : List (Int × Nat) := [(1, 19), (1, 20), (1, 21), (1, 22), (1, 23), (1, 24), (3, 0), (3, 1), (3, 2), (3, 3), (3, 4), (3, 5), (3, 6), (3, 7), (3, 8), (3, 9), (5, 0), (5, 1), (5, 2)]
theorem wo_X1_wholes : wsOk ws_X1_wholes = true := rfl
def wp_X1_wholes_b189 (a0 : Int) (x1 : Int) (Q : Int → St → Prop) (σ0 : St) (L141 : St → Int → Int → Int → Prop) (σ : St) (v2 : Int) (v3 : Int) (v4 : Int) : Prop :=
  wp_X1_wholesNow σ a0 (fun r1 σ4 => Kp ws_X1_wholesNow σ σ4 → rng (v2 + r1) ∧ rng (v4 + 1) ∧ (L141 σ4 (v2 + r1) v3 (v4 + 1)))
def lp_X1_wholes_141 (a0 : Int) (x1 : Int) (Q : Int → St → Prop) (σ0 : St) : Nat → St → Int → Int → Int → Prop
  | 0 => fun _ _ _ _ => False
  | n + 1 => fun σ v2 v3 v4 => 
    Kp ws_X1_wholes σ0 σ → (if v4 < v3 then
      wp_X5_be σ (σ a0 13 0) (σ a0 11 0) (fun σ7 => Kp ws_X5_be σ σ7 → (if x1 = 1 then
        wp_X5_leave σ7 (σ7 a0 13 0) v4 (fun σ17 => Kp ws_X5_leave σ7 σ17 → (wp_X1_wholes_b189 a0 x1 Q σ0 (lp_X1_wholes_141 a0 x1 Q σ0 n) σ17 v2 v3 v4))
        else
        (if x1 = 2 then
          wp_X5_change σ7 (σ7 a0 13 0) v4 (fun σ27 => Kp ws_X5_change σ7 σ27 → (wp_X1_wholes_b189 a0 x1 Q σ0 (lp_X1_wholes_141 a0 x1 Q σ0 n) σ27 v2 v3 v4))
          else
          (wp_X1_wholes_b189 a0 x1 Q σ0 (lp_X1_wholes_141 a0 x1 Q σ0 n) σ7 v2 v3 v4))))
      else
      ∀ σ33 : St, σ33 = st σ a0 24 0 v2 → Q v2 σ33)
def lp_X1_wholes_70 (a0 : Int) (x1 : Int) (Q : Int → St → Prop) (σ0 : St) : Nat → St → Int → Prop
  | 0 => fun _ _ => False
  | n + 1 => fun σ v2 => 
    Kp ws_X1_wholes σ0 σ → (if v2 < 24 then
      (0 ≤ v2 ∧ v2 < 24) ∧ ∀ σ4 : St, σ4 = st σ a0 19 v2 0 → ∀ σ9 : St, σ9 = st σ4 a0 20 v2 0 → ∀ σ14 : St, σ14 = st σ9 a0 21 v2 0 → rng (v2 + 1) ∧ (lp_X1_wholes_70 a0 x1 Q σ0 n σ14 (v2 + 1))
      else
      (if x1 = 0 then
        (∃ kk, lp_X1_wholes_141 a0 x1 Q σ0 kk σ 0 1 0)
        else
        (if x1 = 1 then
          (∃ kk, lp_X1_wholes_141 a0 x1 Q σ0 kk σ 0 (σ (σ a0 11 0) 2 0) 0)
          else
          rng ((σ (σ a0 11 0) 2 0) - 1) ∧ (∃ kk, lp_X1_wholes_141 a0 x1 Q σ0 kk σ 0 ((σ (σ a0 11 0) 2 0) - 1) 0))))
def wp_X1_wholes_b65 (a0 : Int) (x1 : Int) (Q : Int → St → Prop) (σ0 : St) (σ : St) (s1 : Int) : Prop :=
  ∀ σ2 : St, σ2 = st σ a0 22 0 s1 → (∃ kk, lp_X1_wholes_70 a0 x1 Q σ0 kk σ2 0)
def wp_X1_wholes (σ : St) (a0 : Int) (x1 : Int) (Q : Int → St → Prop) : Prop :=
  wp_X1_isIn σ x1 0 2 (fun r1 => (if r1 = 0 then
    Q (-1) σ
    else
    wp_X1_ways σ a0 (σ a0 11 0) 20000 (fun r8 => (if 20000 < r8 then
      Q (-2) σ
      else
      ∀ σ15 : St, σ15 = st σ a0 23 0 1 → (if x1 = 1 then
        rng ((σ15 (σ15 a0 11 0) 2 0) - 1) ∧ (wp_X1_wholes_b65 a0 x1 Q σ σ15 (if 0 < (σ15 (σ15 a0 11 0) 2 0) - 1 then (σ15 (σ15 a0 11 0) 2 0) - 1 else 0))
        else
        (wp_X1_wholes_b65 a0 x1 Q σ σ15 (σ15 (σ15 a0 11 0) 2 0)))))))
set_option maxHeartbeats 4000000 in
theorem wk_X1_wholes_b189 {X : Cxt} {p : Program} {l : Launch} {e : Env} {s : State} {m : MethodId} {args : Array Value} {below : List Frame} {meth : Method} {c : Code} (a0 : Int) (x1 : Int) (Q : Int → St → Prop) (σ0 : St) (K : MCx X p s m args meth c cX1_wholes 5 "CombTable" (some .int)) (hx1 : rng x1) (L141 : St → Int → Int → Int → Prop) (hL141 : ∀ (σ : St) (v2 : Int) (v3 : Int) (v4 : Int) (H : Heap) (locs : List Loc) (ls : Array Slot), L141 σ v2 v3 v4 → Wc X σ s.heap H locs → Kp ws_X1_wholes σ0 σ → tg σ a0 = 1 → rng v2 → rng v3 → rng v4 → lv_has ls 5 [(0, jR X a0), (1, jI x1), (2, jI v2), (3, jI v3), (4, jI v4)] → W p l e (zrm 70 0 0) s m args below meth c H locs 0 0 (MQT below (ZQ X (qI (fun r σ' => Kp ws_X1_wholes σ0 σ' ∧ Q r σ')) (fun _ _ => False)) args s 0 0 (zA X)) (F0 m 141 ls [])) : ∀ (σ : St) (v2 : Int) (v3 : Int) (v4 : Int) (H : Heap) (locs : List Loc) (ls : Array Slot), wp_X1_wholes_b189 a0 x1 Q σ0 L141 σ v2 v3 v4 → Wc X σ s.heap H locs → Kp ws_X1_wholes σ0 σ → tg σ a0 = 1 → rng v2 → rng v3 → rng v4 → lv_has ls 5 [(0, jR X a0), (1, jI x1), (2, jI v2), (3, jI v3), (4, jI v4)] → W p l e (zrm 70 0 0) s m args below meth c H locs 0 0 (MQT below (ZQ X (qI (fun r σ' => Kp ws_X1_wholes σ0 σ' ∧ Q r σ')) (fun _ _ => False)) args s 0 0 (zA X)) (F0 m 189 ls []) := by
  intro σ v2 v3 v4 H locs ls h hw hk ht0 hv2 hv3 hv4 hl
  refine lv_iload_n (pc := 189) K.x K.b dX1_wholes_189 rfl (lv_at hl 2 rfl) ?_
  refine z_aload_n (pc := 190) K dX1_wholes_190 rfl (lv_at hl 0 rfl) ?_
  refine zc_i (pc := 191) (maxL := 1) K hw (met_X1_wholesNow X l σ a0 ht0 _ h) (i_V (n := 0) (t := 1) (As := []) K hw (ob ht0) zq1 (by decide) q1089 q1091 qs10 (sg_of K q1092) rfl rfl dX1_wholes_191) (locw K q1092 q90) ⟨by decide, by decide⟩ hl.1 dX1_wholes_191 (Nat.le_of_ble_eq_true rfl) ⟨Nat.le_refl _, Nat.le_refl _⟩ (fun r1 σ4 _ _ hr2 hq3 hw5 => ?_)
  obtain ⟨hk6, h⟩ := hq3
  have h := h hk6
  have hk7 := kp_trans wo_X1_wholes hk hk6 (fun _ q => q) (by decide)
  have hg8 : tg σ4 a0 = 1 := kp_tg hk6 wo_X1_wholesNow ht0 (by decide)
  refine z_iadd (pc := 194) K dX1_wholes_194 ?_
  refine lv_istore_n (pc := 195) (lv' := [(2, jI (v2 + r1)), (0, jR X a0), (1, jI x1), (3, jI v3), (4, jI v4)]) K.x K.b dX1_wholes_195 rfl hl (by decide) rfl (fun ls hl => ?_)
  refine z_iinc (pc := 196) (k := 4) (lv' := [(4, jI (v4 + 1)), (2, jI (v2 + r1)), (0, jR X a0), (1, jI x1), (3, jI v3)]) K dX1_wholes_196 hl rfl (by decide) rfl (fun ls hl => ?_)
  refine z_goto (pc := 199) (tgt := 141) K dX1_wholes_199 (by decide) ?_
  obtain ⟨hr9, h⟩ := h
  obtain ⟨hr10, h⟩ := h
  exact hL141 σ4 (v2 + r1) v3 (v4 + 1) _ _ _ h hw5 hk7 hg8 hr9 hv3 hr10 (lv_sub hl [2, 3, 1, 4, 0] rfl)
set_option maxHeartbeats 4000000 in
theorem wk_X1_wholes_141 {X : Cxt} {p : Program} {l : Launch} {e : Env} {s : State} {m : MethodId} {args : Array Value} {below : List Frame} {meth : Method} {c : Code} (a0 : Int) (x1 : Int) (Q : Int → St → Prop) (σ0 : St) (K : MCx X p s m args meth c cX1_wholes 5 "CombTable" (some .int)) (hx1 : rng x1) : ∀ (n : Nat), ∀ (σ : St) (v2 : Int) (v3 : Int) (v4 : Int) (H : Heap) (locs : List Loc) (ls : Array Slot), lp_X1_wholes_141 a0 x1 Q σ0 n σ v2 v3 v4 → Wc X σ s.heap H locs → Kp ws_X1_wholes σ0 σ → tg σ a0 = 1 → rng v2 → rng v3 → rng v4 → lv_has ls 5 [(0, jR X a0), (1, jI x1), (2, jI v2), (3, jI v3), (4, jI v4)] → W p l e (zrm 70 0 0) s m args below meth c H locs 0 0 (MQT below (ZQ X (qI (fun r σ' => Kp ws_X1_wholes σ0 σ' ∧ Q r σ')) (fun _ _ => False)) args s 0 0 (zA X)) (F0 m 141 ls []) := by
  intro n
  induction n with
  | zero => intro σ v2 v3 v4 H locs ls h; exact h.elim
  | succ n ih =>
    intro σ v2 v3 v4 H locs ls h hw hk ht0 hv2 hv3 hv4 hl
    have h := h hk
    refine lv_iload (pc := 141) K.x K.b dX1_wholes_141 (lv_at hl 4 rfl) ?_
    refine lv_iload_n (pc := 143) K.x K.b dX1_wholes_143 rfl (lv_at hl 3 rfl) ?_
    refine z_icmp_ge (pc := 144) (tgt := 202) K hv4 hv3 dX1_wholes_144 (by decide) (fun hc1 => ?_) (fun hc1 => ?_)
    · have h := ite_t h hc1
      refine z_aload_n (pc := 147) K dX1_wholes_147 rfl (lv_at hl 0 rfl) ?_
      refine z_get (pc := 148) (t := 1) (k := 13) K hw (ob ht0) zq1 (by decide) q531 (fun _ h => h) dX1_wholes_148 (zval_r kf_1_13) ?_
      refine z_aload_n (pc := 151) K dX1_wholes_151 rfl (lv_at hl 0 rfl) ?_
      refine z_get (pc := 152) (t := 1) (k := 11) K hw (ob ht0) zq1 (by decide) q529 (fun _ h => h) dX1_wholes_152 (zval_r kf_1_11) ?_
      have hg2 : tg σ (σ a0 13 0) = 5 := (z_tg (t := 1) (r := 5) hw ht0 ⟨by decide, by decide⟩ kf_1_13 kn_1_13 kt_1_13 (by decide) (by decide))
      have hg3 : tg σ (σ a0 11 0) = 5 := (z_tg (t := 1) (r := 5) hw ht0 ⟨by decide, by decide⟩ kf_1_11 kn_1_11 kt_1_11 (by decide) (by decide))
      refine zc_v (pc := 155) (maxL := 2) K hw (met_X5_be X l σ (σ a0 13 0) (σ a0 11 0) hg2 hg3 _ h) (i_V (n := 1) (t := 5) (As := [jR X (σ a0 11 0)]) K hw (ob hg2) zq5 (by decide) q1062 q1063 q1064 (sg_of K q1065) rfl rfl dX1_wholes_155) (locw K q1065 q96) ⟨by decide, by decide⟩ hl.1 dX1_wholes_155 (Nat.le_of_ble_eq_true rfl) ⟨Nat.le_refl _, Nat.le_refl _⟩ (fun σ7 _ _ hq6 hw8 => ?_)
      obtain ⟨hk9, h⟩ := hq6
      have h := h hk9
      have hk10 := kp_trans wo_X1_wholes hk hk9 (fun _ q => q) (by decide)
      have hg11 : tg σ7 a0 = 1 := kp_tg hk9 wo_X5_be ht0 (by decide)
      refine lv_iload_n (pc := 158) K.x K.b dX1_wholes_158 rfl (lv_at hl 1 rfl) ?_
      refine z_iconst (pc := 159) K dX1_wholes_159 ?_
      refine z_icmp_ne (pc := 160) (tgt := 175) K hx1 ⟨by decide, by decide⟩ dX1_wholes_160 (by decide) (fun hc12 => ?_) (fun hc12 => ?_)
      · have h := ite_t h hc12
        refine z_aload_n (pc := 163) K dX1_wholes_163 rfl (lv_at hl 0 rfl) ?_
        refine z_get (pc := 164) (t := 1) (k := 13) K hw8 (ob hg11) zq1 (by decide) q531 (fun _ h => h) dX1_wholes_164 (zval_r kf_1_13) ?_
        refine lv_iload (pc := 167) K.x K.b dX1_wholes_167 (lv_at hl 4 rfl) ?_
        have hg13 : tg σ7 (σ7 a0 13 0) = 5 := (z_tg (t := 1) (r := 5) hw8 hg11 ⟨by decide, by decide⟩ kf_1_13 kn_1_13 kt_1_13 (by decide) (by decide))
        refine zc_v (pc := 169) (maxL := 3) K hw8 (met_X5_leave X l σ7 (σ7 a0 13 0) v4 hg13 hv4 _ h) (i_V (n := 1) (t := 5) (As := [jI v4]) K hw8 (ob hg13) zq5 (by decide) q1081 q1082 q1083 (sg_of K q1084) rfl rfl dX1_wholes_169) (locw K q1084 q96) ⟨by decide, by decide⟩ hl.1 dX1_wholes_169 (Nat.le_of_ble_eq_true rfl) ⟨Nat.le_refl _, Nat.le_refl _⟩ (fun σ17 _ _ hq16 hw18 => ?_)
        obtain ⟨hk19, h⟩ := hq16
        have h := h hk19
        have hk20 := kp_trans wo_X1_wholes hk10 hk19 (fun _ q => q) (by decide)
        have hg21 : tg σ17 a0 = 1 := kp_tg hk19 wo_X5_leave hg11 (by decide)
        refine z_goto (pc := 172) (tgt := 189) K dX1_wholes_172 (by decide) ?_
        exact wk_X1_wholes_b189 a0 x1 Q σ0 K hx1 (lp_X1_wholes_141 a0 x1 Q σ0 n) ih σ17 v2 v3 v4 _ _ _ h hw18 hk20 hg21 hv2 hv3 hv4 (lv_sub hl [0, 1, 2, 3, 4] rfl)
      · have h := ite_f h hc12
        refine lv_iload_n (pc := 175) K.x K.b dX1_wholes_175 rfl (lv_at hl 1 rfl) ?_
        refine z_iconst (pc := 176) K dX1_wholes_176 ?_
        refine z_icmp_ne (pc := 177) (tgt := 189) K hx1 ⟨by decide, by decide⟩ dX1_wholes_177 (by decide) (fun hc22 => ?_) (fun hc22 => ?_)
        · have h := ite_t h hc22
          refine z_aload_n (pc := 180) K dX1_wholes_180 rfl (lv_at hl 0 rfl) ?_
          refine z_get (pc := 181) (t := 1) (k := 13) K hw8 (ob hg11) zq1 (by decide) q531 (fun _ h => h) dX1_wholes_181 (zval_r kf_1_13) ?_
          refine lv_iload (pc := 184) K.x K.b dX1_wholes_184 (lv_at hl 4 rfl) ?_
          have hg23 : tg σ7 (σ7 a0 13 0) = 5 := (z_tg (t := 1) (r := 5) hw8 hg11 ⟨by decide, by decide⟩ kf_1_13 kn_1_13 kt_1_13 (by decide) (by decide))
          refine zc_v (pc := 186) (maxL := 4) K hw8 (met_X5_change X l σ7 (σ7 a0 13 0) v4 hg23 hv4 _ h) (i_V (n := 1) (t := 5) (As := [jI v4]) K hw8 (ob hg23) zq5 (by decide) q1085 q1086 q1087 (sg_of K q1088) rfl rfl dX1_wholes_186) (locw K q1088 q96) ⟨by decide, by decide⟩ hl.1 dX1_wholes_186 (Nat.le_of_ble_eq_true rfl) ⟨Nat.le_refl _, Nat.le_refl _⟩ (fun σ27 _ _ hq26 hw28 => ?_)
          obtain ⟨hk29, h⟩ := hq26
          have h := h hk29
          have hk30 := kp_trans wo_X1_wholes hk10 hk29 (fun _ q => q) (by decide)
          have hg31 : tg σ27 a0 = 1 := kp_tg hk29 wo_X5_change hg11 (by decide)
          exact wk_X1_wholes_b189 a0 x1 Q σ0 K hx1 (lp_X1_wholes_141 a0 x1 Q σ0 n) ih σ27 v2 v3 v4 _ _ _ h hw28 hk30 hg31 hv2 hv3 hv4 (lv_sub hl [0, 1, 2, 3, 4] rfl)
        · have h := ite_f h hc22
          exact wk_X1_wholes_b189 a0 x1 Q σ0 K hx1 (lp_X1_wholes_141 a0 x1 Q σ0 n) ih σ7 v2 v3 v4 _ _ _ h hw8 hk10 hg11 hv2 hv3 hv4 (lv_sub hl [0, 1, 2, 3, 4] rfl)
    · have h := ite_f h hc1
      refine z_aload_n (pc := 202) K dX1_wholes_202 rfl (lv_at hl 0 rfl) ?_
      refine lv_iload_n (pc := 203) K.x K.b dX1_wholes_203 rfl (lv_at hl 2 rfl) ?_
      refine z_puti (pc := 204) (t := 1) 24 K hw (ob ht0) zq1 (by decide) kf_1_24 zt_1_24 hv2 q542 (fun _ h => h) rfl dX1_wholes_204 (fun _ _ hw32 => ?_)
      obtain ⟨σ33, e34⟩ : ∃ z, z = st σ a0 24 0 v2 := ⟨_, rfl⟩
      have h := h σ33 e34
      have hw32 := wc_e e34 hw32
      have hk35 := kp_e e34 hk wo_X1_wholes (by decide) ht0 (t := 1) (by decide)
      have hg36 : tg σ33 a0 = 1 := (tg_e e34 (by decide)).trans ht0
      refine lv_iload_n (pc := 207) K.x K.b dX1_wholes_207 rfl (lv_at hl 2 rfl) ?_
      exact z_iret (pc := 208) K hw32 hv2 ⟨hk35, h⟩ dX1_wholes_208
set_option maxHeartbeats 4000000 in
theorem wk_X1_wholes_70 {X : Cxt} {p : Program} {l : Launch} {e : Env} {s : State} {m : MethodId} {args : Array Value} {below : List Frame} {meth : Method} {c : Code} (a0 : Int) (x1 : Int) (Q : Int → St → Prop) (σ0 : St) (K : MCx X p s m args meth c cX1_wholes 5 "CombTable" (some .int)) (hx1 : rng x1) : ∀ (n : Nat), ∀ (σ : St) (v2 : Int) (H : Heap) (locs : List Loc) (ls : Array Slot), lp_X1_wholes_70 a0 x1 Q σ0 n σ v2 → Wc X σ s.heap H locs → Kp ws_X1_wholes σ0 σ → tg σ a0 = 1 → rng v2 → lv_has ls 5 [(0, jR X a0), (1, jI x1), (2, jI v2)] → W p l e (zrm 70 0 0) s m args below meth c H locs 0 0 (MQT below (ZQ X (qI (fun r σ' => Kp ws_X1_wholes σ0 σ' ∧ Q r σ')) (fun _ _ => False)) args s 0 0 (zA X)) (F0 m 70 ls []) := by
  intro n
  induction n with
  | zero => intro σ v2 H locs ls h; exact h.elim
  | succ n ih =>
    intro σ v2 H locs ls h hw hk ht0 hv2 hl
    have h := h hk
    refine lv_iload_n (pc := 70) K.x K.b dX1_wholes_70 rfl (lv_at hl 2 rfl) ?_
    refine z_bipush (pc := 71) K dX1_wholes_71 (by decide) ?_
    refine z_icmp_ge (pc := 73) (tgt := 103) K hv2 ⟨by decide, by decide⟩ dX1_wholes_73 (by decide) (fun hc1 => ?_) (fun hc1 => ?_)
    · have h := ite_t h hc1
      refine z_aload_n (pc := 76) K dX1_wholes_76 rfl (lv_at hl 0 rfl) ?_
      refine z_get (pc := 77) (t := 1) (k := 19) K hw (ob ht0) zq1 (by decide) q537 (fun _ h => h) dX1_wholes_77 (zval_p (κ := 1) kf_1_19) ?_
      refine lv_iload_n (pc := 80) K.x K.b dX1_wholes_80 rfl (lv_at hl 2 rfl) ?_
      refine z_iconst (pc := 81) K dX1_wholes_81 ?_
      obtain ⟨hj2, h⟩ := h
      refine z_iast (pc := 82) (t := 1) K hw ht0 ⟨by decide, by decide⟩ kf_1_19 kl_1_19 hj2 (by decide) ⟨by decide, by decide⟩ dX1_wholes_82 (fun _ _ hw3 => ?_)
      obtain ⟨σ4, e5⟩ : ∃ z, z = st σ a0 19 v2 0 := ⟨_, rfl⟩
      have h := h σ4 e5
      have hw3 := wc_e e5 hw3
      have hk6 := kp_e e5 hk wo_X1_wholes hj2.1 ht0 (t := 1) (by decide)
      have hg7 : tg σ4 a0 = 1 := (tg_e e5 (by decide)).trans ht0
      refine z_aload_n (pc := 83) K dX1_wholes_83 rfl (lv_at hl 0 rfl) ?_
      refine z_get (pc := 84) (t := 1) (k := 20) K hw3 (ob hg7) zq1 (by decide) q538 (fun _ h => h) dX1_wholes_84 (zval_p (κ := 1) kf_1_20) ?_
      refine lv_iload_n (pc := 87) K.x K.b dX1_wholes_87 rfl (lv_at hl 2 rfl) ?_
      refine z_iconst (pc := 88) K dX1_wholes_88 ?_
      refine z_iast (pc := 89) (t := 1) K hw3 hg7 ⟨by decide, by decide⟩ kf_1_20 kl_1_20 hj2 (by decide) ⟨by decide, by decide⟩ dX1_wholes_89 (fun _ _ hw8 => ?_)
      obtain ⟨σ9, e10⟩ : ∃ z, z = st σ4 a0 20 v2 0 := ⟨_, rfl⟩
      have h := h σ9 e10
      have hw8 := wc_e e10 hw8
      have hk11 := kp_e e10 hk6 wo_X1_wholes hj2.1 hg7 (t := 1) (by decide)
      have hg12 : tg σ9 a0 = 1 := (tg_e e10 (by decide)).trans hg7
      refine z_aload_n (pc := 90) K dX1_wholes_90 rfl (lv_at hl 0 rfl) ?_
      refine z_get (pc := 91) (t := 1) (k := 21) K hw8 (ob hg12) zq1 (by decide) q539 (fun _ h => h) dX1_wholes_91 (zval_p (κ := 1) kf_1_21) ?_
      refine lv_iload_n (pc := 94) K.x K.b dX1_wholes_94 rfl (lv_at hl 2 rfl) ?_
      refine z_iconst (pc := 95) K dX1_wholes_95 ?_
      refine z_iast (pc := 96) (t := 1) K hw8 hg12 ⟨by decide, by decide⟩ kf_1_21 kl_1_21 hj2 (by decide) ⟨by decide, by decide⟩ dX1_wholes_96 (fun _ _ hw13 => ?_)
      obtain ⟨σ14, e15⟩ : ∃ z, z = st σ9 a0 21 v2 0 := ⟨_, rfl⟩
      have h := h σ14 e15
      have hw13 := wc_e e15 hw13
      have hk16 := kp_e e15 hk11 wo_X1_wholes hj2.1 hg12 (t := 1) (by decide)
      have hg17 : tg σ14 a0 = 1 := (tg_e e15 (by decide)).trans hg12
      refine z_iinc (pc := 97) (k := 2) (lv' := [(2, jI (v2 + 1)), (0, jR X a0), (1, jI x1)]) K dX1_wholes_97 hl rfl (by decide) rfl (fun ls hl => ?_)
      refine z_goto (pc := 100) (tgt := 70) K dX1_wholes_100 (by decide) ?_
      obtain ⟨hr18, h⟩ := h
      exact ih σ14 (v2 + 1) _ _ _ h hw13 hk16 hg17 hr18 (lv_sub hl [1, 2, 0] rfl)
    · have h := ite_f h hc1
      refine z_iconst (pc := 103) K dX1_wholes_103 ?_
      refine lv_istore_n (pc := 104) (lv' := [(2, jI 0), (0, jR X a0), (1, jI x1)]) K.x K.b dX1_wholes_104 rfl hl (by decide) rfl (fun ls hl => ?_)
      refine lv_iload_n (pc := 105) K.x K.b dX1_wholes_105 rfl (lv_at hl 2 rfl) ?_
      refine z_if_ne (pc := 106) (tgt := 113) K hx1 dX1_wholes_106 (by decide) (fun hc19 => ?_) (fun hc19 => ?_)
      · have h := ite_t h hc19
        refine z_iconst (pc := 109) K dX1_wholes_109 ?_
        refine z_goto (pc := 110) (tgt := 137) K dX1_wholes_110 (by decide) ?_
        refine lv_istore_n (pc := 137) (lv' := [(3, jI 1), (2, jI 0), (0, jR X a0), (1, jI x1)]) K.x K.b dX1_wholes_137 rfl hl (by decide) rfl (fun ls hl => ?_)
        refine z_iconst (pc := 138) K dX1_wholes_138 ?_
        refine lv_istore (pc := 139) (lv' := [(4, jI 0), (3, jI 1), (2, jI 0), (0, jR X a0), (1, jI x1)]) K.x K.b dX1_wholes_139 hl (by decide) rfl (fun ls hl => ?_)
        obtain ⟨n20, h⟩ := h
        exact wk_X1_wholes_141 a0 x1 Q σ0 K hx1 n20 σ 0 1 0 _ _ _ h hw hk ht0 ⟨by decide, by decide⟩ ⟨by decide, by decide⟩ ⟨by decide, by decide⟩ (lv_sub hl [3, 4, 2, 1, 0] rfl)
      · have h := ite_f h hc19
        refine lv_iload_n (pc := 113) K.x K.b dX1_wholes_113 rfl (lv_at hl 2 rfl) ?_
        refine z_iconst (pc := 114) K dX1_wholes_114 ?_
        refine z_icmp_ne (pc := 115) (tgt := 128) K hx1 ⟨by decide, by decide⟩ dX1_wholes_115 (by decide) (fun hc21 => ?_) (fun hc21 => ?_)
        · have h := ite_t h hc21
          refine z_aload_n (pc := 118) K dX1_wholes_118 rfl (lv_at hl 1 rfl) ?_
          refine z_get (pc := 119) (t := 1) (k := 11) K hw (ob ht0) zq1 (by decide) q529 (fun _ h => h) dX1_wholes_119 (zval_r kf_1_11) ?_
          have hg22 : tg σ (σ a0 11 0) = 5 := (z_tg (t := 1) (r := 5) hw ht0 ⟨by decide, by decide⟩ kf_1_11 kn_1_11 kt_1_11 (by decide) (by decide))
          refine z_getN (pc := 122) (t := 5) (k := 2) K hw (ob hg22) zq5 (by decide) q361 (fun _ h => h) dX1_wholes_122 (zval_i kf_5_2) ?_
          refine z_goto (pc := 125) (tgt := 137) K dX1_wholes_125 (by decide) ?_
          refine lv_istore_n (pc := 137) (lv' := [(3, jI (σ (σ a0 11 0) 2 0)), (2, jI 0), (0, jR X a0), (1, jI x1)]) K.x K.b dX1_wholes_137 rfl hl (by decide) rfl (fun ls hl => ?_)
          refine z_iconst (pc := 138) K dX1_wholes_138 ?_
          refine lv_istore (pc := 139) (lv' := [(4, jI 0), (3, jI (σ (σ a0 11 0) 2 0)), (2, jI 0), (0, jR X a0), (1, jI x1)]) K.x K.b dX1_wholes_139 hl (by decide) rfl (fun ls hl => ?_)
          obtain ⟨n23, h⟩ := h
          exact wk_X1_wholes_141 a0 x1 Q σ0 K hx1 n23 σ 0 (σ (σ a0 11 0) 2 0) 0 _ _ _ h hw hk ht0 ⟨by decide, by decide⟩ (z_rI hw (ob (t := 5) hg22) kf_5_2) ⟨by decide, by decide⟩ (lv_sub hl [3, 4, 2, 1, 0] rfl)
        · have h := ite_f h hc21
          refine z_aload_n (pc := 128) K dX1_wholes_128 rfl (lv_at hl 1 rfl) ?_
          refine z_get (pc := 129) (t := 1) (k := 11) K hw (ob ht0) zq1 (by decide) q529 (fun _ h => h) dX1_wholes_129 (zval_r kf_1_11) ?_
          have hg24 : tg σ (σ a0 11 0) = 5 := (z_tg (t := 1) (r := 5) hw ht0 ⟨by decide, by decide⟩ kf_1_11 kn_1_11 kt_1_11 (by decide) (by decide))
          refine z_getN (pc := 132) (t := 5) (k := 2) K hw (ob hg24) zq5 (by decide) q361 (fun _ h => h) dX1_wholes_132 (zval_i kf_5_2) ?_
          refine z_iconst (pc := 135) K dX1_wholes_135 ?_
          refine z_isub (pc := 136) K dX1_wholes_136 ?_
          refine lv_istore_n (pc := 137) (lv' := [(3, jI ((σ (σ a0 11 0) 2 0) - 1)), (2, jI 0), (0, jR X a0), (1, jI x1)]) K.x K.b dX1_wholes_137 rfl hl (by decide) rfl (fun ls hl => ?_)
          refine z_iconst (pc := 138) K dX1_wholes_138 ?_
          refine lv_istore (pc := 139) (lv' := [(4, jI 0), (3, jI ((σ (σ a0 11 0) 2 0) - 1)), (2, jI 0), (0, jR X a0), (1, jI x1)]) K.x K.b dX1_wholes_139 hl (by decide) rfl (fun ls hl => ?_)
          obtain ⟨hr25, h⟩ := h
          obtain ⟨n26, h⟩ := h
          exact wk_X1_wholes_141 a0 x1 Q σ0 K hx1 n26 σ 0 ((σ (σ a0 11 0) 2 0) - 1) 0 _ _ _ h hw hk ht0 ⟨by decide, by decide⟩ hr25 ⟨by decide, by decide⟩ (lv_sub hl [3, 4, 2, 1, 0] rfl)
set_option maxHeartbeats 4000000 in
theorem wk_X1_wholes_b65 {X : Cxt} {p : Program} {l : Launch} {e : Env} {s : State} {m : MethodId} {args : Array Value} {below : List Frame} {meth : Method} {c : Code} (a0 : Int) (x1 : Int) (Q : Int → St → Prop) (σ0 : St) (K : MCx X p s m args meth c cX1_wholes 5 "CombTable" (some .int)) (hx1 : rng x1) : ∀ (σ : St) (s1 : Int) (H : Heap) (locs : List Loc) (ls : Array Slot), wp_X1_wholes_b65 a0 x1 Q σ0 σ s1 → Wc X σ s.heap H locs → Kp ws_X1_wholes σ0 σ → tg σ a0 = 1 → rng s1 → lv_has ls 5 [(0, jR X a0), (1, jI x1)] → W p l e (zrm 70 0 0) s m args below meth c H locs 0 0 (MQT below (ZQ X (qI (fun r σ' => Kp ws_X1_wholes σ0 σ' ∧ Q r σ')) (fun _ _ => False)) args s 0 0 (zA X)) (F0 m 65 ls [jI s1, jR X a0]) := by
  intro σ s1 H locs ls h hw hk ht0 hs1 hl
  refine z_puti (pc := 65) (t := 1) 22 K hw (ob ht0) zq1 (by decide) kf_1_22 zt_1_22 hs1 q540 (fun _ h => h) rfl dX1_wholes_65 (fun _ _ hw1 => ?_)
  obtain ⟨σ2, e3⟩ : ∃ z, z = st σ a0 22 0 s1 := ⟨_, rfl⟩
  have h := h σ2 e3
  have hw1 := wc_e e3 hw1
  have hk4 := kp_e e3 hk wo_X1_wholes (by decide) ht0 (t := 1) (by decide)
  have hg5 : tg σ2 a0 = 1 := (tg_e e3 (by decide)).trans ht0
  refine z_iconst (pc := 68) K dX1_wholes_68 ?_
  refine lv_istore_n (pc := 69) (lv' := [(2, jI 0), (0, jR X a0), (1, jI x1)]) K.x K.b dX1_wholes_69 rfl hl (by decide) rfl (fun ls hl => ?_)
  obtain ⟨n6, h⟩ := h
  exact wk_X1_wholes_70 a0 x1 Q σ0 K hx1 n6 σ2 0 _ _ _ h hw1 hk4 hg5 ⟨by decide, by decide⟩ (lv_sub hl [1, 2, 0] rfl)
set_option maxHeartbeats 4000000 in
theorem met_X1_wholes (X : Cxt) (l : Launch) (σ : St) (a0 : Int) (x1 : Int) (ht0 : tg σ a0 = 1) (hx1 : rng x1) (Q : Int → St → Prop) (h : wp_X1_wholes σ a0 x1 Q) : MetT l yX1_wholes (ws_ yX1_wholes cX1_wholes 5 (some .int)) (zrm 70 0 0) (ZP X σ [jR X a0, jI x1]) (ZQ X (qI (fun r σ' => Kp ws_X1_wholes σ σ' ∧ Q r σ')) (fun _ _ => False)) 0 0 (zA X) := by
  refine z_start (own := "CombTable") (lv := [(0, jR X a0), (1, jI x1)]) (by decide) rfl (by simp [lv_args, jR_cat, jI_cat, jL_cat]) (by simp [lg_sl, jR_cat, jI_cat, jL_cat]) (fun p e s m below meth c ls K _ _ hw hl => ?_)
  have hk : Kp ws_X1_wholes σ σ := kp_rf σ
  refine lv_iload_n (pc := 0) K.x K.b dX1_wholes_0 rfl (lv_at hl 1 rfl) ?_
  refine z_iconst (pc := 1) K dX1_wholes_1 ?_
  refine z_iconst (pc := 2) K dX1_wholes_2 ?_
  refine zr_z (pc := 3) (maxL := 3) K hw (met_X1_isIn X l σ x1 0 2 hx1 ⟨by decide, by decide⟩ ⟨by decide, by decide⟩ _ h) (i_S (n := 3) (As := [jI x1, jI 0, jI 2]) K (by decide) q1010 q682 q90 (sg_of K q683) rfl rfl dX1_wholes_3) (locw K q683 q90) ⟨by decide, by decide⟩ hl.1 dX1_wholes_3 (Nat.le_of_ble_eq_true rfl) ⟨Nat.le_refl _, Nat.le_refl _⟩ (fun r1 _ _ hr2 h hw5 => ?_)
  refine z_if_ne (pc := 6) (tgt := 11) K (b01r hr2) dX1_wholes_6 (by decide) (fun hc6 => ?_) (fun hc6 => ?_)
  · have h := ite_t h hc6
    refine z_iconst (pc := 9) K dX1_wholes_9 ?_
    exact z_iret (pc := 10) K hw5 ⟨by decide, by decide⟩ ⟨hk, h⟩ dX1_wholes_10
  · have h := ite_f h hc6
    refine z_aload_n (pc := 11) K dX1_wholes_11 rfl (lv_at hl 0 rfl) ?_
    refine z_aload_n (pc := 12) K dX1_wholes_12 rfl (lv_at hl 0 rfl) ?_
    refine z_get (pc := 13) (t := 1) (k := 11) K hw5 (ob ht0) zq1 (by decide) q529 (fun _ h => h) dX1_wholes_13 (zval_r kf_1_11) ?_
    refine z_sipush (pc := 16) K dX1_wholes_16 (by decide) ?_
    have hg7 : tg σ (σ a0 11 0) = 5 := (z_tg (t := 1) (r := 5) hw5 ht0 ⟨by decide, by decide⟩ kf_1_11 kn_1_11 kt_1_11 (by decide) (by decide))
    refine zr_i (pc := 19) (maxL := 6) K hw5 (met_X1_ways X l σ a0 (σ a0 11 0) 20000 ht0 hg7 ⟨by decide, by decide⟩ _ h) (i_V (n := 2) (t := 1) (As := [jR X (σ a0 11 0), jI 20000]) K hw5 (ob ht0) zq1 (by decide) q1071 q1073 qs9 (sg_of K q1074) rfl rfl dX1_wholes_19) (locw K q1074 q90) ⟨by decide, by decide⟩ hl.1 dX1_wholes_19 (Nat.le_of_ble_eq_true rfl) ⟨Nat.le_refl _, Nat.le_refl _⟩ (fun r8 _ _ hr9 h hw12 => ?_)
    refine z_sipush (pc := 22) K dX1_wholes_22 (by decide) ?_
    refine z_icmp_le (pc := 25) (tgt := 31) K hr9 ⟨by decide, by decide⟩ dX1_wholes_25 (by decide) (fun hc13 => ?_) (fun hc13 => ?_)
    · have h := ite_t h hc13
      refine z_bipush (pc := 28) K dX1_wholes_28 (by decide) ?_
      exact z_iret (pc := 30) K hw12 ⟨by decide, by decide⟩ ⟨hk, h⟩ dX1_wholes_30
    · have h := ite_f h hc13
      refine z_aload_n (pc := 31) K dX1_wholes_31 rfl (lv_at hl 0 rfl) ?_
      refine z_iconst (pc := 32) K dX1_wholes_32 ?_
      refine z_putz (pc := 33) (t := 1) 23 K hw12 (ob ht0) zq1 (by decide) kf_1_23 zt_1_23 ⟨by decide, by decide⟩ q541 (fun _ h => h) rfl dX1_wholes_33 (fun _ _ hw14 => ?_)
      obtain ⟨σ15, e16⟩ : ∃ z, z = st σ a0 23 0 1 := ⟨_, rfl⟩
      have h := h σ15 e16
      have hw14 := wc_e e16 hw14
      have hk17 := kp_e e16 hk wo_X1_wholes (by decide) ht0 (t := 1) (by decide)
      have hg18 : tg σ15 a0 = 1 := (tg_e e16 (by decide)).trans ht0
      refine z_aload_n (pc := 36) K dX1_wholes_36 rfl (lv_at hl 0 rfl) ?_
      refine lv_iload_n (pc := 37) K.x K.b dX1_wholes_37 rfl (lv_at hl 1 rfl) ?_
      refine z_iconst (pc := 38) K dX1_wholes_38 ?_
      refine z_icmp_ne (pc := 39) (tgt := 58) K hx1 ⟨by decide, by decide⟩ dX1_wholes_39 (by decide) (fun hc19 => ?_) (fun hc19 => ?_)
      · have h := ite_t h hc19
        refine z_iconst (pc := 42) K dX1_wholes_42 ?_
        refine z_aload_n (pc := 43) K dX1_wholes_43 rfl (lv_at hl 0 rfl) ?_
        refine z_get (pc := 44) (t := 1) (k := 11) K hw14 (ob hg18) zq1 (by decide) q529 (fun _ h => h) dX1_wholes_44 (zval_r kf_1_11) ?_
        have hg20 : tg σ15 (σ15 a0 11 0) = 5 := (z_tg (t := 1) (r := 5) hw14 hg18 ⟨by decide, by decide⟩ kf_1_11 kn_1_11 kt_1_11 (by decide) (by decide))
        refine z_getN (pc := 47) (t := 5) (k := 2) K hw14 (ob hg20) zq5 (by decide) q361 (fun _ h => h) dX1_wholes_47 (zval_i kf_5_2) ?_
        refine z_iconst (pc := 50) K dX1_wholes_50 ?_
        refine z_isub (pc := 51) K dX1_wholes_51 ?_
        obtain ⟨hr21, h⟩ := h
        refine z_mmax (pc := 52) K ⟨by decide, by decide⟩ hr21 q1078 q1079 q113 q1080 ⟨by decide, by decide⟩ ⟨Nat.le_refl _, Nat.le_refl _⟩ hl.1 (Nat.le_of_ble_eq_true rfl) dX1_wholes_52 ?_
        refine z_goto (pc := 55) (tgt := 65) K dX1_wholes_55 (by decide) ?_
        exact wk_X1_wholes_b65 a0 x1 Q σ K hx1 σ15 (if 0 < (σ15 (σ15 a0 11 0) 2 0) - 1 then (σ15 (σ15 a0 11 0) 2 0) - 1 else 0) _ _ _ h hw14 hk17 hg18 (rng_if hr21 ⟨by decide, by decide⟩) (lv_sub hl [0, 1] rfl)
      · have h := ite_f h hc19
        refine z_aload_n (pc := 58) K dX1_wholes_58 rfl (lv_at hl 0 rfl) ?_
        refine z_get (pc := 59) (t := 1) (k := 11) K hw14 (ob hg18) zq1 (by decide) q529 (fun _ h => h) dX1_wholes_59 (zval_r kf_1_11) ?_
        have hg22 : tg σ15 (σ15 a0 11 0) = 5 := (z_tg (t := 1) (r := 5) hw14 hg18 ⟨by decide, by decide⟩ kf_1_11 kn_1_11 kt_1_11 (by decide) (by decide))
        refine z_getN (pc := 62) (t := 5) (k := 2) K hw14 (ob hg22) zq5 (by decide) q361 (fun _ h => h) dX1_wholes_62 (zval_i kf_5_2) ?_
        exact wk_X1_wholes_b65 a0 x1 Q σ K hx1 σ15 (σ15 (σ15 a0 11 0) 2 0) _ _ _ h hw14 hk17 hg18 (z_rI hw14 (ob (t := 5) hg22) kf_5_2) (lv_sub hl [0, 1] rfl)
def wp_X1_why (σ : St) (a0 : Int) (Q : Int → Prop) : Prop :=
  Q (σ a0 18 0)
set_option maxHeartbeats 4000000 in
theorem met_X1_why (X : Cxt) (l : Launch) (σ : St) (a0 : Int) (ht0 : tg σ a0 = 1) (Q : Int → Prop) (h : wp_X1_why σ a0 Q) : MetT l yX1_why (ws_ yX1_why cX1_why 1 (some .int)) (zrm 1 0 0) (ZP X σ [jR X a0]) (ZQ X (qI (fun r σ' => σ' = σ ∧ Q r)) (fun _ _ => False)) 0 0 (zA X) := by
  refine z_start (own := "CombTable") (lv := [(0, jR X a0)]) (by decide) rfl (by simp [lv_args, jR_cat, jI_cat, jL_cat]) (by simp [lg_sl, jR_cat, jI_cat, jL_cat]) (fun p e s m below meth c ls K _ _ hw hl => ?_)
  refine z_aload_n (pc := 0) K dX1_why_0 rfl (lv_at hl 0 rfl) ?_
  refine z_get (pc := 1) (t := 1) (k := 18) K hw (ob ht0) zq1 (by decide) q536 (fun _ h => h) dX1_why_1 (zval_i kf_1_18) ?_
  exact z_iret (pc := 4) K hw (z_rI hw (ob (t := 1) ht0) kf_1_18) ⟨rfl, h⟩ dX1_why_4
def lp_X1_with_22 (σ : St) (a0 : Int) (x1 : Int) (x2 : Int) (Q : Int → Prop) : Nat → Int → Int → Prop
  | 0 => fun _ _ => False
  | n + 1 => fun v3 v4 => 
    (if v4 < σ (σ a0 8 0) 8 0 then
      wp_X3_stateOf σ (σ a0 8 0) v4 (fun r3 => (if r3 = x1 then
        (if v3 = x2 then
          Q v4
          else
          rng (v3 + 1) ∧ rng (v4 + 1) ∧ (lp_X1_with_22 σ a0 x1 x2 Q n (v3 + 1) (v4 + 1)))
        else
        rng (v4 + 1) ∧ (lp_X1_with_22 σ a0 x1 x2 Q n v3 (v4 + 1))))
      else
      (if x2 = (-1) then
        Q v3
        else
        Q (-1)))
def wp_X1_with (σ : St) (a0 : Int) (x1 : Int) (x2 : Int) (Q : Int → Prop) : Prop :=
  wp_X1_isIn σ x1 1 8 (fun r1 => (if r1 = 0 then
    Q (-1)
    else
    (if x2 < (-1) then
      Q (-1)
      else
      (∃ kk, lp_X1_with_22 σ a0 x1 x2 Q kk 0 0))))
set_option maxHeartbeats 4000000 in
theorem wk_X1_with_22 {X : Cxt} {p : Program} {l : Launch} {e : Env} {s : State} {m : MethodId} {args : Array Value} {below : List Frame} {meth : Method} {c : Code} (σ : St) (a0 : Int) (x1 : Int) (x2 : Int) (Q : Int → Prop) (K : MCx X p s m args meth c cX1_with 5 "CombTable" (some .int)) (hx1 : rng x1) (hx2 : rng x2) : ∀ (n : Nat), ∀ (v3 : Int) (v4 : Int) (H : Heap) (locs : List Loc) (ls : Array Slot), lp_X1_with_22 σ a0 x1 x2 Q n v3 v4 → Wc X σ s.heap H locs → tg σ a0 = 1 → rng v3 → rng v4 → lv_has ls 5 [(0, jR X a0), (1, jI x1), (2, jI x2), (3, jI v3), (4, jI v4)] → W p l e (zrm 3 0 0) s m args below meth c H locs 0 0 (MQT below (ZQ X (qI (fun r σ' => σ' = σ ∧ Q r)) (fun _ _ => False)) args s 0 0 (zA X)) (F0 m 22 ls []) := by
  intro n
  induction n with
  | zero => intro v3 v4 H locs ls h; exact h.elim
  | succ n ih =>
    intro v3 v4 H locs ls h hw ht0 hv3 hv4 hl
    refine lv_iload (pc := 22) K.x K.b dX1_with_22 (lv_at hl 4 rfl) ?_
    refine z_aload_n (pc := 24) K dX1_with_24 rfl (lv_at hl 0 rfl) ?_
    refine z_get (pc := 25) (t := 1) (k := 8) K hw (ob ht0) zq1 (by decide) q524 (fun _ h => h) dX1_with_25 (zval_r kf_1_8) ?_
    have hg1 : tg σ (σ a0 8 0) = 3 := (z_tg (t := 1) (r := 3) hw ht0 ⟨by decide, by decide⟩ kf_1_8 kn_1_8 kt_1_8 (by decide) (by decide))
    refine z_getN (pc := 28) (t := 3) (k := 8) K hw (ob hg1) zq3 (by decide) q323 (fun _ h => h) dX1_with_28 (zval_i kf_3_8) ?_
    refine z_icmp_ge (pc := 31) (tgt := 67) K hv4 (z_rI hw (ob (t := 3) hg1) kf_3_8) dX1_with_31 (by decide) (fun hc2 => ?_) (fun hc2 => ?_)
    · have h := ite_t h hc2
      refine z_aload_n (pc := 34) K dX1_with_34 rfl (lv_at hl 0 rfl) ?_
      refine z_get (pc := 35) (t := 1) (k := 8) K hw (ob ht0) zq1 (by decide) q524 (fun _ h => h) dX1_with_35 (zval_r kf_1_8) ?_
      refine lv_iload (pc := 38) K.x K.b dX1_with_38 (lv_at hl 4 rfl) ?_
      refine zr_i (pc := 40) (maxL := 2) K hw (met_X3_stateOf X l σ (σ a0 8 0) v4 hg1 hv4 _ h) (i_V (n := 1) (t := 3) (As := [jI v4]) K hw (ob hg1) zq3 (by decide) q1015 q1016 q1017 (sg_of K q1018) rfl rfl dX1_with_40) (locw K q1018 q94) ⟨by decide, by decide⟩ hl.1 dX1_with_40 (Nat.le_of_ble_eq_true rfl) ⟨Nat.le_refl _, Nat.le_refl _⟩ (fun r3 _ _ hr4 h hw7 => ?_)
      refine lv_iload_n (pc := 43) K.x K.b dX1_with_43 rfl (lv_at hl 1 rfl) ?_
      refine z_icmp_eq (pc := 44) (tgt := 50) K hr4 hx1 dX1_with_44 (by decide) (fun hc8 => ?_) (fun hc8 => ?_)
      · have h := ite_t h hc8
        refine lv_iload_n (pc := 50) K.x K.b dX1_with_50 rfl (lv_at hl 3 rfl) ?_
        refine lv_iload_n (pc := 51) K.x K.b dX1_with_51 rfl (lv_at hl 2 rfl) ?_
        refine z_icmp_ne (pc := 52) (tgt := 58) K hv3 hx2 dX1_with_52 (by decide) (fun hc9 => ?_) (fun hc9 => ?_)
        · have h := ite_t h hc9
          refine lv_iload (pc := 55) K.x K.b dX1_with_55 (lv_at hl 4 rfl) ?_
          exact z_iret (pc := 57) K hw7 hv4 ⟨rfl, h⟩ dX1_with_57
        · have h := ite_f h hc9
          refine z_iinc (pc := 58) (k := 3) (lv' := [(3, jI (v3 + 1)), (0, jR X a0), (1, jI x1), (2, jI x2), (4, jI v4)]) K dX1_with_58 hl rfl (by decide) rfl (fun ls hl => ?_)
          refine z_iinc (pc := 61) (k := 4) (lv' := [(4, jI (v4 + 1)), (3, jI (v3 + 1)), (0, jR X a0), (1, jI x1), (2, jI x2)]) K dX1_with_61 hl rfl (by decide) rfl (fun ls hl => ?_)
          refine z_goto (pc := 64) (tgt := 22) K dX1_with_64 (by decide) ?_
          obtain ⟨hr10, h⟩ := h
          obtain ⟨hr11, h⟩ := h
          exact ih (v3 + 1) (v4 + 1) _ _ _ h hw7 ht0 hr10 hr11 (lv_sub hl [2, 3, 4, 1, 0] rfl)
      · have h := ite_f h hc8
        refine z_goto (pc := 47) (tgt := 61) K dX1_with_47 (by decide) ?_
        refine z_iinc (pc := 61) (k := 4) (lv' := [(4, jI (v4 + 1)), (0, jR X a0), (1, jI x1), (2, jI x2), (3, jI v3)]) K dX1_with_61 hl rfl (by decide) rfl (fun ls hl => ?_)
        refine z_goto (pc := 64) (tgt := 22) K dX1_with_64 (by decide) ?_
        obtain ⟨hr12, h⟩ := h
        exact ih v3 (v4 + 1) _ _ _ h hw7 ht0 hv3 hr12 (lv_sub hl [1, 2, 3, 4, 0] rfl)
    · have h := ite_f h hc2
      refine lv_iload_n (pc := 67) K.x K.b dX1_with_67 rfl (lv_at hl 2 rfl) ?_
      refine z_iconst (pc := 68) K dX1_with_68 ?_
      refine z_icmp_ne (pc := 69) (tgt := 76) K hx2 ⟨by decide, by decide⟩ dX1_with_69 (by decide) (fun hc13 => ?_) (fun hc13 => ?_)
      · have h := ite_t h hc13
        refine lv_iload_n (pc := 72) K.x K.b dX1_with_72 rfl (lv_at hl 3 rfl) ?_
        refine z_goto (pc := 73) (tgt := 77) K dX1_with_73 (by decide) ?_
        exact z_iret (pc := 77) K hw hv3 ⟨rfl, h⟩ dX1_with_77
      · have h := ite_f h hc13
        refine z_iconst (pc := 76) K dX1_with_76 ?_
        exact z_iret (pc := 77) K hw ⟨by decide, by decide⟩ ⟨rfl, h⟩ dX1_with_77
set_option maxHeartbeats 4000000 in
theorem met_X1_with (X : Cxt) (l : Launch) (σ : St) (a0 : Int) (x1 : Int) (x2 : Int) (ht0 : tg σ a0 = 1) (hx1 : rng x1) (hx2 : rng x2) (Q : Int → Prop) (h : wp_X1_with σ a0 x1 x2 Q) : MetT l yX1_with (ws_ yX1_with cX1_with 5 (some .int)) (zrm 3 0 0) (ZP X σ [jR X a0, jI x1, jI x2]) (ZQ X (qI (fun r σ' => σ' = σ ∧ Q r)) (fun _ _ => False)) 0 0 (zA X) := by
  refine z_start (own := "CombTable") (lv := [(0, jR X a0), (1, jI x1), (2, jI x2)]) (by decide) rfl (by simp [lv_args, jR_cat, jI_cat, jL_cat]) (by simp [lg_sl, jR_cat, jI_cat, jL_cat]) (fun p e s m below meth c ls K _ _ hw hl => ?_)
  refine lv_iload_n (pc := 0) K.x K.b dX1_with_0 rfl (lv_at hl 1 rfl) ?_
  refine z_iconst (pc := 1) K dX1_with_1 ?_
  refine z_bipush (pc := 2) K dX1_with_2 (by decide) ?_
  refine zr_z (pc := 4) (maxL := 3) K hw (met_X1_isIn X l σ x1 1 8 hx1 ⟨by decide, by decide⟩ ⟨by decide, by decide⟩ _ h) (i_S (n := 3) (As := [jI x1, jI 1, jI 8]) K (by decide) q1010 q682 q90 (sg_of K q683) rfl rfl dX1_with_4) (locw K q683 q90) ⟨by decide, by decide⟩ hl.1 dX1_with_4 (Nat.le_of_ble_eq_true rfl) ⟨Nat.le_refl _, Nat.le_refl _⟩ (fun r1 _ _ hr2 h hw5 => ?_)
  refine z_if_eq (pc := 7) (tgt := 15) K (b01r hr2) dX1_with_7 (by decide) (fun hc6 => ?_) (fun hc6 => ?_)
  · have h := ite_t h hc6
    refine z_iconst (pc := 15) K dX1_with_15 ?_
    exact z_iret (pc := 16) K hw5 ⟨by decide, by decide⟩ ⟨rfl, h⟩ dX1_with_16
  · have h := ite_f h hc6
    refine lv_iload_n (pc := 10) K.x K.b dX1_with_10 rfl (lv_at hl 2 rfl) ?_
    refine z_iconst (pc := 11) K dX1_with_11 ?_
    refine z_icmp_ge (pc := 12) (tgt := 17) K hx2 ⟨by decide, by decide⟩ dX1_with_12 (by decide) (fun hc7 => ?_) (fun hc7 => ?_)
    · have h := ite_t h hc7
      refine z_iconst (pc := 15) K dX1_with_15 ?_
      exact z_iret (pc := 16) K hw5 ⟨by decide, by decide⟩ ⟨rfl, h⟩ dX1_with_16
    · have h := ite_f h hc7
      refine z_iconst (pc := 17) K dX1_with_17 ?_
      refine lv_istore_n (pc := 18) (lv' := [(3, jI 0), (0, jR X a0), (1, jI x1), (2, jI x2)]) K.x K.b dX1_with_18 rfl hl (by decide) rfl (fun ls hl => ?_)
      refine z_iconst (pc := 19) K dX1_with_19 ?_
      refine lv_istore (pc := 20) (lv' := [(4, jI 0), (3, jI 0), (0, jR X a0), (1, jI x1), (2, jI x2)]) K.x K.b dX1_with_20 hl (by decide) rfl (fun ls hl => ?_)
      obtain ⟨n8, h⟩ := h
      exact wk_X1_with_22 σ a0 x1 x2 Q K hx1 hx2 n8 0 0 _ _ _ h hw5 ht0 ⟨by decide, by decide⟩ ⟨by decide, by decide⟩ (lv_sub hl [2, 3, 4, 1, 0] rfl)
def ws_X1_without : List (Int × Nat) := [(3, 0), (3, 1), (3, 2), (3, 3), (3, 4), (3, 5), (3, 6), (3, 7), (3, 8), (3, 9)]
theorem wo_X1_without : wsOk ws_X1_without = true := rfl
def wp_X1_without (σ : St) (a0 : Int) (x1 : Int) (x2 : Int) (x3 : Int) (x4 : Int) (Q : Int → St → Prop) : Prop :=
  wp_X3_isWho σ (σ a0 8 0) x1 (fun r2 => (if r2 = 0 then
    Q (-3) σ
    else
    wp_X1_leadsBy σ a0 x2 x3 x4 x1 (fun r8 σ11 => Kp ws_X1_leadsBy σ σ11 → Q r8 σ11)))
set_option maxHeartbeats 4000000 in
theorem met_X1_without (X : Cxt) (l : Launch) (σ : St) (a0 : Int) (x1 : Int) (x2 : Int) (x3 : Int) (x4 : Int) (ht0 : tg σ a0 = 1) (hx1 : rng x1) (hx2 : rng x2) (hx3 : rng x3) (hx4 : rng x4) (Q : Int → St → Prop) (h : wp_X1_without σ a0 x1 x2 x3 x4 Q) : MetT l yX1_without (ws_ yX1_without cX1_without 5 (some .int)) (zrm 70 0 0) (ZP X σ [jR X a0, jI x1, jI x2, jI x3, jI x4]) (ZQ X (qI (fun r σ' => Kp ws_X1_without σ σ' ∧ Q r σ')) (fun _ _ => False)) 0 0 (zA X) := by
  refine z_start (own := "CombTable") (lv := [(0, jR X a0), (1, jI x1), (2, jI x2), (3, jI x3), (4, jI x4)]) (by decide) rfl (by simp [lv_args, jR_cat, jI_cat, jL_cat]) (by simp [lg_sl, jR_cat, jI_cat, jL_cat]) (fun p e s m below meth c ls K _ _ hw hl => ?_)
  have hk : Kp ws_X1_without σ σ := kp_rf σ
  refine z_aload_n (pc := 0) K dX1_without_0 rfl (lv_at hl 0 rfl) ?_
  refine z_get (pc := 1) (t := 1) (k := 8) K hw (ob ht0) zq1 (by decide) q524 (fun _ h => h) dX1_without_1 (zval_r kf_1_8) ?_
  refine lv_iload_n (pc := 4) K.x K.b dX1_without_4 rfl (lv_at hl 1 rfl) ?_
  have hg1 : tg σ (σ a0 8 0) = 3 := (z_tg (t := 1) (r := 3) hw ht0 ⟨by decide, by decide⟩ kf_1_8 kn_1_8 kt_1_8 (by decide) (by decide))
  refine zr_z (pc := 5) (maxL := 2) K hw (met_X3_isWho X l σ (σ a0 8 0) x1 hg1 hx1 _ h) (i_V (n := 1) (t := 3) (As := [jI x1]) K hw (ob hg1) zq3 (by decide) q898 q899 q900 (sg_of K q901) rfl rfl dX1_without_5) (locw K q901 q94) ⟨by decide, by decide⟩ hl.1 dX1_without_5 (Nat.le_of_ble_eq_true rfl) ⟨Nat.le_refl _, Nat.le_refl _⟩ (fun r2 _ _ hr3 h hw6 => ?_)
  refine z_if_eq (pc := 8) (tgt := 23) K (b01r hr3) dX1_without_8 (by decide) (fun hc7 => ?_) (fun hc7 => ?_)
  · have h := ite_t h hc7
    refine z_bipush (pc := 23) K dX1_without_23 (by decide) ?_
    exact z_iret (pc := 25) K hw6 ⟨by decide, by decide⟩ ⟨hk, h⟩ dX1_without_25
  · have h := ite_f h hc7
    refine z_aload_n (pc := 11) K dX1_without_11 rfl (lv_at hl 0 rfl) ?_
    refine lv_iload_n (pc := 12) K.x K.b dX1_without_12 rfl (lv_at hl 2 rfl) ?_
    refine lv_iload_n (pc := 13) K.x K.b dX1_without_13 rfl (lv_at hl 3 rfl) ?_
    refine lv_iload (pc := 14) K.x K.b dX1_without_14 (lv_at hl 4 rfl) ?_
    refine lv_iload_n (pc := 16) K.x K.b dX1_without_16 rfl (lv_at hl 1 rfl) ?_
    refine zc_i (pc := 17) (maxL := 6) K hw6 (met_X1_leadsBy X l σ a0 x2 x3 x4 x1 ht0 hx2 hx3 hx4 hx1 _ h) (i_V (n := 4) (t := 1) (As := [jI x2, jI x3, jI x4, jI x1]) K hw6 (ob ht0) zq1 (by decide) q1165 q1167 qs17 (sg_of K q1168) rfl rfl dX1_without_17) (locw K q1168 q90) ⟨by decide, by decide⟩ hl.1 dX1_without_17 (Nat.le_of_ble_eq_true rfl) ⟨Nat.le_refl _, Nat.le_refl _⟩ (fun r8 σ11 _ _ hr9 hq10 hw12 => ?_)
    obtain ⟨hk13, h⟩ := hq10
    have h := h hk13
    have hk14 := kp_trans wo_X1_without hk hk13 (fun _ q => q) (by decide)
    have hg15 : tg σ11 a0 = 1 := kp_tg hk13 wo_X1_leadsBy ht0 (by decide)
    refine z_goto (pc := 20) (tgt := 25) K dX1_without_20 (by decide) ?_
    exact z_iret (pc := 25) K hw12 hr9 ⟨hk14, h⟩ dX1_without_25
def wp_X1_wrong (σ : St) (a0 : Int) (x1 : Int) (x2 : Int) (Q : Int → Prop) : Prop :=
  wp_X3_isWho σ (σ a0 8 0) x1 (fun r2 => (if r2 = 0 then
    Q (-1)
    else
    wp_X3_isKind σ (σ a0 8 0) x2 (fun r8 => (if r8 = 0 then
      Q (-1)
      else
      (if σ (σ a0 8 0) 8 0 = 400 then
        Q (-1)
        else
        wp_X3_why σ (σ a0 8 0) x1 x2 (fun r15 => Q r15))))))
set_option maxHeartbeats 4000000 in
theorem met_X1_wrong (X : Cxt) (l : Launch) (σ : St) (a0 : Int) (x1 : Int) (x2 : Int) (ht0 : tg σ a0 = 1) (hx1 : rng x1) (hx2 : rng x2) (Q : Int → Prop) (h : wp_X1_wrong σ a0 x1 x2 Q) : MetT l yX1_wrong (ws_ yX1_wrong cX1_wrong 3 (some .int)) (zrm 4 0 0) (ZP X σ [jR X a0, jI x1, jI x2]) (ZQ X (qI (fun r σ' => σ' = σ ∧ Q r)) (fun _ _ => False)) 0 0 (zA X) := by
  refine z_start (own := "CombTable") (lv := [(0, jR X a0), (1, jI x1), (2, jI x2)]) (by decide) rfl (by simp [lv_args, jR_cat, jI_cat, jL_cat]) (by simp [lg_sl, jR_cat, jI_cat, jL_cat]) (fun p e s m below meth c ls K _ _ hw hl => ?_)
  refine z_aload_n (pc := 0) K dX1_wrong_0 rfl (lv_at hl 0 rfl) ?_
  refine z_get (pc := 1) (t := 1) (k := 8) K hw (ob ht0) zq1 (by decide) q524 (fun _ h => h) dX1_wrong_1 (zval_r kf_1_8) ?_
  refine lv_iload_n (pc := 4) K.x K.b dX1_wrong_4 rfl (lv_at hl 1 rfl) ?_
  have hg1 : tg σ (σ a0 8 0) = 3 := (z_tg (t := 1) (r := 3) hw ht0 ⟨by decide, by decide⟩ kf_1_8 kn_1_8 kt_1_8 (by decide) (by decide))
  refine zr_z (pc := 5) (maxL := 2) K hw (met_X3_isWho X l σ (σ a0 8 0) x1 hg1 hx1 _ h) (i_V (n := 1) (t := 3) (As := [jI x1]) K hw (ob hg1) zq3 (by decide) q898 q899 q900 (sg_of K q901) rfl rfl dX1_wrong_5) (locw K q901 q94) ⟨by decide, by decide⟩ hl.1 dX1_wrong_5 (Nat.le_of_ble_eq_true rfl) ⟨Nat.le_refl _, Nat.le_refl _⟩ (fun r2 _ _ hr3 h hw6 => ?_)
  refine z_if_eq (pc := 8) (tgt := 35) K (b01r hr3) dX1_wrong_8 (by decide) (fun hc7 => ?_) (fun hc7 => ?_)
  · have h := ite_t h hc7
    refine z_iconst (pc := 35) K dX1_wrong_35 ?_
    refine z_goto (pc := 36) (tgt := 48) K dX1_wrong_36 (by decide) ?_
    exact z_iret (pc := 48) K hw6 ⟨by decide, by decide⟩ ⟨rfl, h⟩ dX1_wrong_48
  · have h := ite_f h hc7
    refine z_aload_n (pc := 11) K dX1_wrong_11 rfl (lv_at hl 0 rfl) ?_
    refine z_get (pc := 12) (t := 1) (k := 8) K hw6 (ob ht0) zq1 (by decide) q524 (fun _ h => h) dX1_wrong_12 (zval_r kf_1_8) ?_
    refine lv_iload_n (pc := 15) K.x K.b dX1_wrong_15 rfl (lv_at hl 2 rfl) ?_
    refine zr_z (pc := 16) (maxL := 2) K hw6 (met_X3_isKind X l σ (σ a0 8 0) x2 hg1 hx2 _ h) (i_V (n := 1) (t := 3) (As := [jI x2]) K hw6 (ob hg1) zq3 (by decide) q907 q908 q909 (sg_of K q910) rfl rfl dX1_wrong_16) (locw K q910 q94) ⟨by decide, by decide⟩ hl.1 dX1_wrong_16 (Nat.le_of_ble_eq_true rfl) ⟨Nat.le_refl _, Nat.le_refl _⟩ (fun r8 _ _ hr9 h hw12 => ?_)
    refine z_if_eq (pc := 19) (tgt := 35) K (b01r hr9) dX1_wrong_19 (by decide) (fun hc13 => ?_) (fun hc13 => ?_)
    · have h := ite_t h hc13
      refine z_iconst (pc := 35) K dX1_wrong_35 ?_
      refine z_goto (pc := 36) (tgt := 48) K dX1_wrong_36 (by decide) ?_
      exact z_iret (pc := 48) K hw12 ⟨by decide, by decide⟩ ⟨rfl, h⟩ dX1_wrong_48
    · have h := ite_f h hc13
      refine z_aload_n (pc := 22) K dX1_wrong_22 rfl (lv_at hl 0 rfl) ?_
      refine z_get (pc := 23) (t := 1) (k := 8) K hw12 (ob ht0) zq1 (by decide) q524 (fun _ h => h) dX1_wrong_23 (zval_r kf_1_8) ?_
      refine z_getN (pc := 26) (t := 3) (k := 8) K hw12 (ob hg1) zq3 (by decide) q323 (fun _ h => h) dX1_wrong_26 (zval_i kf_3_8) ?_
      refine z_sipush (pc := 29) K dX1_wrong_29 (by decide) ?_
      refine z_icmp_ne (pc := 32) (tgt := 39) K (z_rI hw12 (ob (t := 3) hg1) kf_3_8) ⟨by decide, by decide⟩ dX1_wrong_32 (by decide) (fun hc14 => ?_) (fun hc14 => ?_)
      · have h := ite_t h hc14
        refine z_iconst (pc := 35) K dX1_wrong_35 ?_
        refine z_goto (pc := 36) (tgt := 48) K dX1_wrong_36 (by decide) ?_
        exact z_iret (pc := 48) K hw12 ⟨by decide, by decide⟩ ⟨rfl, h⟩ dX1_wrong_48
      · have h := ite_f h hc14
        refine z_aload_n (pc := 39) K dX1_wrong_39 rfl (lv_at hl 0 rfl) ?_
        refine z_get (pc := 40) (t := 1) (k := 8) K hw12 (ob ht0) zq1 (by decide) q524 (fun _ h => h) dX1_wrong_40 (zval_r kf_1_8) ?_
        refine lv_iload_n (pc := 43) K.x K.b dX1_wrong_43 rfl (lv_at hl 1 rfl) ?_
        refine lv_iload_n (pc := 44) K.x K.b dX1_wrong_44 rfl (lv_at hl 2 rfl) ?_
        refine zr_i (pc := 45) (maxL := 5) K hw12 (met_X3_why X l σ (σ a0 8 0) x1 x2 hg1 hx1 hx2 _ h) (i_V (n := 2) (t := 3) (As := [jI x1, jI x2]) K hw12 (ob hg1) zq3 (by decide) q944 q916 q917 (sg_of K q918) rfl rfl dX1_wrong_45) (locw K q918 q94) ⟨by decide, by decide⟩ hl.1 dX1_wrong_45 (Nat.le_of_ble_eq_true rfl) ⟨Nat.le_refl _, Nat.le_refl _⟩ (fun r15 _ _ hr16 h hw19 => ?_)
        exact z_iret (pc := 48) K hw19 hr16 ⟨rfl, h⟩ dX1_wrong_48
