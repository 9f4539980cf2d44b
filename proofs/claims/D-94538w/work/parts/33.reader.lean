/-! printed by gen/walk2.py -/
set_option maxRecDepth 100000
def lp_X6_is_23 (σ : St) (a0 : Int) (o1 : Int) (Q : Int → Prop) : Nat → Int → Prop
  | 0 => fun _ => False
  | n + 1 => fun v2 => 
    (if v2 < σ a0 5 0 then
      (0 ≤ (σ a0 2 0) + v2 ∧ (σ a0 2 0) + v2 < 940) ∧ (0 ≤ v2 ∧ v2 < slen o1) ∧ (if σ (σ a0 7 0) 0 ((σ a0 2 0) + v2) = schr o1 v2 then
        rng (v2 + 1) ∧ (lp_X6_is_23 σ a0 o1 Q n (v2 + 1))
        else
        Q 0)
      else
      Q 1)
def wp_X6_is (σ : St) (a0 : Int) (o1 : Int) (Q : Int → Prop) : Prop :=
  (if σ a0 3 0 = 1 then
    (if σ a0 5 0 = slen o1 then
      (∃ kk, lp_X6_is_23 σ a0 o1 Q kk 0)
      else
      Q 0)
    else
    Q 0)
set_option maxHeartbeats 4000000 in
theorem wk_X6_is_23_6 {X : Cxt} {p : Program} {l : Launch} {e : Env} {s : State} {m : MethodId} {args : Array Value} {below : List Frame} {meth : Method} {c : Code} (σ : St) (a0 : Int) (o1 : Int) (Q : Int → Prop) (K : MCx X p s m args meth c cX6_is 3 "CombTable$Reader" (some .boolean)) (hs1 : o1 ≤ -2 ∧ -40 < o1) : ∀ (n : Nat), ∀ (v2 : Int) (H : Heap) (locs : List Loc) (ls : Array Slot), lp_X6_is_23 σ a0 o1 Q n v2 → Wc X σ s.heap H locs → tg σ a0 = 6 → rng v2 → lv_has ls 3 [(0, jR X a0), (1, jR X o1), (2, jI v2)] → W p l e (zrm 5 0 0) s m args below meth c H locs 0 0 (MQT below (ZQ X (qZ (fun r σ' => σ' = σ ∧ Q r)) (fun _ _ => False)) args s 0 0 (zA X)) (F0 m 23 ls []) := by
  intro n
  induction n with
  | zero => intro v2 H locs ls h; exact h.elim
  | succ n ih =>
    intro v2 H locs ls h hw ht0 hv2 hl
    refine lv_iload_n (pc := 23) K.x K.b dX6_is_23 rfl (lv_at hl 2 rfl) ?_
    refine z_aload_n (pc := 24) K dX6_is_24 rfl (lv_at hl 0 rfl) ?_
    refine z_get (pc := 25) (t := 6) (k := 5) K hw (ob (t := 6) ht0) zq6 (by decide) q398 (fun _ h => h) dX6_is_25 (zval_i kf_6_5) ?_
    refine z_icmp_ge (pc := 28) (tgt := 61) K hv2 (z_rI hw (ob (t := 6) ht0) kf_6_5) dX6_is_28 (by decide) (fun hc1 => ?_) (fun hc1 => ?_)
    · have h := ite_t h hc1
      refine z_aload_n (pc := 31) K dX6_is_31 rfl (lv_at hl 0 rfl) ?_
      refine z_get (pc := 32) (t := 6) (k := 7) K hw (ob (t := 6) ht0) zq6 (by decide) q402 (fun _ h => h) dX6_is_32 (zval_r kf_6_7) ?_
      have hg2 : tg σ (σ a0 7 0) = 1 := (z_tg (t := 6) (r := 1) hw ht0 ⟨by decide, by decide⟩ kf_6_7 kn_6_7 kt_6_7 (by decide) (by decide))
      refine z_getN (pc := 35) (t := 1) (k := 0) K hw (ob (t := 1) hg2) zq1 (by decide) q510 (fun _ h => h) dX6_is_35 (zval_p (κ := 0) kf_1_0) ?_
      refine z_aload_n (pc := 38) K dX6_is_38 rfl (lv_at hl 0 rfl) ?_
      refine z_get (pc := 39) (t := 6) (k := 2) K hw (ob (t := 6) ht0) zq6 (by decide) q385 (fun _ h => h) dX6_is_39 (zval_i kf_6_2) ?_
      refine lv_iload_n (pc := 42) K.x K.b dX6_is_42 rfl (lv_at hl 2 rfl) ?_
      refine z_iadd (pc := 43) K dX6_is_43 ?_
      obtain ⟨hj3, h⟩ := h
      refine z_bald (pc := 44) (t := 1) K hw hg2 ⟨by decide, by decide⟩ kf_1_0 kl_1_0 hj3 (by decide) dX6_is_44 ?_
      refine z_aload_n (pc := 45) K dX6_is_45 rfl (lv_at hl 1 rfl) ?_
      refine lv_iload_n (pc := 46) K.x K.b dX6_is_46 rfl (lv_at hl 2 rfl) ?_
      obtain ⟨hj4, h⟩ := h
      refine z_schr (pc := 47) K hw hs1 hj4 q716 ⟨by decide, by decide⟩ ⟨Nat.le_refl _, Nat.le_refl _⟩ hl.1 (Nat.le_of_ble_eq_true rfl) dX6_is_47 (fun _ _ hw5 hr6 => ?_)
      refine z_icmp_eq (pc := 50) (tgt := 55) K (byte_r (z_elB (t := 1) hw hg2 ⟨by decide, by decide⟩ kf_1_0 kl_1_0 hj3)) hr6 dX6_is_50 (by decide) (fun hc7 => ?_) (fun hc7 => ?_)
      · have h := ite_t h hc7
        refine z_iinc (pc := 55) (k := 2) (lv' := [(2, jI (v2 + 1)), (0, jR X a0), (1, jR X o1)]) K dX6_is_55 hl rfl (by decide) (by simp [jR_cat]) (fun ls hl => ?_)
        refine z_goto (pc := 58) (tgt := 23) K dX6_is_58 (by decide) ?_
        obtain ⟨hr8, h⟩ := h
        exact ih (v2 + 1) _ _ _ h hw5 ht0 hr8 (lv_sub hl [1, 2, 0] rfl)
      · have h := ite_f h hc7
        refine z_iconst (pc := 53) K dX6_is_53 ?_
        exact z_zret (pc := 54) K hw5 ⟨by decide, by decide⟩ ⟨rfl, h⟩ dX6_is_54
    · have h := ite_f h hc1
      refine z_iconst (pc := 61) K dX6_is_61 ?_
      exact z_zret (pc := 62) K hw ⟨by decide, by decide⟩ ⟨rfl, h⟩ dX6_is_62
set_option maxHeartbeats 4000000 in
theorem met_X6_is_6 (X : Cxt) (l : Launch) (σ : St) (a0 : Int) (o1 : Int) (ht0 : tg σ a0 = 6) (hs1 : o1 ≤ -2 ∧ -40 < o1) (Q : Int → Prop) (h : wp_X6_is σ a0 o1 Q) : MetT l yX6_is (ws_ yX6_is cX6_is 3 (some .boolean)) (zrm 5 0 0) (ZP X σ [jR X a0, jR X o1]) (ZQ X (qZ (fun r σ' => σ' = σ ∧ Q r)) (fun _ _ => False)) 0 0 (zA X) := by
  refine z_start (own := "CombTable$Reader") (lv := [(0, jR X a0), (1, jR X o1)]) (by decide) rfl (by simp [lv_args, jR_cat, jI_cat, jL_cat]) (by simp [lg_sl, jR_cat, jI_cat, jL_cat]) (fun p e s m below meth c ls K _ _ hw hl => ?_)
  refine z_aload_n (pc := 0) K dX6_is_0 rfl (lv_at hl 0 rfl) ?_
  refine z_get (pc := 1) (t := 6) (k := 3) K hw (ob (t := 6) ht0) zq6 (by decide) q394 (fun _ h => h) dX6_is_1 (zval_i kf_6_3) ?_
  refine z_iconst (pc := 4) K dX6_is_4 ?_
  refine z_icmp_ne (pc := 5) (tgt := 19) K (z_rI hw (ob (t := 6) ht0) kf_6_3) ⟨by decide, by decide⟩ dX6_is_5 (by decide) (fun hc1 => ?_) (fun hc1 => ?_)
  · have h := ite_t h hc1
    refine z_aload_n (pc := 8) K dX6_is_8 rfl (lv_at hl 0 rfl) ?_
    refine z_get (pc := 9) (t := 6) (k := 5) K hw (ob (t := 6) ht0) zq6 (by decide) q398 (fun _ h => h) dX6_is_9 (zval_i kf_6_5) ?_
    refine z_aload_n (pc := 12) K dX6_is_12 rfl (lv_at hl 1 rfl) ?_
    refine z_slen (pc := 13) K hw hs1 q706 ⟨by decide, by decide⟩ ⟨Nat.le_refl _, Nat.le_refl _⟩ hl.1 (Nat.le_of_ble_eq_true rfl) dX6_is_13 (fun _ _ hw2 => ?_)
    refine z_icmp_eq (pc := 16) (tgt := 21) K (z_rI hw (ob (t := 6) ht0) kf_6_5) (sl_r hs1) dX6_is_16 (by decide) (fun hc3 => ?_) (fun hc3 => ?_)
    · have h := ite_t h hc3
      refine z_iconst (pc := 21) K dX6_is_21 ?_
      refine lv_istore_n (pc := 22) (lv' := [(2, jI 0), (0, jR X a0), (1, jR X o1)]) K.x K.b dX6_is_22 rfl hl (by decide) (by simp [jR_cat]) (fun ls hl => ?_)
      obtain ⟨nf4, h⟩ := h
      exact wk_X6_is_23_6 σ a0 o1 Q K hs1 nf4 0 _ _ _ h hw2 ht0 ⟨by decide, by decide⟩ (lv_sub hl [1, 2, 0] rfl)
    · have h := ite_f h hc3
      refine z_iconst (pc := 19) K dX6_is_19 ?_
      exact z_zret (pc := 20) K hw2 ⟨by decide, by decide⟩ ⟨rfl, h⟩ dX6_is_20
  · have h := ite_f h hc1
    refine z_iconst (pc := 19) K dX6_is_19 ?_
    exact z_zret (pc := 20) K hw ⟨by decide, by decide⟩ ⟨rfl, h⟩ dX6_is_20
set_option maxHeartbeats 4000000 in
theorem wk_X6_is_23_7 {X : Cxt} {p : Program} {l : Launch} {e : Env} {s : State} {m : MethodId} {args : Array Value} {below : List Frame} {meth : Method} {c : Code} (σ : St) (a0 : Int) (o1 : Int) (Q : Int → Prop) (K : MCx X p s m args meth c cX6_is 3 "CombTable$Reader" (some .boolean)) (hs1 : o1 ≤ -2 ∧ -40 < o1) : ∀ (n : Nat), ∀ (v2 : Int) (H : Heap) (locs : List Loc) (ls : Array Slot), lp_X6_is_23 σ a0 o1 Q n v2 → Wc X σ s.heap H locs → tg σ a0 = 7 → rng v2 → lv_has ls 3 [(0, jR X a0), (1, jR X o1), (2, jI v2)] → W p l e (zrm 5 0 0) s m args below meth c H locs 0 0 (MQT below (ZQ X (qZ (fun r σ' => σ' = σ ∧ Q r)) (fun _ _ => False)) args s 0 0 (zA X)) (F0 m 23 ls []) := by
  intro n
  induction n with
  | zero => intro v2 H locs ls h; exact h.elim
  | succ n ih =>
    intro v2 H locs ls h hw ht0 hv2 hl
    refine lv_iload_n (pc := 23) K.x K.b dX6_is_23 rfl (lv_at hl 2 rfl) ?_
    refine z_aload_n (pc := 24) K dX6_is_24 rfl (lv_at hl 0 rfl) ?_
    refine z_get (pc := 25) (t := 7) (k := 5) K hw (ob (t := 7) ht0) zq7 (by decide) q398 (fun _ h => h) dX6_is_25 (zval_i kf_7_5) ?_
    refine z_icmp_ge (pc := 28) (tgt := 61) K hv2 (z_rI hw (ob (t := 7) ht0) kf_7_5) dX6_is_28 (by decide) (fun hc1 => ?_) (fun hc1 => ?_)
    · have h := ite_t h hc1
      refine z_aload_n (pc := 31) K dX6_is_31 rfl (lv_at hl 0 rfl) ?_
      refine z_get (pc := 32) (t := 7) (k := 7) K hw (ob (t := 7) ht0) zq7 (by decide) q402 (fun _ h => h) dX6_is_32 (zval_r kf_7_7) ?_
      have hg2 : tg σ (σ a0 7 0) = 1 := (z_tg (t := 7) (r := 1) hw ht0 ⟨by decide, by decide⟩ kf_7_7 kn_7_7 kt_7_7 (by decide) (by decide))
      refine z_getN (pc := 35) (t := 1) (k := 0) K hw (ob (t := 1) hg2) zq1 (by decide) q510 (fun _ h => h) dX6_is_35 (zval_p (κ := 0) kf_1_0) ?_
      refine z_aload_n (pc := 38) K dX6_is_38 rfl (lv_at hl 0 rfl) ?_
      refine z_get (pc := 39) (t := 7) (k := 2) K hw (ob (t := 7) ht0) zq7 (by decide) q385 (fun _ h => h) dX6_is_39 (zval_i kf_7_2) ?_
      refine lv_iload_n (pc := 42) K.x K.b dX6_is_42 rfl (lv_at hl 2 rfl) ?_
      refine z_iadd (pc := 43) K dX6_is_43 ?_
      obtain ⟨hj3, h⟩ := h
      refine z_bald (pc := 44) (t := 1) K hw hg2 ⟨by decide, by decide⟩ kf_1_0 kl_1_0 hj3 (by decide) dX6_is_44 ?_
      refine z_aload_n (pc := 45) K dX6_is_45 rfl (lv_at hl 1 rfl) ?_
      refine lv_iload_n (pc := 46) K.x K.b dX6_is_46 rfl (lv_at hl 2 rfl) ?_
      obtain ⟨hj4, h⟩ := h
      refine z_schr (pc := 47) K hw hs1 hj4 q716 ⟨by decide, by decide⟩ ⟨Nat.le_refl _, Nat.le_refl _⟩ hl.1 (Nat.le_of_ble_eq_true rfl) dX6_is_47 (fun _ _ hw5 hr6 => ?_)
      refine z_icmp_eq (pc := 50) (tgt := 55) K (byte_r (z_elB (t := 1) hw hg2 ⟨by decide, by decide⟩ kf_1_0 kl_1_0 hj3)) hr6 dX6_is_50 (by decide) (fun hc7 => ?_) (fun hc7 => ?_)
      · have h := ite_t h hc7
        refine z_iinc (pc := 55) (k := 2) (lv' := [(2, jI (v2 + 1)), (0, jR X a0), (1, jR X o1)]) K dX6_is_55 hl rfl (by decide) (by simp [jR_cat]) (fun ls hl => ?_)
        refine z_goto (pc := 58) (tgt := 23) K dX6_is_58 (by decide) ?_
        obtain ⟨hr8, h⟩ := h
        exact ih (v2 + 1) _ _ _ h hw5 ht0 hr8 (lv_sub hl [1, 2, 0] rfl)
      · have h := ite_f h hc7
        refine z_iconst (pc := 53) K dX6_is_53 ?_
        exact z_zret (pc := 54) K hw5 ⟨by decide, by decide⟩ ⟨rfl, h⟩ dX6_is_54
    · have h := ite_f h hc1
      refine z_iconst (pc := 61) K dX6_is_61 ?_
      exact z_zret (pc := 62) K hw ⟨by decide, by decide⟩ ⟨rfl, h⟩ dX6_is_62
set_option maxHeartbeats 4000000 in
theorem met_X6_is_7 (X : Cxt) (l : Launch) (σ : St) (a0 : Int) (o1 : Int) (ht0 : tg σ a0 = 7) (hs1 : o1 ≤ -2 ∧ -40 < o1) (Q : Int → Prop) (h : wp_X6_is σ a0 o1 Q) : MetT l yX6_is (ws_ yX6_is cX6_is 3 (some .boolean)) (zrm 5 0 0) (ZP X σ [jR X a0, jR X o1]) (ZQ X (qZ (fun r σ' => σ' = σ ∧ Q r)) (fun _ _ => False)) 0 0 (zA X) := by
  refine z_start (own := "CombTable$Reader") (lv := [(0, jR X a0), (1, jR X o1)]) (by decide) rfl (by simp [lv_args, jR_cat, jI_cat, jL_cat]) (by simp [lg_sl, jR_cat, jI_cat, jL_cat]) (fun p e s m below meth c ls K _ _ hw hl => ?_)
  refine z_aload_n (pc := 0) K dX6_is_0 rfl (lv_at hl 0 rfl) ?_
  refine z_get (pc := 1) (t := 7) (k := 3) K hw (ob (t := 7) ht0) zq7 (by decide) q394 (fun _ h => h) dX6_is_1 (zval_i kf_7_3) ?_
  refine z_iconst (pc := 4) K dX6_is_4 ?_
  refine z_icmp_ne (pc := 5) (tgt := 19) K (z_rI hw (ob (t := 7) ht0) kf_7_3) ⟨by decide, by decide⟩ dX6_is_5 (by decide) (fun hc1 => ?_) (fun hc1 => ?_)
  · have h := ite_t h hc1
    refine z_aload_n (pc := 8) K dX6_is_8 rfl (lv_at hl 0 rfl) ?_
    refine z_get (pc := 9) (t := 7) (k := 5) K hw (ob (t := 7) ht0) zq7 (by decide) q398 (fun _ h => h) dX6_is_9 (zval_i kf_7_5) ?_
    refine z_aload_n (pc := 12) K dX6_is_12 rfl (lv_at hl 1 rfl) ?_
    refine z_slen (pc := 13) K hw hs1 q706 ⟨by decide, by decide⟩ ⟨Nat.le_refl _, Nat.le_refl _⟩ hl.1 (Nat.le_of_ble_eq_true rfl) dX6_is_13 (fun _ _ hw2 => ?_)
    refine z_icmp_eq (pc := 16) (tgt := 21) K (z_rI hw (ob (t := 7) ht0) kf_7_5) (sl_r hs1) dX6_is_16 (by decide) (fun hc3 => ?_) (fun hc3 => ?_)
    · have h := ite_t h hc3
      refine z_iconst (pc := 21) K dX6_is_21 ?_
      refine lv_istore_n (pc := 22) (lv' := [(2, jI 0), (0, jR X a0), (1, jR X o1)]) K.x K.b dX6_is_22 rfl hl (by decide) (by simp [jR_cat]) (fun ls hl => ?_)
      obtain ⟨nf4, h⟩ := h
      exact wk_X6_is_23_7 σ a0 o1 Q K hs1 nf4 0 _ _ _ h hw2 ht0 ⟨by decide, by decide⟩ (lv_sub hl [1, 2, 0] rfl)
    · have h := ite_f h hc3
      refine z_iconst (pc := 19) K dX6_is_19 ?_
      exact z_zret (pc := 20) K hw2 ⟨by decide, by decide⟩ ⟨rfl, h⟩ dX6_is_20
  · have h := ite_f h hc1
    refine z_iconst (pc := 19) K dX6_is_19 ?_
    exact z_zret (pc := 20) K hw ⟨by decide, by decide⟩ ⟨rfl, h⟩ dX6_is_20
set_option maxHeartbeats 4000000 in
theorem wk_X6_is_23_8 {X : Cxt} {p : Program} {l : Launch} {e : Env} {s : State} {m : MethodId} {args : Array Value} {below : List Frame} {meth : Method} {c : Code} (σ : St) (a0 : Int) (o1 : Int) (Q : Int → Prop) (K : MCx X p s m args meth c cX6_is 3 "CombTable$Reader" (some .boolean)) (hs1 : o1 ≤ -2 ∧ -40 < o1) : ∀ (n : Nat), ∀ (v2 : Int) (H : Heap) (locs : List Loc) (ls : Array Slot), lp_X6_is_23 σ a0 o1 Q n v2 → Wc X σ s.heap H locs → tg σ a0 = 8 → rng v2 → lv_has ls 3 [(0, jR X a0), (1, jR X o1), (2, jI v2)] → W p l e (zrm 5 0 0) s m args below meth c H locs 0 0 (MQT below (ZQ X (qZ (fun r σ' => σ' = σ ∧ Q r)) (fun _ _ => False)) args s 0 0 (zA X)) (F0 m 23 ls []) := by
  intro n
  induction n with
  | zero => intro v2 H locs ls h; exact h.elim
  | succ n ih =>
    intro v2 H locs ls h hw ht0 hv2 hl
    refine lv_iload_n (pc := 23) K.x K.b dX6_is_23 rfl (lv_at hl 2 rfl) ?_
    refine z_aload_n (pc := 24) K dX6_is_24 rfl (lv_at hl 0 rfl) ?_
    refine z_get (pc := 25) (t := 8) (k := 5) K hw (ob (t := 8) ht0) zq8 (by decide) q398 (fun _ h => h) dX6_is_25 (zval_i kf_8_5) ?_
    refine z_icmp_ge (pc := 28) (tgt := 61) K hv2 (z_rI hw (ob (t := 8) ht0) kf_8_5) dX6_is_28 (by decide) (fun hc1 => ?_) (fun hc1 => ?_)
    · have h := ite_t h hc1
      refine z_aload_n (pc := 31) K dX6_is_31 rfl (lv_at hl 0 rfl) ?_
      refine z_get (pc := 32) (t := 8) (k := 7) K hw (ob (t := 8) ht0) zq8 (by decide) q402 (fun _ h => h) dX6_is_32 (zval_r kf_8_7) ?_
      have hg2 : tg σ (σ a0 7 0) = 1 := (z_tg (t := 8) (r := 1) hw ht0 ⟨by decide, by decide⟩ kf_8_7 kn_8_7 kt_8_7 (by decide) (by decide))
      refine z_getN (pc := 35) (t := 1) (k := 0) K hw (ob (t := 1) hg2) zq1 (by decide) q510 (fun _ h => h) dX6_is_35 (zval_p (κ := 0) kf_1_0) ?_
      refine z_aload_n (pc := 38) K dX6_is_38 rfl (lv_at hl 0 rfl) ?_
      refine z_get (pc := 39) (t := 8) (k := 2) K hw (ob (t := 8) ht0) zq8 (by decide) q385 (fun _ h => h) dX6_is_39 (zval_i kf_8_2) ?_
      refine lv_iload_n (pc := 42) K.x K.b dX6_is_42 rfl (lv_at hl 2 rfl) ?_
      refine z_iadd (pc := 43) K dX6_is_43 ?_
      obtain ⟨hj3, h⟩ := h
      refine z_bald (pc := 44) (t := 1) K hw hg2 ⟨by decide, by decide⟩ kf_1_0 kl_1_0 hj3 (by decide) dX6_is_44 ?_
      refine z_aload_n (pc := 45) K dX6_is_45 rfl (lv_at hl 1 rfl) ?_
      refine lv_iload_n (pc := 46) K.x K.b dX6_is_46 rfl (lv_at hl 2 rfl) ?_
      obtain ⟨hj4, h⟩ := h
      refine z_schr (pc := 47) K hw hs1 hj4 q716 ⟨by decide, by decide⟩ ⟨Nat.le_refl _, Nat.le_refl _⟩ hl.1 (Nat.le_of_ble_eq_true rfl) dX6_is_47 (fun _ _ hw5 hr6 => ?_)
      refine z_icmp_eq (pc := 50) (tgt := 55) K (byte_r (z_elB (t := 1) hw hg2 ⟨by decide, by decide⟩ kf_1_0 kl_1_0 hj3)) hr6 dX6_is_50 (by decide) (fun hc7 => ?_) (fun hc7 => ?_)
      · have h := ite_t h hc7
        refine z_iinc (pc := 55) (k := 2) (lv' := [(2, jI (v2 + 1)), (0, jR X a0), (1, jR X o1)]) K dX6_is_55 hl rfl (by decide) (by simp [jR_cat]) (fun ls hl => ?_)
        refine z_goto (pc := 58) (tgt := 23) K dX6_is_58 (by decide) ?_
        obtain ⟨hr8, h⟩ := h
        exact ih (v2 + 1) _ _ _ h hw5 ht0 hr8 (lv_sub hl [1, 2, 0] rfl)
      · have h := ite_f h hc7
        refine z_iconst (pc := 53) K dX6_is_53 ?_
        exact z_zret (pc := 54) K hw5 ⟨by decide, by decide⟩ ⟨rfl, h⟩ dX6_is_54
    · have h := ite_f h hc1
      refine z_iconst (pc := 61) K dX6_is_61 ?_
      exact z_zret (pc := 62) K hw ⟨by decide, by decide⟩ ⟨rfl, h⟩ dX6_is_62
set_option maxHeartbeats 4000000 in
theorem met_X6_is_8 (X : Cxt) (l : Launch) (σ : St) (a0 : Int) (o1 : Int) (ht0 : tg σ a0 = 8) (hs1 : o1 ≤ -2 ∧ -40 < o1) (Q : Int → Prop) (h : wp_X6_is σ a0 o1 Q) : MetT l yX6_is (ws_ yX6_is cX6_is 3 (some .boolean)) (zrm 5 0 0) (ZP X σ [jR X a0, jR X o1]) (ZQ X (qZ (fun r σ' => σ' = σ ∧ Q r)) (fun _ _ => False)) 0 0 (zA X) := by
  refine z_start (own := "CombTable$Reader") (lv := [(0, jR X a0), (1, jR X o1)]) (by decide) rfl (by simp [lv_args, jR_cat, jI_cat, jL_cat]) (by simp [lg_sl, jR_cat, jI_cat, jL_cat]) (fun p e s m below meth c ls K _ _ hw hl => ?_)
  refine z_aload_n (pc := 0) K dX6_is_0 rfl (lv_at hl 0 rfl) ?_
  refine z_get (pc := 1) (t := 8) (k := 3) K hw (ob (t := 8) ht0) zq8 (by decide) q394 (fun _ h => h) dX6_is_1 (zval_i kf_8_3) ?_
  refine z_iconst (pc := 4) K dX6_is_4 ?_
  refine z_icmp_ne (pc := 5) (tgt := 19) K (z_rI hw (ob (t := 8) ht0) kf_8_3) ⟨by decide, by decide⟩ dX6_is_5 (by decide) (fun hc1 => ?_) (fun hc1 => ?_)
  · have h := ite_t h hc1
    refine z_aload_n (pc := 8) K dX6_is_8 rfl (lv_at hl 0 rfl) ?_
    refine z_get (pc := 9) (t := 8) (k := 5) K hw (ob (t := 8) ht0) zq8 (by decide) q398 (fun _ h => h) dX6_is_9 (zval_i kf_8_5) ?_
    refine z_aload_n (pc := 12) K dX6_is_12 rfl (lv_at hl 1 rfl) ?_
    refine z_slen (pc := 13) K hw hs1 q706 ⟨by decide, by decide⟩ ⟨Nat.le_refl _, Nat.le_refl _⟩ hl.1 (Nat.le_of_ble_eq_true rfl) dX6_is_13 (fun _ _ hw2 => ?_)
    refine z_icmp_eq (pc := 16) (tgt := 21) K (z_rI hw (ob (t := 8) ht0) kf_8_5) (sl_r hs1) dX6_is_16 (by decide) (fun hc3 => ?_) (fun hc3 => ?_)
    · have h := ite_t h hc3
      refine z_iconst (pc := 21) K dX6_is_21 ?_
      refine lv_istore_n (pc := 22) (lv' := [(2, jI 0), (0, jR X a0), (1, jR X o1)]) K.x K.b dX6_is_22 rfl hl (by decide) (by simp [jR_cat]) (fun ls hl => ?_)
      obtain ⟨nf4, h⟩ := h
      exact wk_X6_is_23_8 σ a0 o1 Q K hs1 nf4 0 _ _ _ h hw2 ht0 ⟨by decide, by decide⟩ (lv_sub hl [1, 2, 0] rfl)
    · have h := ite_f h hc3
      refine z_iconst (pc := 19) K dX6_is_19 ?_
      exact z_zret (pc := 20) K hw2 ⟨by decide, by decide⟩ ⟨rfl, h⟩ dX6_is_20
  · have h := ite_f h hc1
    refine z_iconst (pc := 19) K dX6_is_19 ?_
    exact z_zret (pc := 20) K hw ⟨by decide, by decide⟩ ⟨rfl, h⟩ dX6_is_20
set_option maxHeartbeats 4000000 in
theorem wk_X6_is_23_9 {X : Cxt} {p : Program} {l : Launch} {e : Env} {s : State} {m : MethodId} {args : Array Value} {below : List Frame} {meth : Method} {c : Code} (σ : St) (a0 : Int) (o1 : Int) (Q : Int → Prop) (K : MCx X p s m args meth c cX6_is 3 "CombTable$Reader" (some .boolean)) (hs1 : o1 ≤ -2 ∧ -40 < o1) : ∀ (n : Nat), ∀ (v2 : Int) (H : Heap) (locs : List Loc) (ls : Array Slot), lp_X6_is_23 σ a0 o1 Q n v2 → Wc X σ s.heap H locs → tg σ a0 = 9 → rng v2 → lv_has ls 3 [(0, jR X a0), (1, jR X o1), (2, jI v2)] → W p l e (zrm 5 0 0) s m args below meth c H locs 0 0 (MQT below (ZQ X (qZ (fun r σ' => σ' = σ ∧ Q r)) (fun _ _ => False)) args s 0 0 (zA X)) (F0 m 23 ls []) := by
  intro n
  induction n with
  | zero => intro v2 H locs ls h; exact h.elim
  | succ n ih =>
    intro v2 H locs ls h hw ht0 hv2 hl
    refine lv_iload_n (pc := 23) K.x K.b dX6_is_23 rfl (lv_at hl 2 rfl) ?_
    refine z_aload_n (pc := 24) K dX6_is_24 rfl (lv_at hl 0 rfl) ?_
    refine z_get (pc := 25) (t := 9) (k := 5) K hw (ob (t := 9) ht0) zq9 (by decide) q398 (fun _ h => h) dX6_is_25 (zval_i kf_9_5) ?_
    refine z_icmp_ge (pc := 28) (tgt := 61) K hv2 (z_rI hw (ob (t := 9) ht0) kf_9_5) dX6_is_28 (by decide) (fun hc1 => ?_) (fun hc1 => ?_)
    · have h := ite_t h hc1
      refine z_aload_n (pc := 31) K dX6_is_31 rfl (lv_at hl 0 rfl) ?_
      refine z_get (pc := 32) (t := 9) (k := 7) K hw (ob (t := 9) ht0) zq9 (by decide) q402 (fun _ h => h) dX6_is_32 (zval_r kf_9_7) ?_
      have hg2 : tg σ (σ a0 7 0) = 1 := (z_tg (t := 9) (r := 1) hw ht0 ⟨by decide, by decide⟩ kf_9_7 kn_9_7 kt_9_7 (by decide) (by decide))
      refine z_getN (pc := 35) (t := 1) (k := 0) K hw (ob (t := 1) hg2) zq1 (by decide) q510 (fun _ h => h) dX6_is_35 (zval_p (κ := 0) kf_1_0) ?_
      refine z_aload_n (pc := 38) K dX6_is_38 rfl (lv_at hl 0 rfl) ?_
      refine z_get (pc := 39) (t := 9) (k := 2) K hw (ob (t := 9) ht0) zq9 (by decide) q385 (fun _ h => h) dX6_is_39 (zval_i kf_9_2) ?_
      refine lv_iload_n (pc := 42) K.x K.b dX6_is_42 rfl (lv_at hl 2 rfl) ?_
      refine z_iadd (pc := 43) K dX6_is_43 ?_
      obtain ⟨hj3, h⟩ := h
      refine z_bald (pc := 44) (t := 1) K hw hg2 ⟨by decide, by decide⟩ kf_1_0 kl_1_0 hj3 (by decide) dX6_is_44 ?_
      refine z_aload_n (pc := 45) K dX6_is_45 rfl (lv_at hl 1 rfl) ?_
      refine lv_iload_n (pc := 46) K.x K.b dX6_is_46 rfl (lv_at hl 2 rfl) ?_
      obtain ⟨hj4, h⟩ := h
      refine z_schr (pc := 47) K hw hs1 hj4 q716 ⟨by decide, by decide⟩ ⟨Nat.le_refl _, Nat.le_refl _⟩ hl.1 (Nat.le_of_ble_eq_true rfl) dX6_is_47 (fun _ _ hw5 hr6 => ?_)
      refine z_icmp_eq (pc := 50) (tgt := 55) K (byte_r (z_elB (t := 1) hw hg2 ⟨by decide, by decide⟩ kf_1_0 kl_1_0 hj3)) hr6 dX6_is_50 (by decide) (fun hc7 => ?_) (fun hc7 => ?_)
      · have h := ite_t h hc7
        refine z_iinc (pc := 55) (k := 2) (lv' := [(2, jI (v2 + 1)), (0, jR X a0), (1, jR X o1)]) K dX6_is_55 hl rfl (by decide) (by simp [jR_cat]) (fun ls hl => ?_)
        refine z_goto (pc := 58) (tgt := 23) K dX6_is_58 (by decide) ?_
        obtain ⟨hr8, h⟩ := h
        exact ih (v2 + 1) _ _ _ h hw5 ht0 hr8 (lv_sub hl [1, 2, 0] rfl)
      · have h := ite_f h hc7
        refine z_iconst (pc := 53) K dX6_is_53 ?_
        exact z_zret (pc := 54) K hw5 ⟨by decide, by decide⟩ ⟨rfl, h⟩ dX6_is_54
    · have h := ite_f h hc1
      refine z_iconst (pc := 61) K dX6_is_61 ?_
      exact z_zret (pc := 62) K hw ⟨by decide, by decide⟩ ⟨rfl, h⟩ dX6_is_62
set_option maxHeartbeats 4000000 in
theorem met_X6_is_9 (X : Cxt) (l : Launch) (σ : St) (a0 : Int) (o1 : Int) (ht0 : tg σ a0 = 9) (hs1 : o1 ≤ -2 ∧ -40 < o1) (Q : Int → Prop) (h : wp_X6_is σ a0 o1 Q) : MetT l yX6_is (ws_ yX6_is cX6_is 3 (some .boolean)) (zrm 5 0 0) (ZP X σ [jR X a0, jR X o1]) (ZQ X (qZ (fun r σ' => σ' = σ ∧ Q r)) (fun _ _ => False)) 0 0 (zA X) := by
  refine z_start (own := "CombTable$Reader") (lv := [(0, jR X a0), (1, jR X o1)]) (by decide) rfl (by simp [lv_args, jR_cat, jI_cat, jL_cat]) (by simp [lg_sl, jR_cat, jI_cat, jL_cat]) (fun p e s m below meth c ls K _ _ hw hl => ?_)
  refine z_aload_n (pc := 0) K dX6_is_0 rfl (lv_at hl 0 rfl) ?_
  refine z_get (pc := 1) (t := 9) (k := 3) K hw (ob (t := 9) ht0) zq9 (by decide) q394 (fun _ h => h) dX6_is_1 (zval_i kf_9_3) ?_
  refine z_iconst (pc := 4) K dX6_is_4 ?_
  refine z_icmp_ne (pc := 5) (tgt := 19) K (z_rI hw (ob (t := 9) ht0) kf_9_3) ⟨by decide, by decide⟩ dX6_is_5 (by decide) (fun hc1 => ?_) (fun hc1 => ?_)
  · have h := ite_t h hc1
    refine z_aload_n (pc := 8) K dX6_is_8 rfl (lv_at hl 0 rfl) ?_
    refine z_get (pc := 9) (t := 9) (k := 5) K hw (ob (t := 9) ht0) zq9 (by decide) q398 (fun _ h => h) dX6_is_9 (zval_i kf_9_5) ?_
    refine z_aload_n (pc := 12) K dX6_is_12 rfl (lv_at hl 1 rfl) ?_
    refine z_slen (pc := 13) K hw hs1 q706 ⟨by decide, by decide⟩ ⟨Nat.le_refl _, Nat.le_refl _⟩ hl.1 (Nat.le_of_ble_eq_true rfl) dX6_is_13 (fun _ _ hw2 => ?_)
    refine z_icmp_eq (pc := 16) (tgt := 21) K (z_rI hw (ob (t := 9) ht0) kf_9_5) (sl_r hs1) dX6_is_16 (by decide) (fun hc3 => ?_) (fun hc3 => ?_)
    · have h := ite_t h hc3
      refine z_iconst (pc := 21) K dX6_is_21 ?_
      refine lv_istore_n (pc := 22) (lv' := [(2, jI 0), (0, jR X a0), (1, jR X o1)]) K.x K.b dX6_is_22 rfl hl (by decide) (by simp [jR_cat]) (fun ls hl => ?_)
      obtain ⟨nf4, h⟩ := h
      exact wk_X6_is_23_9 σ a0 o1 Q K hs1 nf4 0 _ _ _ h hw2 ht0 ⟨by decide, by decide⟩ (lv_sub hl [1, 2, 0] rfl)
    · have h := ite_f h hc3
      refine z_iconst (pc := 19) K dX6_is_19 ?_
      exact z_zret (pc := 20) K hw2 ⟨by decide, by decide⟩ ⟨rfl, h⟩ dX6_is_20
  · have h := ite_f h hc1
    refine z_iconst (pc := 19) K dX6_is_19 ?_
    exact z_zret (pc := 20) K hw ⟨by decide, by decide⟩ ⟨rfl, h⟩ dX6_is_20
def lp_X6_find_2 (σ : St) (a0 : Int) (o1 : Int) (k1 : Nat) (n1 : Int) (Q : Int → Prop) : Nat → Int → Prop
  | 0 => fun _ => False
  | n + 1 => fun v2 => 
    (if v2 < n1 then
      (0 ≤ v2 ∧ v2 < n1) ∧ (σ o1 k1 v2) ≠ -1 ∧ wp_X6_is σ a0 (σ o1 k1 v2) (fun r5 => (if r5 = 0 then
        rng (v2 + 1) ∧ (lp_X6_find_2 σ a0 o1 k1 n1 Q n (v2 + 1))
        else
        Q v2))
      else
      Q (-1))
def wp_X6_find (σ : St) (a0 : Int) (o1 : Int) (k1 : Nat) (n1 : Int) (Q : Int → Prop) : Prop :=
  (∃ kk, lp_X6_find_2 σ a0 o1 k1 n1 Q kk 0)
set_option maxHeartbeats 4000000 in
theorem wk_X6_find_2_6_1 {X : Cxt} {p : Program} {l : Launch} {e : Env} {s : State} {m : MethodId} {args : Array Value} {below : List Frame} {meth : Method} {c : Code} (σ : St) (a0 : Int) (o1 : Int) (k1 : Nat) (n1 : Int) (Q : Int → Prop) (K : MCx X p s m args meth c cX6_find 3 "CombTable$Reader" (some .int)) (hfa1 : kf 1 k1 = 14) (hna1 : ((kl 1 k1 : Nat) : Int) = n1) (hka1 : kt 1 k1 = 0) : ∀ (n : Nat), ∀ (v2 : Int) (H : Heap) (locs : List Loc) (ls : Array Slot), lp_X6_find_2 σ a0 o1 k1 n1 Q n v2 → Wc X σ s.heap H locs → tg σ a0 = 6 → tg σ o1 = 1 → rng v2 → lv_has ls 3 [(0, jR X a0), (1, jR X (σ o1 k1 (-1))), (2, jI v2)] → W p l e (zrm 6 0 0) s m args below meth c H locs 0 0 (MQT below (ZQ X (qI (fun r σ' => σ' = σ ∧ Q r)) (fun _ _ => False)) args s 0 0 (zA X)) (F0 m 2 ls []) := by
  intro n
  induction n with
  | zero => intro v2 H locs ls h; exact h.elim
  | succ n ih =>
    intro v2 H locs ls h hw ht0 ht1 hv2 hl
    refine lv_iload_n (pc := 2) K.x K.b dX6_find_2 rfl (lv_at hl 2 rfl) ?_
    refine z_aload_n (pc := 3) K dX6_find_3 rfl (lv_at hl 1 rfl) ?_
    refine z_alen (pc := 4) (t := 1) (κ := 4) K hw ht1 ⟨by decide, by decide⟩ hfa1 (by decide) hna1 dX6_find_4 ?_
    refine z_icmp_ge (pc := 5) (tgt := 26) K hv2 (by rw [← hna1]; exact kl_rng _ _) dX6_find_5 (by decide) (fun hc1 => ?_) (fun hc1 => ?_)
    · have h := ite_t h hc1
      refine z_aload_n (pc := 8) K dX6_find_8 rfl (lv_at hl 0 rfl) ?_
      refine z_aload_n (pc := 9) K dX6_find_9 rfl (lv_at hl 1 rfl) ?_
      refine lv_iload_n (pc := 10) K.x K.b dX6_find_10 rfl (lv_at hl 2 rfl) ?_
      obtain ⟨hj2, h⟩ := h
      refine z_aald (pc := 11) (t := 1) (κ := 4) K hw ht1 ⟨by decide, by decide⟩ hfa1 ⟨by decide, by decide⟩ hna1 hj2 (by rw [← hna1]; exact kl_le _ _) dX6_find_11 ?_
      obtain ⟨hn3, h⟩ := h
      have hs4 : σ o1 k1 v2 ≤ -2 ∧ -40 < σ o1 k1 v2 := okR0 (((z_el (t := 1) (κ := 4) (r := 0) hw ht1 ⟨by decide, by decide⟩ hfa1 (by decide) hka1 hna1 hj2)).resolve_left hn3)
      refine zr_z (pc := 12) (maxL := 3) K hw (met_X6_is_6 X l σ a0 (σ o1 k1 v2) ht0 hs4 _ h) (i_V (n := 1) (t := 6) (As := [jR X (σ o1 k1 v2)]) K hw (ob ht0) zq6 (by decide) q698 q699 q703 (sg_of K q705) rfl rfl dX6_find_12) (locw K q705 q97) ⟨by decide, by decide⟩ hl.1 dX6_find_12 (Nat.le_of_ble_eq_true rfl) ⟨Nat.le_refl _, Nat.le_refl _⟩ (fun r5 _ _ hr6 h hw9 => ?_)
      refine z_if_eq (pc := 15) (tgt := 20) K (b01r hr6) dX6_find_15 (by decide) (fun hc10 => ?_) (fun hc10 => ?_)
      · have h := ite_t h hc10
        refine z_iinc (pc := 20) (k := 2) (lv' := [(2, jI (v2 + 1)), (0, jR X a0), (1, jR X (σ o1 k1 (-1)))]) K dX6_find_20 hl rfl (by decide) (by simp [jR_cat]) (fun ls hl => ?_)
        refine z_goto (pc := 23) (tgt := 2) K dX6_find_23 (by decide) ?_
        obtain ⟨hr11, h⟩ := h
        exact ih (v2 + 1) _ _ _ h hw9 ht0 ht1 hr11 (lv_sub hl [1, 2, 0] rfl)
      · have h := ite_f h hc10
        refine lv_iload_n (pc := 18) K.x K.b dX6_find_18 rfl (lv_at hl 2 rfl) ?_
        exact z_iret (pc := 19) K hw9 hv2 ⟨rfl, h⟩ dX6_find_19
    · have h := ite_f h hc1
      refine z_iconst (pc := 26) K dX6_find_26 ?_
      exact z_iret (pc := 27) K hw ⟨by decide, by decide⟩ ⟨rfl, h⟩ dX6_find_27
set_option maxHeartbeats 4000000 in
theorem met_X6_find_6_1 (X : Cxt) (l : Launch) (σ : St) (a0 : Int) (o1 : Int) (k1 : Nat) (n1 : Int) (ht0 : tg σ a0 = 6) (ht1 : tg σ o1 = 1) (hfa1 : kf 1 k1 = 14) (hna1 : ((kl 1 k1 : Nat) : Int) = n1) (hka1 : kt 1 k1 = 0) (Q : Int → Prop) (h : wp_X6_find σ a0 o1 k1 n1 Q) : MetT l yX6_find (ws_ yX6_find cX6_find 3 (some .int)) (zrm 6 0 0) (ZP X σ [jR X a0, jR X (σ o1 k1 (-1))]) (ZQ X (qI (fun r σ' => σ' = σ ∧ Q r)) (fun _ _ => False)) 0 0 (zA X) := by
  refine z_start (own := "CombTable$Reader") (lv := [(0, jR X a0), (1, jR X (σ o1 k1 (-1)))]) (by decide) rfl (by simp [lv_args, jR_cat, jI_cat, jL_cat]) (by simp [lg_sl, jR_cat, jI_cat, jL_cat]) (fun p e s m below meth c ls K _ _ hw hl => ?_)
  refine z_iconst (pc := 0) K dX6_find_0 ?_
  refine lv_istore_n (pc := 1) (lv' := [(2, jI 0), (0, jR X a0), (1, jR X (σ o1 k1 (-1)))]) K.x K.b dX6_find_1 rfl hl (by decide) (by simp [jR_cat]) (fun ls hl => ?_)
  obtain ⟨nf1, h⟩ := h
  exact wk_X6_find_2_6_1 σ a0 o1 k1 n1 Q K hfa1 hna1 hka1 nf1 0 _ _ _ h hw ht0 ht1 ⟨by decide, by decide⟩ (lv_sub hl [1, 2, 0] rfl)
set_option maxHeartbeats 4000000 in
theorem wk_X6_find_2_6_9 {X : Cxt} {p : Program} {l : Launch} {e : Env} {s : State} {m : MethodId} {args : Array Value} {below : List Frame} {meth : Method} {c : Code} (σ : St) (a0 : Int) (o1 : Int) (k1 : Nat) (n1 : Int) (Q : Int → Prop) (K : MCx X p s m args meth c cX6_find 3 "CombTable$Reader" (some .int)) (hfa1 : kf 9 k1 = 14) (hna1 : ((kl 9 k1 : Nat) : Int) = n1) (hka1 : kt 9 k1 = 0) : ∀ (n : Nat), ∀ (v2 : Int) (H : Heap) (locs : List Loc) (ls : Array Slot), lp_X6_find_2 σ a0 o1 k1 n1 Q n v2 → Wc X σ s.heap H locs → tg σ a0 = 6 → tg σ o1 = 9 → rng v2 → lv_has ls 3 [(0, jR X a0), (1, jR X (σ o1 k1 (-1))), (2, jI v2)] → W p l e (zrm 6 0 0) s m args below meth c H locs 0 0 (MQT below (ZQ X (qI (fun r σ' => σ' = σ ∧ Q r)) (fun _ _ => False)) args s 0 0 (zA X)) (F0 m 2 ls []) := by
  intro n
  induction n with
  | zero => intro v2 H locs ls h; exact h.elim
  | succ n ih =>
    intro v2 H locs ls h hw ht0 ht1 hv2 hl
    refine lv_iload_n (pc := 2) K.x K.b dX6_find_2 rfl (lv_at hl 2 rfl) ?_
    refine z_aload_n (pc := 3) K dX6_find_3 rfl (lv_at hl 1 rfl) ?_
    refine z_alen (pc := 4) (t := 9) (κ := 4) K hw ht1 ⟨by decide, by decide⟩ hfa1 (by decide) hna1 dX6_find_4 ?_
    refine z_icmp_ge (pc := 5) (tgt := 26) K hv2 (by rw [← hna1]; exact kl_rng _ _) dX6_find_5 (by decide) (fun hc1 => ?_) (fun hc1 => ?_)
    · have h := ite_t h hc1
      refine z_aload_n (pc := 8) K dX6_find_8 rfl (lv_at hl 0 rfl) ?_
      refine z_aload_n (pc := 9) K dX6_find_9 rfl (lv_at hl 1 rfl) ?_
      refine lv_iload_n (pc := 10) K.x K.b dX6_find_10 rfl (lv_at hl 2 rfl) ?_
      obtain ⟨hj2, h⟩ := h
      refine z_aald (pc := 11) (t := 9) (κ := 4) K hw ht1 ⟨by decide, by decide⟩ hfa1 ⟨by decide, by decide⟩ hna1 hj2 (by rw [← hna1]; exact kl_le _ _) dX6_find_11 ?_
      obtain ⟨hn3, h⟩ := h
      have hs4 : σ o1 k1 v2 ≤ -2 ∧ -40 < σ o1 k1 v2 := okR0 (((z_el (t := 9) (κ := 4) (r := 0) hw ht1 ⟨by decide, by decide⟩ hfa1 (by decide) hka1 hna1 hj2)).resolve_left hn3)
      refine zr_z (pc := 12) (maxL := 3) K hw (met_X6_is_6 X l σ a0 (σ o1 k1 v2) ht0 hs4 _ h) (i_V (n := 1) (t := 6) (As := [jR X (σ o1 k1 v2)]) K hw (ob ht0) zq6 (by decide) q698 q699 q703 (sg_of K q705) rfl rfl dX6_find_12) (locw K q705 q97) ⟨by decide, by decide⟩ hl.1 dX6_find_12 (Nat.le_of_ble_eq_true rfl) ⟨Nat.le_refl _, Nat.le_refl _⟩ (fun r5 _ _ hr6 h hw9 => ?_)
      refine z_if_eq (pc := 15) (tgt := 20) K (b01r hr6) dX6_find_15 (by decide) (fun hc10 => ?_) (fun hc10 => ?_)
      · have h := ite_t h hc10
        refine z_iinc (pc := 20) (k := 2) (lv' := [(2, jI (v2 + 1)), (0, jR X a0), (1, jR X (σ o1 k1 (-1)))]) K dX6_find_20 hl rfl (by decide) (by simp [jR_cat]) (fun ls hl => ?_)
        refine z_goto (pc := 23) (tgt := 2) K dX6_find_23 (by decide) ?_
        obtain ⟨hr11, h⟩ := h
        exact ih (v2 + 1) _ _ _ h hw9 ht0 ht1 hr11 (lv_sub hl [1, 2, 0] rfl)
      · have h := ite_f h hc10
        refine lv_iload_n (pc := 18) K.x K.b dX6_find_18 rfl (lv_at hl 2 rfl) ?_
        exact z_iret (pc := 19) K hw9 hv2 ⟨rfl, h⟩ dX6_find_19
    · have h := ite_f h hc1
      refine z_iconst (pc := 26) K dX6_find_26 ?_
      exact z_iret (pc := 27) K hw ⟨by decide, by decide⟩ ⟨rfl, h⟩ dX6_find_27
set_option maxHeartbeats 4000000 in
theorem met_X6_find_6_9 (X : Cxt) (l : Launch) (σ : St) (a0 : Int) (o1 : Int) (k1 : Nat) (n1 : Int) (ht0 : tg σ a0 = 6) (ht1 : tg σ o1 = 9) (hfa1 : kf 9 k1 = 14) (hna1 : ((kl 9 k1 : Nat) : Int) = n1) (hka1 : kt 9 k1 = 0) (Q : Int → Prop) (h : wp_X6_find σ a0 o1 k1 n1 Q) : MetT l yX6_find (ws_ yX6_find cX6_find 3 (some .int)) (zrm 6 0 0) (ZP X σ [jR X a0, jR X (σ o1 k1 (-1))]) (ZQ X (qI (fun r σ' => σ' = σ ∧ Q r)) (fun _ _ => False)) 0 0 (zA X) := by
  refine z_start (own := "CombTable$Reader") (lv := [(0, jR X a0), (1, jR X (σ o1 k1 (-1)))]) (by decide) rfl (by simp [lv_args, jR_cat, jI_cat, jL_cat]) (by simp [lg_sl, jR_cat, jI_cat, jL_cat]) (fun p e s m below meth c ls K _ _ hw hl => ?_)
  refine z_iconst (pc := 0) K dX6_find_0 ?_
  refine lv_istore_n (pc := 1) (lv' := [(2, jI 0), (0, jR X a0), (1, jR X (σ o1 k1 (-1)))]) K.x K.b dX6_find_1 rfl hl (by decide) (by simp [jR_cat]) (fun ls hl => ?_)
  obtain ⟨nf1, h⟩ := h
  exact wk_X6_find_2_6_9 σ a0 o1 k1 n1 Q K hfa1 hna1 hka1 nf1 0 _ _ _ h hw ht0 ht1 ⟨by decide, by decide⟩ (lv_sub hl [1, 2, 0] rfl)
set_option maxHeartbeats 4000000 in
theorem wk_X6_find_2_7_1 {X : Cxt} {p : Program} {l : Launch} {e : Env} {s : State} {m : MethodId} {args : Array Value} {below : List Frame} {meth : Method} {c : Code} (σ : St) (a0 : Int) (o1 : Int) (k1 : Nat) (n1 : Int) (Q : Int → Prop) (K : MCx X p s m args meth c cX6_find 3 "CombTable$Reader" (some .int)) (hfa1 : kf 1 k1 = 14) (hna1 : ((kl 1 k1 : Nat) : Int) = n1) (hka1 : kt 1 k1 = 0) : ∀ (n : Nat), ∀ (v2 : Int) (H : Heap) (locs : List Loc) (ls : Array Slot), lp_X6_find_2 σ a0 o1 k1 n1 Q n v2 → Wc X σ s.heap H locs → tg σ a0 = 7 → tg σ o1 = 1 → rng v2 → lv_has ls 3 [(0, jR X a0), (1, jR X (σ o1 k1 (-1))), (2, jI v2)] → W p l e (zrm 6 0 0) s m args below meth c H locs 0 0 (MQT below (ZQ X (qI (fun r σ' => σ' = σ ∧ Q r)) (fun _ _ => False)) args s 0 0 (zA X)) (F0 m 2 ls []) := by
  intro n
  induction n with
  | zero => intro v2 H locs ls h; exact h.elim
  | succ n ih =>
    intro v2 H locs ls h hw ht0 ht1 hv2 hl
    refine lv_iload_n (pc := 2) K.x K.b dX6_find_2 rfl (lv_at hl 2 rfl) ?_
    refine z_aload_n (pc := 3) K dX6_find_3 rfl (lv_at hl 1 rfl) ?_
    refine z_alen (pc := 4) (t := 1) (κ := 4) K hw ht1 ⟨by decide, by decide⟩ hfa1 (by decide) hna1 dX6_find_4 ?_
    refine z_icmp_ge (pc := 5) (tgt := 26) K hv2 (by rw [← hna1]; exact kl_rng _ _) dX6_find_5 (by decide) (fun hc1 => ?_) (fun hc1 => ?_)
    · have h := ite_t h hc1
      refine z_aload_n (pc := 8) K dX6_find_8 rfl (lv_at hl 0 rfl) ?_
      refine z_aload_n (pc := 9) K dX6_find_9 rfl (lv_at hl 1 rfl) ?_
      refine lv_iload_n (pc := 10) K.x K.b dX6_find_10 rfl (lv_at hl 2 rfl) ?_
      obtain ⟨hj2, h⟩ := h
      refine z_aald (pc := 11) (t := 1) (κ := 4) K hw ht1 ⟨by decide, by decide⟩ hfa1 ⟨by decide, by decide⟩ hna1 hj2 (by rw [← hna1]; exact kl_le _ _) dX6_find_11 ?_
      obtain ⟨hn3, h⟩ := h
      have hs4 : σ o1 k1 v2 ≤ -2 ∧ -40 < σ o1 k1 v2 := okR0 (((z_el (t := 1) (κ := 4) (r := 0) hw ht1 ⟨by decide, by decide⟩ hfa1 (by decide) hka1 hna1 hj2)).resolve_left hn3)
      refine zr_z (pc := 12) (maxL := 3) K hw (met_X6_is_7 X l σ a0 (σ o1 k1 v2) ht0 hs4 _ h) (i_V (n := 1) (t := 7) (As := [jR X (σ o1 k1 v2)]) K hw (ob ht0) zq7 (by decide) q698 q699 q704 (sg_of K q705) rfl rfl dX6_find_12) (locw K q705 q97) ⟨by decide, by decide⟩ hl.1 dX6_find_12 (Nat.le_of_ble_eq_true rfl) ⟨Nat.le_refl _, Nat.le_refl _⟩ (fun r5 _ _ hr6 h hw9 => ?_)
      refine z_if_eq (pc := 15) (tgt := 20) K (b01r hr6) dX6_find_15 (by decide) (fun hc10 => ?_) (fun hc10 => ?_)
      · have h := ite_t h hc10
        refine z_iinc (pc := 20) (k := 2) (lv' := [(2, jI (v2 + 1)), (0, jR X a0), (1, jR X (σ o1 k1 (-1)))]) K dX6_find_20 hl rfl (by decide) (by simp [jR_cat]) (fun ls hl => ?_)
        refine z_goto (pc := 23) (tgt := 2) K dX6_find_23 (by decide) ?_
        obtain ⟨hr11, h⟩ := h
        exact ih (v2 + 1) _ _ _ h hw9 ht0 ht1 hr11 (lv_sub hl [1, 2, 0] rfl)
      · have h := ite_f h hc10
        refine lv_iload_n (pc := 18) K.x K.b dX6_find_18 rfl (lv_at hl 2 rfl) ?_
        exact z_iret (pc := 19) K hw9 hv2 ⟨rfl, h⟩ dX6_find_19
    · have h := ite_f h hc1
      refine z_iconst (pc := 26) K dX6_find_26 ?_
      exact z_iret (pc := 27) K hw ⟨by decide, by decide⟩ ⟨rfl, h⟩ dX6_find_27
set_option maxHeartbeats 4000000 in
theorem met_X6_find_7_1 (X : Cxt) (l : Launch) (σ : St) (a0 : Int) (o1 : Int) (k1 : Nat) (n1 : Int) (ht0 : tg σ a0 = 7) (ht1 : tg σ o1 = 1) (hfa1 : kf 1 k1 = 14) (hna1 : ((kl 1 k1 : Nat) : Int) = n1) (hka1 : kt 1 k1 = 0) (Q : Int → Prop) (h : wp_X6_find σ a0 o1 k1 n1 Q) : MetT l yX6_find (ws_ yX6_find cX6_find 3 (some .int)) (zrm 6 0 0) (ZP X σ [jR X a0, jR X (σ o1 k1 (-1))]) (ZQ X (qI (fun r σ' => σ' = σ ∧ Q r)) (fun _ _ => False)) 0 0 (zA X) := by
  refine z_start (own := "CombTable$Reader") (lv := [(0, jR X a0), (1, jR X (σ o1 k1 (-1)))]) (by decide) rfl (by simp [lv_args, jR_cat, jI_cat, jL_cat]) (by simp [lg_sl, jR_cat, jI_cat, jL_cat]) (fun p e s m below meth c ls K _ _ hw hl => ?_)
  refine z_iconst (pc := 0) K dX6_find_0 ?_
  refine lv_istore_n (pc := 1) (lv' := [(2, jI 0), (0, jR X a0), (1, jR X (σ o1 k1 (-1)))]) K.x K.b dX6_find_1 rfl hl (by decide) (by simp [jR_cat]) (fun ls hl => ?_)
  obtain ⟨nf1, h⟩ := h
  exact wk_X6_find_2_7_1 σ a0 o1 k1 n1 Q K hfa1 hna1 hka1 nf1 0 _ _ _ h hw ht0 ht1 ⟨by decide, by decide⟩ (lv_sub hl [1, 2, 0] rfl)
set_option maxHeartbeats 4000000 in
theorem wk_X6_find_2_7_9 {X : Cxt} {p : Program} {l : Launch} {e : Env} {s : State} {m : MethodId} {args : Array Value} {below : List Frame} {meth : Method} {c : Code} (σ : St) (a0 : Int) (o1 : Int) (k1 : Nat) (n1 : Int) (Q : Int → Prop) (K : MCx X p s m args meth c cX6_find 3 "CombTable$Reader" (some .int)) (hfa1 : kf 9 k1 = 14) (hna1 : ((kl 9 k1 : Nat) : Int) = n1) (hka1 : kt 9 k1 = 0) : ∀ (n : Nat), ∀ (v2 : Int) (H : Heap) (locs : List Loc) (ls : Array Slot), lp_X6_find_2 σ a0 o1 k1 n1 Q n v2 → Wc X σ s.heap H locs → tg σ a0 = 7 → tg σ o1 = 9 → rng v2 → lv_has ls 3 [(0, jR X a0), (1, jR X (σ o1 k1 (-1))), (2, jI v2)] → W p l e (zrm 6 0 0) s m args below meth c H locs 0 0 (MQT below (ZQ X (qI (fun r σ' => σ' = σ ∧ Q r)) (fun _ _ => False)) args s 0 0 (zA X)) (F0 m 2 ls []) := by
  intro n
  induction n with
  | zero => intro v2 H locs ls h; exact h.elim
  | succ n ih =>
    intro v2 H locs ls h hw ht0 ht1 hv2 hl
    refine lv_iload_n (pc := 2) K.x K.b dX6_find_2 rfl (lv_at hl 2 rfl) ?_
    refine z_aload_n (pc := 3) K dX6_find_3 rfl (lv_at hl 1 rfl) ?_
    refine z_alen (pc := 4) (t := 9) (κ := 4) K hw ht1 ⟨by decide, by decide⟩ hfa1 (by decide) hna1 dX6_find_4 ?_
    refine z_icmp_ge (pc := 5) (tgt := 26) K hv2 (by rw [← hna1]; exact kl_rng _ _) dX6_find_5 (by decide) (fun hc1 => ?_) (fun hc1 => ?_)
    · have h := ite_t h hc1
      refine z_aload_n (pc := 8) K dX6_find_8 rfl (lv_at hl 0 rfl) ?_
      refine z_aload_n (pc := 9) K dX6_find_9 rfl (lv_at hl 1 rfl) ?_
      refine lv_iload_n (pc := 10) K.x K.b dX6_find_10 rfl (lv_at hl 2 rfl) ?_
      obtain ⟨hj2, h⟩ := h
      refine z_aald (pc := 11) (t := 9) (κ := 4) K hw ht1 ⟨by decide, by decide⟩ hfa1 ⟨by decide, by decide⟩ hna1 hj2 (by rw [← hna1]; exact kl_le _ _) dX6_find_11 ?_
      obtain ⟨hn3, h⟩ := h
      have hs4 : σ o1 k1 v2 ≤ -2 ∧ -40 < σ o1 k1 v2 := okR0 (((z_el (t := 9) (κ := 4) (r := 0) hw ht1 ⟨by decide, by decide⟩ hfa1 (by decide) hka1 hna1 hj2)).resolve_left hn3)
      refine zr_z (pc := 12) (maxL := 3) K hw (met_X6_is_7 X l σ a0 (σ o1 k1 v2) ht0 hs4 _ h) (i_V (n := 1) (t := 7) (As := [jR X (σ o1 k1 v2)]) K hw (ob ht0) zq7 (by decide) q698 q699 q704 (sg_of K q705) rfl rfl dX6_find_12) (locw K q705 q97) ⟨by decide, by decide⟩ hl.1 dX6_find_12 (Nat.le_of_ble_eq_true rfl) ⟨Nat.le_refl _, Nat.le_refl _⟩ (fun r5 _ _ hr6 h hw9 => ?_)
      refine z_if_eq (pc := 15) (tgt := 20) K (b01r hr6) dX6_find_15 (by decide) (fun hc10 => ?_) (fun hc10 => ?_)
      · have h := ite_t h hc10
        refine z_iinc (pc := 20) (k := 2) (lv' := [(2, jI (v2 + 1)), (0, jR X a0), (1, jR X (σ o1 k1 (-1)))]) K dX6_find_20 hl rfl (by decide) (by simp [jR_cat]) (fun ls hl => ?_)
        refine z_goto (pc := 23) (tgt := 2) K dX6_find_23 (by decide) ?_
        obtain ⟨hr11, h⟩ := h
        exact ih (v2 + 1) _ _ _ h hw9 ht0 ht1 hr11 (lv_sub hl [1, 2, 0] rfl)
      · have h := ite_f h hc10
        refine lv_iload_n (pc := 18) K.x K.b dX6_find_18 rfl (lv_at hl 2 rfl) ?_
        exact z_iret (pc := 19) K hw9 hv2 ⟨rfl, h⟩ dX6_find_19
    · have h := ite_f h hc1
      refine z_iconst (pc := 26) K dX6_find_26 ?_
      exact z_iret (pc := 27) K hw ⟨by decide, by decide⟩ ⟨rfl, h⟩ dX6_find_27
set_option maxHeartbeats 4000000 in
theorem met_X6_find_7_9 (X : Cxt) (l : Launch) (σ : St) (a0 : Int) (o1 : Int) (k1 : Nat) (n1 : Int) (ht0 : tg σ a0 = 7) (ht1 : tg σ o1 = 9) (hfa1 : kf 9 k1 = 14) (hna1 : ((kl 9 k1 : Nat) : Int) = n1) (hka1 : kt 9 k1 = 0) (Q : Int → Prop) (h : wp_X6_find σ a0 o1 k1 n1 Q) : MetT l yX6_find (ws_ yX6_find cX6_find 3 (some .int)) (zrm 6 0 0) (ZP X σ [jR X a0, jR X (σ o1 k1 (-1))]) (ZQ X (qI (fun r σ' => σ' = σ ∧ Q r)) (fun _ _ => False)) 0 0 (zA X) := by
  refine z_start (own := "CombTable$Reader") (lv := [(0, jR X a0), (1, jR X (σ o1 k1 (-1)))]) (by decide) rfl (by simp [lv_args, jR_cat, jI_cat, jL_cat]) (by simp [lg_sl, jR_cat, jI_cat, jL_cat]) (fun p e s m below meth c ls K _ _ hw hl => ?_)
  refine z_iconst (pc := 0) K dX6_find_0 ?_
  refine lv_istore_n (pc := 1) (lv' := [(2, jI 0), (0, jR X a0), (1, jR X (σ o1 k1 (-1)))]) K.x K.b dX6_find_1 rfl hl (by decide) (by simp [jR_cat]) (fun ls hl => ?_)
  obtain ⟨nf1, h⟩ := h
  exact wk_X6_find_2_7_9 σ a0 o1 k1 n1 Q K hfa1 hna1 hka1 nf1 0 _ _ _ h hw ht0 ht1 ⟨by decide, by decide⟩ (lv_sub hl [1, 2, 0] rfl)
set_option maxHeartbeats 4000000 in
theorem wk_X6_find_2_8_1 {X : Cxt} {p : Program} {l : Launch} {e : Env} {s : State} {m : MethodId} {args : Array Value} {below : List Frame} {meth : Method} {c : Code} (σ : St) (a0 : Int) (o1 : Int) (k1 : Nat) (n1 : Int) (Q : Int → Prop) (K : MCx X p s m args meth c cX6_find 3 "CombTable$Reader" (some .int)) (hfa1 : kf 1 k1 = 14) (hna1 : ((kl 1 k1 : Nat) : Int) = n1) (hka1 : kt 1 k1 = 0) : ∀ (n : Nat), ∀ (v2 : Int) (H : Heap) (locs : List Loc) (ls : Array Slot), lp_X6_find_2 σ a0 o1 k1 n1 Q n v2 → Wc X σ s.heap H locs → tg σ a0 = 8 → tg σ o1 = 1 → rng v2 → lv_has ls 3 [(0, jR X a0), (1, jR X (σ o1 k1 (-1))), (2, jI v2)] → W p l e (zrm 6 0 0) s m args below meth c H locs 0 0 (MQT below (ZQ X (qI (fun r σ' => σ' = σ ∧ Q r)) (fun _ _ => False)) args s 0 0 (zA X)) (F0 m 2 ls []) := by
  intro n
  induction n with
  | zero => intro v2 H locs ls h; exact h.elim
  | succ n ih =>
    intro v2 H locs ls h hw ht0 ht1 hv2 hl
    refine lv_iload_n (pc := 2) K.x K.b dX6_find_2 rfl (lv_at hl 2 rfl) ?_
    refine z_aload_n (pc := 3) K dX6_find_3 rfl (lv_at hl 1 rfl) ?_
    refine z_alen (pc := 4) (t := 1) (κ := 4) K hw ht1 ⟨by decide, by decide⟩ hfa1 (by decide) hna1 dX6_find_4 ?_
    refine z_icmp_ge (pc := 5) (tgt := 26) K hv2 (by rw [← hna1]; exact kl_rng _ _) dX6_find_5 (by decide) (fun hc1 => ?_) (fun hc1 => ?_)
    · have h := ite_t h hc1
      refine z_aload_n (pc := 8) K dX6_find_8 rfl (lv_at hl 0 rfl) ?_
      refine z_aload_n (pc := 9) K dX6_find_9 rfl (lv_at hl 1 rfl) ?_
      refine lv_iload_n (pc := 10) K.x K.b dX6_find_10 rfl (lv_at hl 2 rfl) ?_
      obtain ⟨hj2, h⟩ := h
      refine z_aald (pc := 11) (t := 1) (κ := 4) K hw ht1 ⟨by decide, by decide⟩ hfa1 ⟨by decide, by decide⟩ hna1 hj2 (by rw [← hna1]; exact kl_le _ _) dX6_find_11 ?_
      obtain ⟨hn3, h⟩ := h
      have hs4 : σ o1 k1 v2 ≤ -2 ∧ -40 < σ o1 k1 v2 := okR0 (((z_el (t := 1) (κ := 4) (r := 0) hw ht1 ⟨by decide, by decide⟩ hfa1 (by decide) hka1 hna1 hj2)).resolve_left hn3)
      refine zr_z (pc := 12) (maxL := 3) K hw (met_X6_is_8 X l σ a0 (σ o1 k1 v2) ht0 hs4 _ h) (i_V (n := 1) (t := 8) (As := [jR X (σ o1 k1 v2)]) K hw (ob ht0) zq8 (by decide) q698 q699 q701 (sg_of K q705) rfl rfl dX6_find_12) (locw K q705 q97) ⟨by decide, by decide⟩ hl.1 dX6_find_12 (Nat.le_of_ble_eq_true rfl) ⟨Nat.le_refl _, Nat.le_refl _⟩ (fun r5 _ _ hr6 h hw9 => ?_)
      refine z_if_eq (pc := 15) (tgt := 20) K (b01r hr6) dX6_find_15 (by decide) (fun hc10 => ?_) (fun hc10 => ?_)
      · have h := ite_t h hc10
        refine z_iinc (pc := 20) (k := 2) (lv' := [(2, jI (v2 + 1)), (0, jR X a0), (1, jR X (σ o1 k1 (-1)))]) K dX6_find_20 hl rfl (by decide) (by simp [jR_cat]) (fun ls hl => ?_)
        refine z_goto (pc := 23) (tgt := 2) K dX6_find_23 (by decide) ?_
        obtain ⟨hr11, h⟩ := h
        exact ih (v2 + 1) _ _ _ h hw9 ht0 ht1 hr11 (lv_sub hl [1, 2, 0] rfl)
      · have h := ite_f h hc10
        refine lv_iload_n (pc := 18) K.x K.b dX6_find_18 rfl (lv_at hl 2 rfl) ?_
        exact z_iret (pc := 19) K hw9 hv2 ⟨rfl, h⟩ dX6_find_19
    · have h := ite_f h hc1
      refine z_iconst (pc := 26) K dX6_find_26 ?_
      exact z_iret (pc := 27) K hw ⟨by decide, by decide⟩ ⟨rfl, h⟩ dX6_find_27
set_option maxHeartbeats 4000000 in
theorem met_X6_find_8_1 (X : Cxt) (l : Launch) (σ : St) (a0 : Int) (o1 : Int) (k1 : Nat) (n1 : Int) (ht0 : tg σ a0 = 8) (ht1 : tg σ o1 = 1) (hfa1 : kf 1 k1 = 14) (hna1 : ((kl 1 k1 : Nat) : Int) = n1) (hka1 : kt 1 k1 = 0) (Q : Int → Prop) (h : wp_X6_find σ a0 o1 k1 n1 Q) : MetT l yX6_find (ws_ yX6_find cX6_find 3 (some .int)) (zrm 6 0 0) (ZP X σ [jR X a0, jR X (σ o1 k1 (-1))]) (ZQ X (qI (fun r σ' => σ' = σ ∧ Q r)) (fun _ _ => False)) 0 0 (zA X) := by
  refine z_start (own := "CombTable$Reader") (lv := [(0, jR X a0), (1, jR X (σ o1 k1 (-1)))]) (by decide) rfl (by simp [lv_args, jR_cat, jI_cat, jL_cat]) (by simp [lg_sl, jR_cat, jI_cat, jL_cat]) (fun p e s m below meth c ls K _ _ hw hl => ?_)
  refine z_iconst (pc := 0) K dX6_find_0 ?_
  refine lv_istore_n (pc := 1) (lv' := [(2, jI 0), (0, jR X a0), (1, jR X (σ o1 k1 (-1)))]) K.x K.b dX6_find_1 rfl hl (by decide) (by simp [jR_cat]) (fun ls hl => ?_)
  obtain ⟨nf1, h⟩ := h
  exact wk_X6_find_2_8_1 σ a0 o1 k1 n1 Q K hfa1 hna1 hka1 nf1 0 _ _ _ h hw ht0 ht1 ⟨by decide, by decide⟩ (lv_sub hl [1, 2, 0] rfl)
set_option maxHeartbeats 4000000 in
theorem wk_X6_find_2_8_9 {X : Cxt} {p : Program} {l : Launch} {e : Env} {s : State} {m : MethodId} {args : Array Value} {below : List Frame} {meth : Method} {c : Code} (σ : St) (a0 : Int) (o1 : Int) (k1 : Nat) (n1 : Int) (Q : Int → Prop) (K : MCx X p s m args meth c cX6_find 3 "CombTable$Reader" (some .int)) (hfa1 : kf 9 k1 = 14) (hna1 : ((kl 9 k1 : Nat) : Int) = n1) (hka1 : kt 9 k1 = 0) : ∀ (n : Nat), ∀ (v2 : Int) (H : Heap) (locs : List Loc) (ls : Array Slot), lp_X6_find_2 σ a0 o1 k1 n1 Q n v2 → Wc X σ s.heap H locs → tg σ a0 = 8 → tg σ o1 = 9 → rng v2 → lv_has ls 3 [(0, jR X a0), (1, jR X (σ o1 k1 (-1))), (2, jI v2)] → W p l e (zrm 6 0 0) s m args below meth c H locs 0 0 (MQT below (ZQ X (qI (fun r σ' => σ' = σ ∧ Q r)) (fun _ _ => False)) args s 0 0 (zA X)) (F0 m 2 ls []) := by
  intro n
  induction n with
  | zero => intro v2 H locs ls h; exact h.elim
  | succ n ih =>
    intro v2 H locs ls h hw ht0 ht1 hv2 hl
    refine lv_iload_n (pc := 2) K.x K.b dX6_find_2 rfl (lv_at hl 2 rfl) ?_
    refine z_aload_n (pc := 3) K dX6_find_3 rfl (lv_at hl 1 rfl) ?_
    refine z_alen (pc := 4) (t := 9) (κ := 4) K hw ht1 ⟨by decide, by decide⟩ hfa1 (by decide) hna1 dX6_find_4 ?_
    refine z_icmp_ge (pc := 5) (tgt := 26) K hv2 (by rw [← hna1]; exact kl_rng _ _) dX6_find_5 (by decide) (fun hc1 => ?_) (fun hc1 => ?_)
    · have h := ite_t h hc1
      refine z_aload_n (pc := 8) K dX6_find_8 rfl (lv_at hl 0 rfl) ?_
      refine z_aload_n (pc := 9) K dX6_find_9 rfl (lv_at hl 1 rfl) ?_
      refine lv_iload_n (pc := 10) K.x K.b dX6_find_10 rfl (lv_at hl 2 rfl) ?_
      obtain ⟨hj2, h⟩ := h
      refine z_aald (pc := 11) (t := 9) (κ := 4) K hw ht1 ⟨by decide, by decide⟩ hfa1 ⟨by decide, by decide⟩ hna1 hj2 (by rw [← hna1]; exact kl_le _ _) dX6_find_11 ?_
      obtain ⟨hn3, h⟩ := h
      have hs4 : σ o1 k1 v2 ≤ -2 ∧ -40 < σ o1 k1 v2 := okR0 (((z_el (t := 9) (κ := 4) (r := 0) hw ht1 ⟨by decide, by decide⟩ hfa1 (by decide) hka1 hna1 hj2)).resolve_left hn3)
      refine zr_z (pc := 12) (maxL := 3) K hw (met_X6_is_8 X l σ a0 (σ o1 k1 v2) ht0 hs4 _ h) (i_V (n := 1) (t := 8) (As := [jR X (σ o1 k1 v2)]) K hw (ob ht0) zq8 (by decide) q698 q699 q701 (sg_of K q705) rfl rfl dX6_find_12) (locw K q705 q97) ⟨by decide, by decide⟩ hl.1 dX6_find_12 (Nat.le_of_ble_eq_true rfl) ⟨Nat.le_refl _, Nat.le_refl _⟩ (fun r5 _ _ hr6 h hw9 => ?_)
      refine z_if_eq (pc := 15) (tgt := 20) K (b01r hr6) dX6_find_15 (by decide) (fun hc10 => ?_) (fun hc10 => ?_)
      · have h := ite_t h hc10
        refine z_iinc (pc := 20) (k := 2) (lv' := [(2, jI (v2 + 1)), (0, jR X a0), (1, jR X (σ o1 k1 (-1)))]) K dX6_find_20 hl rfl (by decide) (by simp [jR_cat]) (fun ls hl => ?_)
        refine z_goto (pc := 23) (tgt := 2) K dX6_find_23 (by decide) ?_
        obtain ⟨hr11, h⟩ := h
        exact ih (v2 + 1) _ _ _ h hw9 ht0 ht1 hr11 (lv_sub hl [1, 2, 0] rfl)
      · have h := ite_f h hc10
        refine lv_iload_n (pc := 18) K.x K.b dX6_find_18 rfl (lv_at hl 2 rfl) ?_
        exact z_iret (pc := 19) K hw9 hv2 ⟨rfl, h⟩ dX6_find_19
    · have h := ite_f h hc1
      refine z_iconst (pc := 26) K dX6_find_26 ?_
      exact z_iret (pc := 27) K hw ⟨by decide, by decide⟩ ⟨rfl, h⟩ dX6_find_27
set_option maxHeartbeats 4000000 in
theorem met_X6_find_8_9 (X : Cxt) (l : Launch) (σ : St) (a0 : Int) (o1 : Int) (k1 : Nat) (n1 : Int) (ht0 : tg σ a0 = 8) (ht1 : tg σ o1 = 9) (hfa1 : kf 9 k1 = 14) (hna1 : ((kl 9 k1 : Nat) : Int) = n1) (hka1 : kt 9 k1 = 0) (Q : Int → Prop) (h : wp_X6_find σ a0 o1 k1 n1 Q) : MetT l yX6_find (ws_ yX6_find cX6_find 3 (some .int)) (zrm 6 0 0) (ZP X σ [jR X a0, jR X (σ o1 k1 (-1))]) (ZQ X (qI (fun r σ' => σ' = σ ∧ Q r)) (fun _ _ => False)) 0 0 (zA X) := by
  refine z_start (own := "CombTable$Reader") (lv := [(0, jR X a0), (1, jR X (σ o1 k1 (-1)))]) (by decide) rfl (by simp [lv_args, jR_cat, jI_cat, jL_cat]) (by simp [lg_sl, jR_cat, jI_cat, jL_cat]) (fun p e s m below meth c ls K _ _ hw hl => ?_)
  refine z_iconst (pc := 0) K dX6_find_0 ?_
  refine lv_istore_n (pc := 1) (lv' := [(2, jI 0), (0, jR X a0), (1, jR X (σ o1 k1 (-1)))]) K.x K.b dX6_find_1 rfl hl (by decide) (by simp [jR_cat]) (fun ls hl => ?_)
  obtain ⟨nf1, h⟩ := h
  exact wk_X6_find_2_8_9 σ a0 o1 k1 n1 Q K hfa1 hna1 hka1 nf1 0 _ _ _ h hw ht0 ht1 ⟨by decide, by decide⟩ (lv_sub hl [1, 2, 0] rfl)
set_option maxHeartbeats 4000000 in
theorem wk_X6_find_2_9_1 {X : Cxt} {p : Program} {l : Launch} {e : Env} {s : State} {m : MethodId} {args : Array Value} {below : List Frame} {meth : Method} {c : Code} (σ : St) (a0 : Int) (o1 : Int) (k1 : Nat) (n1 : Int) (Q : Int → Prop) (K : MCx X p s m args meth c cX6_find 3 "CombTable$Reader" (some .int)) (hfa1 : kf 1 k1 = 14) (hna1 : ((kl 1 k1 : Nat) : Int) = n1) (hka1 : kt 1 k1 = 0) : ∀ (n : Nat), ∀ (v2 : Int) (H : Heap) (locs : List Loc) (ls : Array Slot), lp_X6_find_2 σ a0 o1 k1 n1 Q n v2 → Wc X σ s.heap H locs → tg σ a0 = 9 → tg σ o1 = 1 → rng v2 → lv_has ls 3 [(0, jR X a0), (1, jR X (σ o1 k1 (-1))), (2, jI v2)] → W p l e (zrm 6 0 0) s m args below meth c H locs 0 0 (MQT below (ZQ X (qI (fun r σ' => σ' = σ ∧ Q r)) (fun _ _ => False)) args s 0 0 (zA X)) (F0 m 2 ls []) := by
  intro n
  induction n with
  | zero => intro v2 H locs ls h; exact h.elim
  | succ n ih =>
    intro v2 H locs ls h hw ht0 ht1 hv2 hl
    refine lv_iload_n (pc := 2) K.x K.b dX6_find_2 rfl (lv_at hl 2 rfl) ?_
    refine z_aload_n (pc := 3) K dX6_find_3 rfl (lv_at hl 1 rfl) ?_
    refine z_alen (pc := 4) (t := 1) (κ := 4) K hw ht1 ⟨by decide, by decide⟩ hfa1 (by decide) hna1 dX6_find_4 ?_
    refine z_icmp_ge (pc := 5) (tgt := 26) K hv2 (by rw [← hna1]; exact kl_rng _ _) dX6_find_5 (by decide) (fun hc1 => ?_) (fun hc1 => ?_)
    · have h := ite_t h hc1
      refine z_aload_n (pc := 8) K dX6_find_8 rfl (lv_at hl 0 rfl) ?_
      refine z_aload_n (pc := 9) K dX6_find_9 rfl (lv_at hl 1 rfl) ?_
      refine lv_iload_n (pc := 10) K.x K.b dX6_find_10 rfl (lv_at hl 2 rfl) ?_
      obtain ⟨hj2, h⟩ := h
      refine z_aald (pc := 11) (t := 1) (κ := 4) K hw ht1 ⟨by decide, by decide⟩ hfa1 ⟨by decide, by decide⟩ hna1 hj2 (by rw [← hna1]; exact kl_le _ _) dX6_find_11 ?_
      obtain ⟨hn3, h⟩ := h
      have hs4 : σ o1 k1 v2 ≤ -2 ∧ -40 < σ o1 k1 v2 := okR0 (((z_el (t := 1) (κ := 4) (r := 0) hw ht1 ⟨by decide, by decide⟩ hfa1 (by decide) hka1 hna1 hj2)).resolve_left hn3)
      refine zr_z (pc := 12) (maxL := 3) K hw (met_X6_is_9 X l σ a0 (σ o1 k1 v2) ht0 hs4 _ h) (i_V (n := 1) (t := 9) (As := [jR X (σ o1 k1 v2)]) K hw (ob ht0) zq9 (by decide) q698 q699 q702 (sg_of K q705) rfl rfl dX6_find_12) (locw K q705 q97) ⟨by decide, by decide⟩ hl.1 dX6_find_12 (Nat.le_of_ble_eq_true rfl) ⟨Nat.le_refl _, Nat.le_refl _⟩ (fun r5 _ _ hr6 h hw9 => ?_)
      refine z_if_eq (pc := 15) (tgt := 20) K (b01r hr6) dX6_find_15 (by decide) (fun hc10 => ?_) (fun hc10 => ?_)
      · have h := ite_t h hc10
        refine z_iinc (pc := 20) (k := 2) (lv' := [(2, jI (v2 + 1)), (0, jR X a0), (1, jR X (σ o1 k1 (-1)))]) K dX6_find_20 hl rfl (by decide) (by simp [jR_cat]) (fun ls hl => ?_)
        refine z_goto (pc := 23) (tgt := 2) K dX6_find_23 (by decide) ?_
        obtain ⟨hr11, h⟩ := h
        exact ih (v2 + 1) _ _ _ h hw9 ht0 ht1 hr11 (lv_sub hl [1, 2, 0] rfl)
      · have h := ite_f h hc10
        refine lv_iload_n (pc := 18) K.x K.b dX6_find_18 rfl (lv_at hl 2 rfl) ?_
        exact z_iret (pc := 19) K hw9 hv2 ⟨rfl, h⟩ dX6_find_19
    · have h := ite_f h hc1
      refine z_iconst (pc := 26) K dX6_find_26 ?_
      exact z_iret (pc := 27) K hw ⟨by decide, by decide⟩ ⟨rfl, h⟩ dX6_find_27
set_option maxHeartbeats 4000000 in
theorem met_X6_find_9_1 (X : Cxt) (l : Launch) (σ : St) (a0 : Int) (o1 : Int) (k1 : Nat) (n1 : Int) (ht0 : tg σ a0 = 9) (ht1 : tg σ o1 = 1) (hfa1 : kf 1 k1 = 14) (hna1 : ((kl 1 k1 : Nat) : Int) = n1) (hka1 : kt 1 k1 = 0) (Q : Int → Prop) (h : wp_X6_find σ a0 o1 k1 n1 Q) : MetT l yX6_find (ws_ yX6_find cX6_find 3 (some .int)) (zrm 6 0 0) (ZP X σ [jR X a0, jR X (σ o1 k1 (-1))]) (ZQ X (qI (fun r σ' => σ' = σ ∧ Q r)) (fun _ _ => False)) 0 0 (zA X) := by
  refine z_start (own := "CombTable$Reader") (lv := [(0, jR X a0), (1, jR X (σ o1 k1 (-1)))]) (by decide) rfl (by simp [lv_args, jR_cat, jI_cat, jL_cat]) (by simp [lg_sl, jR_cat, jI_cat, jL_cat]) (fun p e s m below meth c ls K _ _ hw hl => ?_)
  refine z_iconst (pc := 0) K dX6_find_0 ?_
  refine lv_istore_n (pc := 1) (lv' := [(2, jI 0), (0, jR X a0), (1, jR X (σ o1 k1 (-1)))]) K.x K.b dX6_find_1 rfl hl (by decide) (by simp [jR_cat]) (fun ls hl => ?_)
  obtain ⟨nf1, h⟩ := h
  exact wk_X6_find_2_9_1 σ a0 o1 k1 n1 Q K hfa1 hna1 hka1 nf1 0 _ _ _ h hw ht0 ht1 ⟨by decide, by decide⟩ (lv_sub hl [1, 2, 0] rfl)
set_option maxHeartbeats 4000000 in
theorem wk_X6_find_2_9_9 {X : Cxt} {p : Program} {l : Launch} {e : Env} {s : State} {m : MethodId} {args : Array Value} {below : List Frame} {meth : Method} {c : Code} (σ : St) (a0 : Int) (o1 : Int) (k1 : Nat) (n1 : Int) (Q : Int → Prop) (K : MCx X p s m args meth c cX6_find 3 "CombTable$Reader" (some .int)) (hfa1 : kf 9 k1 = 14) (hna1 : ((kl 9 k1 : Nat) : Int) = n1) (hka1 : kt 9 k1 = 0) : ∀ (n : Nat), ∀ (v2 : Int) (H : Heap) (locs : List Loc) (ls : Array Slot), lp_X6_find_2 σ a0 o1 k1 n1 Q n v2 → Wc X σ s.heap H locs → tg σ a0 = 9 → tg σ o1 = 9 → rng v2 → lv_has ls 3 [(0, jR X a0), (1, jR X (σ o1 k1 (-1))), (2, jI v2)] → W p l e (zrm 6 0 0) s m args below meth c H locs 0 0 (MQT below (ZQ X (qI (fun r σ' => σ' = σ ∧ Q r)) (fun _ _ => False)) args s 0 0 (zA X)) (F0 m 2 ls []) := by
  intro n
  induction n with
  | zero => intro v2 H locs ls h; exact h.elim
  | succ n ih =>
    intro v2 H locs ls h hw ht0 ht1 hv2 hl
    refine lv_iload_n (pc := 2) K.x K.b dX6_find_2 rfl (lv_at hl 2 rfl) ?_
    refine z_aload_n (pc := 3) K dX6_find_3 rfl (lv_at hl 1 rfl) ?_
    refine z_alen (pc := 4) (t := 9) (κ := 4) K hw ht1 ⟨by decide, by decide⟩ hfa1 (by decide) hna1 dX6_find_4 ?_
    refine z_icmp_ge (pc := 5) (tgt := 26) K hv2 (by rw [← hna1]; exact kl_rng _ _) dX6_find_5 (by decide) (fun hc1 => ?_) (fun hc1 => ?_)
    · have h := ite_t h hc1
      refine z_aload_n (pc := 8) K dX6_find_8 rfl (lv_at hl 0 rfl) ?_
      refine z_aload_n (pc := 9) K dX6_find_9 rfl (lv_at hl 1 rfl) ?_
      refine lv_iload_n (pc := 10) K.x K.b dX6_find_10 rfl (lv_at hl 2 rfl) ?_
      obtain ⟨hj2, h⟩ := h
      refine z_aald (pc := 11) (t := 9) (κ := 4) K hw ht1 ⟨by decide, by decide⟩ hfa1 ⟨by decide, by decide⟩ hna1 hj2 (by rw [← hna1]; exact kl_le _ _) dX6_find_11 ?_
      obtain ⟨hn3, h⟩ := h
      have hs4 : σ o1 k1 v2 ≤ -2 ∧ -40 < σ o1 k1 v2 := okR0 (((z_el (t := 9) (κ := 4) (r := 0) hw ht1 ⟨by decide, by decide⟩ hfa1 (by decide) hka1 hna1 hj2)).resolve_left hn3)
      refine zr_z (pc := 12) (maxL := 3) K hw (met_X6_is_9 X l σ a0 (σ o1 k1 v2) ht0 hs4 _ h) (i_V (n := 1) (t := 9) (As := [jR X (σ o1 k1 v2)]) K hw (ob ht0) zq9 (by decide) q698 q699 q702 (sg_of K q705) rfl rfl dX6_find_12) (locw K q705 q97) ⟨by decide, by decide⟩ hl.1 dX6_find_12 (Nat.le_of_ble_eq_true rfl) ⟨Nat.le_refl _, Nat.le_refl _⟩ (fun r5 _ _ hr6 h hw9 => ?_)
      refine z_if_eq (pc := 15) (tgt := 20) K (b01r hr6) dX6_find_15 (by decide) (fun hc10 => ?_) (fun hc10 => ?_)
      · have h := ite_t h hc10
        refine z_iinc (pc := 20) (k := 2) (lv' := [(2, jI (v2 + 1)), (0, jR X a0), (1, jR X (σ o1 k1 (-1)))]) K dX6_find_20 hl rfl (by decide) (by simp [jR_cat]) (fun ls hl => ?_)
        refine z_goto (pc := 23) (tgt := 2) K dX6_find_23 (by decide) ?_
        obtain ⟨hr11, h⟩ := h
        exact ih (v2 + 1) _ _ _ h hw9 ht0 ht1 hr11 (lv_sub hl [1, 2, 0] rfl)
      · have h := ite_f h hc10
        refine lv_iload_n (pc := 18) K.x K.b dX6_find_18 rfl (lv_at hl 2 rfl) ?_
        exact z_iret (pc := 19) K hw9 hv2 ⟨rfl, h⟩ dX6_find_19
    · have h := ite_f h hc1
      refine z_iconst (pc := 26) K dX6_find_26 ?_
      exact z_iret (pc := 27) K hw ⟨by decide, by decide⟩ ⟨rfl, h⟩ dX6_find_27
set_option maxHeartbeats 4000000 in
theorem met_X6_find_9_9 (X : Cxt) (l : Launch) (σ : St) (a0 : Int) (o1 : Int) (k1 : Nat) (n1 : Int) (ht0 : tg σ a0 = 9) (ht1 : tg σ o1 = 9) (hfa1 : kf 9 k1 = 14) (hna1 : ((kl 9 k1 : Nat) : Int) = n1) (hka1 : kt 9 k1 = 0) (Q : Int → Prop) (h : wp_X6_find σ a0 o1 k1 n1 Q) : MetT l yX6_find (ws_ yX6_find cX6_find 3 (some .int)) (zrm 6 0 0) (ZP X σ [jR X a0, jR X (σ o1 k1 (-1))]) (ZQ X (qI (fun r σ' => σ' = σ ∧ Q r)) (fun _ _ => False)) 0 0 (zA X) := by
  refine z_start (own := "CombTable$Reader") (lv := [(0, jR X a0), (1, jR X (σ o1 k1 (-1)))]) (by decide) rfl (by simp [lv_args, jR_cat, jI_cat, jL_cat]) (by simp [lg_sl, jR_cat, jI_cat, jL_cat]) (fun p e s m below meth c ls K _ _ hw hl => ?_)
  refine z_iconst (pc := 0) K dX6_find_0 ?_
  refine lv_istore_n (pc := 1) (lv' := [(2, jI 0), (0, jR X a0), (1, jR X (σ o1 k1 (-1)))]) K.x K.b dX6_find_1 rfl hl (by decide) (by simp [jR_cat]) (fun ls hl => ?_)
  obtain ⟨nf1, h⟩ := h
  exact wk_X6_find_2_9_9 σ a0 o1 k1 n1 Q K hfa1 hna1 hka1 nf1 0 _ _ _ h hw ht0 ht1 ⟨by decide, by decide⟩ (lv_sub hl [1, 2, 0] rfl)
def wp_X6_isName (σ : St) (a0 : Int) (Q : Int → Prop) : Prop :=
  (if σ a0 3 0 = 1 then
    wp_X6_find σ a0 (σ a0 7 0) 5 6 (fun r3 => (if r3 = (-1) then
      wp_X6_find σ a0 (σ a0 7 0) 6 13 (fun r9 => (if r9 = (-1) then
        wp_X6_find σ a0 (σ a0 7 0) 7 6 (fun r15 => (if r15 = (-1) then
          Q 1
          else
          Q 0))
        else
        Q 0))
      else
      Q 0))
    else
    Q 0)
set_option maxHeartbeats 4000000 in
theorem met_X6_isName_6 (X : Cxt) (l : Launch) (σ : St) (a0 : Int) (ht0 : tg σ a0 = 6) (Q : Int → Prop) (h : wp_X6_isName σ a0 Q) : MetT l yX6_isName (ws_ yX6_isName cX6_isName 1 (some .boolean)) (zrm 7 0 0) (ZP X σ [jR X a0]) (ZQ X (qZ (fun r σ' => σ' = σ ∧ Q r)) (fun _ _ => False)) 0 0 (zA X) := by
  refine z_start (own := "CombTable$Reader") (lv := [(0, jR X a0)]) (by decide) rfl (by simp [lv_args, jR_cat, jI_cat, jL_cat]) (by simp [lg_sl, jR_cat, jI_cat, jL_cat]) (fun p e s m below meth c ls K _ _ hw hl => ?_)
  refine z_aload_n (pc := 0) K dX6_isName_0 rfl (lv_at hl 0 rfl) ?_
  refine z_get (pc := 1) (t := 6) (k := 3) K hw (ob (t := 6) ht0) zq6 (by decide) q394 (fun _ h => h) dX6_isName_1 (zval_i kf_6_3) ?_
  refine z_iconst (pc := 4) K dX6_isName_4 ?_
  refine z_icmp_ne (pc := 5) (tgt := 57) K (z_rI hw (ob (t := 6) ht0) kf_6_3) ⟨by decide, by decide⟩ dX6_isName_5 (by decide) (fun hc1 => ?_) (fun hc1 => ?_)
  · have h := ite_t h hc1
    refine z_aload_n (pc := 8) K dX6_isName_8 rfl (lv_at hl 0 rfl) ?_
    refine z_aload_n (pc := 9) K dX6_isName_9 rfl (lv_at hl 0 rfl) ?_
    refine z_get (pc := 10) (t := 6) (k := 7) K hw (ob (t := 6) ht0) zq6 (by decide) q402 (fun _ h => h) dX6_isName_10 (zval_r kf_6_7) ?_
    have hg2 : tg σ (σ a0 7 0) = 1 := (z_tg (t := 6) (r := 1) hw ht0 ⟨by decide, by decide⟩ kf_6_7 kn_6_7 kt_6_7 (by decide) (by decide))
    refine z_getN (pc := 13) (t := 1) (k := 5) K hw (ob (t := 1) hg2) zq1 (by decide) q518 (fun _ h => h) dX6_isName_13 (zval_p (κ := 4) kf_1_5) ?_
    refine zr_i (pc := 16) (maxL := 3) K hw (met_X6_find_6_1 X l σ a0 (σ a0 7 0) 5 6 ht0 hg2 kf_1_5 kl_1_5 kt_1_5 _ h) (i_V (n := 1) (t := 6) (As := [jR X (σ (σ a0 7 0) 5 (-1))]) K hw (ob ht0) zq6 (by decide) q786 q696 q2032 (sg_of K q697) rfl rfl dX6_isName_16) (locw K q697 q97) ⟨by decide, by decide⟩ hl.1 dX6_isName_16 (Nat.le_of_ble_eq_true rfl) ⟨Nat.le_refl _, Nat.le_refl _⟩ (fun r3 _ _ hr4 h hw7 => ?_)
    refine z_iconst (pc := 19) K dX6_isName_19 ?_
    refine z_icmp_ne (pc := 20) (tgt := 57) K hr4 ⟨by decide, by decide⟩ dX6_isName_20 (by decide) (fun hc8 => ?_) (fun hc8 => ?_)
    · have h := ite_t h hc8
      refine z_aload_n (pc := 23) K dX6_isName_23 rfl (lv_at hl 0 rfl) ?_
      refine z_aload_n (pc := 24) K dX6_isName_24 rfl (lv_at hl 0 rfl) ?_
      refine z_get (pc := 25) (t := 6) (k := 7) K hw7 (ob (t := 6) ht0) zq6 (by decide) q402 (fun _ h => h) dX6_isName_25 (zval_r kf_6_7) ?_
      refine z_getN (pc := 28) (t := 1) (k := 6) K hw7 (ob (t := 1) hg2) zq1 (by decide) q520 (fun _ h => h) dX6_isName_28 (zval_p (κ := 4) kf_1_6) ?_
      refine zr_i (pc := 31) (maxL := 3) K hw7 (met_X6_find_6_1 X l σ a0 (σ a0 7 0) 6 13 ht0 hg2 kf_1_6 kl_1_6 kt_1_6 _ h) (i_V (n := 1) (t := 6) (As := [jR X (σ (σ a0 7 0) 6 (-1))]) K hw7 (ob ht0) zq6 (by decide) q786 q696 q2032 (sg_of K q697) rfl rfl dX6_isName_31) (locw K q697 q97) ⟨by decide, by decide⟩ hl.1 dX6_isName_31 (Nat.le_of_ble_eq_true rfl) ⟨Nat.le_refl _, Nat.le_refl _⟩ (fun r9 _ _ hr10 h hw13 => ?_)
      refine z_iconst (pc := 34) K dX6_isName_34 ?_
      refine z_icmp_ne (pc := 35) (tgt := 57) K hr10 ⟨by decide, by decide⟩ dX6_isName_35 (by decide) (fun hc14 => ?_) (fun hc14 => ?_)
      · have h := ite_t h hc14
        refine z_aload_n (pc := 38) K dX6_isName_38 rfl (lv_at hl 0 rfl) ?_
        refine z_aload_n (pc := 39) K dX6_isName_39 rfl (lv_at hl 0 rfl) ?_
        refine z_get (pc := 40) (t := 6) (k := 7) K hw13 (ob (t := 6) ht0) zq6 (by decide) q402 (fun _ h => h) dX6_isName_40 (zval_r kf_6_7) ?_
        refine z_getN (pc := 43) (t := 1) (k := 7) K hw13 (ob (t := 1) hg2) zq1 (by decide) q523 (fun _ h => h) dX6_isName_43 (zval_p (κ := 4) kf_1_7) ?_
        refine zr_i (pc := 46) (maxL := 3) K hw13 (met_X6_find_6_1 X l σ a0 (σ a0 7 0) 7 6 ht0 hg2 kf_1_7 kl_1_7 kt_1_7 _ h) (i_V (n := 1) (t := 6) (As := [jR X (σ (σ a0 7 0) 7 (-1))]) K hw13 (ob ht0) zq6 (by decide) q786 q696 q2032 (sg_of K q697) rfl rfl dX6_isName_46) (locw K q697 q97) ⟨by decide, by decide⟩ hl.1 dX6_isName_46 (Nat.le_of_ble_eq_true rfl) ⟨Nat.le_refl _, Nat.le_refl _⟩ (fun r15 _ _ hr16 h hw19 => ?_)
        refine z_iconst (pc := 49) K dX6_isName_49 ?_
        refine z_icmp_ne (pc := 50) (tgt := 57) K hr16 ⟨by decide, by decide⟩ dX6_isName_50 (by decide) (fun hc20 => ?_) (fun hc20 => ?_)
        · have h := ite_t h hc20
          refine z_iconst (pc := 53) K dX6_isName_53 ?_
          refine z_goto (pc := 54) (tgt := 58) K dX6_isName_54 (by decide) ?_
          exact z_zret (pc := 58) K hw19 ⟨by decide, by decide⟩ ⟨rfl, h⟩ dX6_isName_58
        · have h := ite_f h hc20
          refine z_iconst (pc := 57) K dX6_isName_57 ?_
          exact z_zret (pc := 58) K hw19 ⟨by decide, by decide⟩ ⟨rfl, h⟩ dX6_isName_58
      · have h := ite_f h hc14
        refine z_iconst (pc := 57) K dX6_isName_57 ?_
        exact z_zret (pc := 58) K hw13 ⟨by decide, by decide⟩ ⟨rfl, h⟩ dX6_isName_58
    · have h := ite_f h hc8
      refine z_iconst (pc := 57) K dX6_isName_57 ?_
      exact z_zret (pc := 58) K hw7 ⟨by decide, by decide⟩ ⟨rfl, h⟩ dX6_isName_58
  · have h := ite_f h hc1
    refine z_iconst (pc := 57) K dX6_isName_57 ?_
    exact z_zret (pc := 58) K hw ⟨by decide, by decide⟩ ⟨rfl, h⟩ dX6_isName_58
set_option maxHeartbeats 4000000 in
theorem met_X6_isName_7 (X : Cxt) (l : Launch) (σ : St) (a0 : Int) (ht0 : tg σ a0 = 7) (Q : Int → Prop) (h : wp_X6_isName σ a0 Q) : MetT l yX6_isName (ws_ yX6_isName cX6_isName 1 (some .boolean)) (zrm 7 0 0) (ZP X σ [jR X a0]) (ZQ X (qZ (fun r σ' => σ' = σ ∧ Q r)) (fun _ _ => False)) 0 0 (zA X) := by
  refine z_start (own := "CombTable$Reader") (lv := [(0, jR X a0)]) (by decide) rfl (by simp [lv_args, jR_cat, jI_cat, jL_cat]) (by simp [lg_sl, jR_cat, jI_cat, jL_cat]) (fun p e s m below meth c ls K _ _ hw hl => ?_)
  refine z_aload_n (pc := 0) K dX6_isName_0 rfl (lv_at hl 0 rfl) ?_
  refine z_get (pc := 1) (t := 7) (k := 3) K hw (ob (t := 7) ht0) zq7 (by decide) q394 (fun _ h => h) dX6_isName_1 (zval_i kf_7_3) ?_
  refine z_iconst (pc := 4) K dX6_isName_4 ?_
  refine z_icmp_ne (pc := 5) (tgt := 57) K (z_rI hw (ob (t := 7) ht0) kf_7_3) ⟨by decide, by decide⟩ dX6_isName_5 (by decide) (fun hc1 => ?_) (fun hc1 => ?_)
  · have h := ite_t h hc1
    refine z_aload_n (pc := 8) K dX6_isName_8 rfl (lv_at hl 0 rfl) ?_
    refine z_aload_n (pc := 9) K dX6_isName_9 rfl (lv_at hl 0 rfl) ?_
    refine z_get (pc := 10) (t := 7) (k := 7) K hw (ob (t := 7) ht0) zq7 (by decide) q402 (fun _ h => h) dX6_isName_10 (zval_r kf_7_7) ?_
    have hg2 : tg σ (σ a0 7 0) = 1 := (z_tg (t := 7) (r := 1) hw ht0 ⟨by decide, by decide⟩ kf_7_7 kn_7_7 kt_7_7 (by decide) (by decide))
    refine z_getN (pc := 13) (t := 1) (k := 5) K hw (ob (t := 1) hg2) zq1 (by decide) q518 (fun _ h => h) dX6_isName_13 (zval_p (κ := 4) kf_1_5) ?_
    refine zr_i (pc := 16) (maxL := 3) K hw (met_X6_find_7_1 X l σ a0 (σ a0 7 0) 5 6 ht0 hg2 kf_1_5 kl_1_5 kt_1_5 _ h) (i_V (n := 1) (t := 7) (As := [jR X (σ (σ a0 7 0) 5 (-1))]) K hw (ob ht0) zq7 (by decide) q786 q696 q2033 (sg_of K q697) rfl rfl dX6_isName_16) (locw K q697 q97) ⟨by decide, by decide⟩ hl.1 dX6_isName_16 (Nat.le_of_ble_eq_true rfl) ⟨Nat.le_refl _, Nat.le_refl _⟩ (fun r3 _ _ hr4 h hw7 => ?_)
    refine z_iconst (pc := 19) K dX6_isName_19 ?_
    refine z_icmp_ne (pc := 20) (tgt := 57) K hr4 ⟨by decide, by decide⟩ dX6_isName_20 (by decide) (fun hc8 => ?_) (fun hc8 => ?_)
    · have h := ite_t h hc8
      refine z_aload_n (pc := 23) K dX6_isName_23 rfl (lv_at hl 0 rfl) ?_
      refine z_aload_n (pc := 24) K dX6_isName_24 rfl (lv_at hl 0 rfl) ?_
      refine z_get (pc := 25) (t := 7) (k := 7) K hw7 (ob (t := 7) ht0) zq7 (by decide) q402 (fun _ h => h) dX6_isName_25 (zval_r kf_7_7) ?_
      refine z_getN (pc := 28) (t := 1) (k := 6) K hw7 (ob (t := 1) hg2) zq1 (by decide) q520 (fun _ h => h) dX6_isName_28 (zval_p (κ := 4) kf_1_6) ?_
      refine zr_i (pc := 31) (maxL := 3) K hw7 (met_X6_find_7_1 X l σ a0 (σ a0 7 0) 6 13 ht0 hg2 kf_1_6 kl_1_6 kt_1_6 _ h) (i_V (n := 1) (t := 7) (As := [jR X (σ (σ a0 7 0) 6 (-1))]) K hw7 (ob ht0) zq7 (by decide) q786 q696 q2033 (sg_of K q697) rfl rfl dX6_isName_31) (locw K q697 q97) ⟨by decide, by decide⟩ hl.1 dX6_isName_31 (Nat.le_of_ble_eq_true rfl) ⟨Nat.le_refl _, Nat.le_refl _⟩ (fun r9 _ _ hr10 h hw13 => ?_)
      refine z_iconst (pc := 34) K dX6_isName_34 ?_
      refine z_icmp_ne (pc := 35) (tgt := 57) K hr10 ⟨by decide, by decide⟩ dX6_isName_35 (by decide) (fun hc14 => ?_) (fun hc14 => ?_)
      · have h := ite_t h hc14
        refine z_aload_n (pc := 38) K dX6_isName_38 rfl (lv_at hl 0 rfl) ?_
        refine z_aload_n (pc := 39) K dX6_isName_39 rfl (lv_at hl 0 rfl) ?_
        refine z_get (pc := 40) (t := 7) (k := 7) K hw13 (ob (t := 7) ht0) zq7 (by decide) q402 (fun _ h => h) dX6_isName_40 (zval_r kf_7_7) ?_
        refine z_getN (pc := 43) (t := 1) (k := 7) K hw13 (ob (t := 1) hg2) zq1 (by decide) q523 (fun _ h => h) dX6_isName_43 (zval_p (κ := 4) kf_1_7) ?_
        refine zr_i (pc := 46) (maxL := 3) K hw13 (met_X6_find_7_1 X l σ a0 (σ a0 7 0) 7 6 ht0 hg2 kf_1_7 kl_1_7 kt_1_7 _ h) (i_V (n := 1) (t := 7) (As := [jR X (σ (σ a0 7 0) 7 (-1))]) K hw13 (ob ht0) zq7 (by decide) q786 q696 q2033 (sg_of K q697) rfl rfl dX6_isName_46) (locw K q697 q97) ⟨by decide, by decide⟩ hl.1 dX6_isName_46 (Nat.le_of_ble_eq_true rfl) ⟨Nat.le_refl _, Nat.le_refl _⟩ (fun r15 _ _ hr16 h hw19 => ?_)
        refine z_iconst (pc := 49) K dX6_isName_49 ?_
        refine z_icmp_ne (pc := 50) (tgt := 57) K hr16 ⟨by decide, by decide⟩ dX6_isName_50 (by decide) (fun hc20 => ?_) (fun hc20 => ?_)
        · have h := ite_t h hc20
          refine z_iconst (pc := 53) K dX6_isName_53 ?_
          refine z_goto (pc := 54) (tgt := 58) K dX6_isName_54 (by decide) ?_
          exact z_zret (pc := 58) K hw19 ⟨by decide, by decide⟩ ⟨rfl, h⟩ dX6_isName_58
        · have h := ite_f h hc20
          refine z_iconst (pc := 57) K dX6_isName_57 ?_
          exact z_zret (pc := 58) K hw19 ⟨by decide, by decide⟩ ⟨rfl, h⟩ dX6_isName_58
      · have h := ite_f h hc14
        refine z_iconst (pc := 57) K dX6_isName_57 ?_
        exact z_zret (pc := 58) K hw13 ⟨by decide, by decide⟩ ⟨rfl, h⟩ dX6_isName_58
    · have h := ite_f h hc8
      refine z_iconst (pc := 57) K dX6_isName_57 ?_
      exact z_zret (pc := 58) K hw7 ⟨by decide, by decide⟩ ⟨rfl, h⟩ dX6_isName_58
  · have h := ite_f h hc1
    refine z_iconst (pc := 57) K dX6_isName_57 ?_
    exact z_zret (pc := 58) K hw ⟨by decide, by decide⟩ ⟨rfl, h⟩ dX6_isName_58
set_option maxHeartbeats 4000000 in
theorem met_X6_isName_8 (X : Cxt) (l : Launch) (σ : St) (a0 : Int) (ht0 : tg σ a0 = 8) (Q : Int → Prop) (h : wp_X6_isName σ a0 Q) : MetT l yX6_isName (ws_ yX6_isName cX6_isName 1 (some .boolean)) (zrm 7 0 0) (ZP X σ [jR X a0]) (ZQ X (qZ (fun r σ' => σ' = σ ∧ Q r)) (fun _ _ => False)) 0 0 (zA X) := by
  refine z_start (own := "CombTable$Reader") (lv := [(0, jR X a0)]) (by decide) rfl (by simp [lv_args, jR_cat, jI_cat, jL_cat]) (by simp [lg_sl, jR_cat, jI_cat, jL_cat]) (fun p e s m below meth c ls K _ _ hw hl => ?_)
  refine z_aload_n (pc := 0) K dX6_isName_0 rfl (lv_at hl 0 rfl) ?_
  refine z_get (pc := 1) (t := 8) (k := 3) K hw (ob (t := 8) ht0) zq8 (by decide) q394 (fun _ h => h) dX6_isName_1 (zval_i kf_8_3) ?_
  refine z_iconst (pc := 4) K dX6_isName_4 ?_
  refine z_icmp_ne (pc := 5) (tgt := 57) K (z_rI hw (ob (t := 8) ht0) kf_8_3) ⟨by decide, by decide⟩ dX6_isName_5 (by decide) (fun hc1 => ?_) (fun hc1 => ?_)
  · have h := ite_t h hc1
    refine z_aload_n (pc := 8) K dX6_isName_8 rfl (lv_at hl 0 rfl) ?_
    refine z_aload_n (pc := 9) K dX6_isName_9 rfl (lv_at hl 0 rfl) ?_
    refine z_get (pc := 10) (t := 8) (k := 7) K hw (ob (t := 8) ht0) zq8 (by decide) q402 (fun _ h => h) dX6_isName_10 (zval_r kf_8_7) ?_
    have hg2 : tg σ (σ a0 7 0) = 1 := (z_tg (t := 8) (r := 1) hw ht0 ⟨by decide, by decide⟩ kf_8_7 kn_8_7 kt_8_7 (by decide) (by decide))
    refine z_getN (pc := 13) (t := 1) (k := 5) K hw (ob (t := 1) hg2) zq1 (by decide) q518 (fun _ h => h) dX6_isName_13 (zval_p (κ := 4) kf_1_5) ?_
    refine zr_i (pc := 16) (maxL := 3) K hw (met_X6_find_8_1 X l σ a0 (σ a0 7 0) 5 6 ht0 hg2 kf_1_5 kl_1_5 kt_1_5 _ h) (i_V (n := 1) (t := 8) (As := [jR X (σ (σ a0 7 0) 5 (-1))]) K hw (ob ht0) zq8 (by decide) q786 q696 q2030 (sg_of K q697) rfl rfl dX6_isName_16) (locw K q697 q97) ⟨by decide, by decide⟩ hl.1 dX6_isName_16 (Nat.le_of_ble_eq_true rfl) ⟨Nat.le_refl _, Nat.le_refl _⟩ (fun r3 _ _ hr4 h hw7 => ?_)
    refine z_iconst (pc := 19) K dX6_isName_19 ?_
    refine z_icmp_ne (pc := 20) (tgt := 57) K hr4 ⟨by decide, by decide⟩ dX6_isName_20 (by decide) (fun hc8 => ?_) (fun hc8 => ?_)
    · have h := ite_t h hc8
      refine z_aload_n (pc := 23) K dX6_isName_23 rfl (lv_at hl 0 rfl) ?_
      refine z_aload_n (pc := 24) K dX6_isName_24 rfl (lv_at hl 0 rfl) ?_
      refine z_get (pc := 25) (t := 8) (k := 7) K hw7 (ob (t := 8) ht0) zq8 (by decide) q402 (fun _ h => h) dX6_isName_25 (zval_r kf_8_7) ?_
      refine z_getN (pc := 28) (t := 1) (k := 6) K hw7 (ob (t := 1) hg2) zq1 (by decide) q520 (fun _ h => h) dX6_isName_28 (zval_p (κ := 4) kf_1_6) ?_
      refine zr_i (pc := 31) (maxL := 3) K hw7 (met_X6_find_8_1 X l σ a0 (σ a0 7 0) 6 13 ht0 hg2 kf_1_6 kl_1_6 kt_1_6 _ h) (i_V (n := 1) (t := 8) (As := [jR X (σ (σ a0 7 0) 6 (-1))]) K hw7 (ob ht0) zq8 (by decide) q786 q696 q2030 (sg_of K q697) rfl rfl dX6_isName_31) (locw K q697 q97) ⟨by decide, by decide⟩ hl.1 dX6_isName_31 (Nat.le_of_ble_eq_true rfl) ⟨Nat.le_refl _, Nat.le_refl _⟩ (fun r9 _ _ hr10 h hw13 => ?_)
      refine z_iconst (pc := 34) K dX6_isName_34 ?_
      refine z_icmp_ne (pc := 35) (tgt := 57) K hr10 ⟨by decide, by decide⟩ dX6_isName_35 (by decide) (fun hc14 => ?_) (fun hc14 => ?_)
      · have h := ite_t h hc14
        refine z_aload_n (pc := 38) K dX6_isName_38 rfl (lv_at hl 0 rfl) ?_
        refine z_aload_n (pc := 39) K dX6_isName_39 rfl (lv_at hl 0 rfl) ?_
        refine z_get (pc := 40) (t := 8) (k := 7) K hw13 (ob (t := 8) ht0) zq8 (by decide) q402 (fun _ h => h) dX6_isName_40 (zval_r kf_8_7) ?_
        refine z_getN (pc := 43) (t := 1) (k := 7) K hw13 (ob (t := 1) hg2) zq1 (by decide) q523 (fun _ h => h) dX6_isName_43 (zval_p (κ := 4) kf_1_7) ?_
        refine zr_i (pc := 46) (maxL := 3) K hw13 (met_X6_find_8_1 X l σ a0 (σ a0 7 0) 7 6 ht0 hg2 kf_1_7 kl_1_7 kt_1_7 _ h) (i_V (n := 1) (t := 8) (As := [jR X (σ (σ a0 7 0) 7 (-1))]) K hw13 (ob ht0) zq8 (by decide) q786 q696 q2030 (sg_of K q697) rfl rfl dX6_isName_46) (locw K q697 q97) ⟨by decide, by decide⟩ hl.1 dX6_isName_46 (Nat.le_of_ble_eq_true rfl) ⟨Nat.le_refl _, Nat.le_refl _⟩ (fun r15 _ _ hr16 h hw19 => ?_)
        refine z_iconst (pc := 49) K dX6_isName_49 ?_
        refine z_icmp_ne (pc := 50) (tgt := 57) K hr16 ⟨by decide, by decide⟩ dX6_isName_50 (by decide) (fun hc20 => ?_) (fun hc20 => ?_)
        · have h := ite_t h hc20
          refine z_iconst (pc := 53) K dX6_isName_53 ?_
          refine z_goto (pc := 54) (tgt := 58) K dX6_isName_54 (by decide) ?_
          exact z_zret (pc := 58) K hw19 ⟨by decide, by decide⟩ ⟨rfl, h⟩ dX6_isName_58
        · have h := ite_f h hc20
          refine z_iconst (pc := 57) K dX6_isName_57 ?_
          exact z_zret (pc := 58) K hw19 ⟨by decide, by decide⟩ ⟨rfl, h⟩ dX6_isName_58
      · have h := ite_f h hc14
        refine z_iconst (pc := 57) K dX6_isName_57 ?_
        exact z_zret (pc := 58) K hw13 ⟨by decide, by decide⟩ ⟨rfl, h⟩ dX6_isName_58
    · have h := ite_f h hc8
      refine z_iconst (pc := 57) K dX6_isName_57 ?_
      exact z_zret (pc := 58) K hw7 ⟨by decide, by decide⟩ ⟨rfl, h⟩ dX6_isName_58
  · have h := ite_f h hc1
    refine z_iconst (pc := 57) K dX6_isName_57 ?_
    exact z_zret (pc := 58) K hw ⟨by decide, by decide⟩ ⟨rfl, h⟩ dX6_isName_58
set_option maxHeartbeats 4000000 in
theorem met_X6_isName_9 (X : Cxt) (l : Launch) (σ : St) (a0 : Int) (ht0 : tg σ a0 = 9) (Q : Int → Prop) (h : wp_X6_isName σ a0 Q) : MetT l yX6_isName (ws_ yX6_isName cX6_isName 1 (some .boolean)) (zrm 7 0 0) (ZP X σ [jR X a0]) (ZQ X (qZ (fun r σ' => σ' = σ ∧ Q r)) (fun _ _ => False)) 0 0 (zA X) := by
  refine z_start (own := "CombTable$Reader") (lv := [(0, jR X a0)]) (by decide) rfl (by simp [lv_args, jR_cat, jI_cat, jL_cat]) (by simp [lg_sl, jR_cat, jI_cat, jL_cat]) (fun p e s m below meth c ls K _ _ hw hl => ?_)
  refine z_aload_n (pc := 0) K dX6_isName_0 rfl (lv_at hl 0 rfl) ?_
  refine z_get (pc := 1) (t := 9) (k := 3) K hw (ob (t := 9) ht0) zq9 (by decide) q394 (fun _ h => h) dX6_isName_1 (zval_i kf_9_3) ?_
  refine z_iconst (pc := 4) K dX6_isName_4 ?_
  refine z_icmp_ne (pc := 5) (tgt := 57) K (z_rI hw (ob (t := 9) ht0) kf_9_3) ⟨by decide, by decide⟩ dX6_isName_5 (by decide) (fun hc1 => ?_) (fun hc1 => ?_)
  · have h := ite_t h hc1
    refine z_aload_n (pc := 8) K dX6_isName_8 rfl (lv_at hl 0 rfl) ?_
    refine z_aload_n (pc := 9) K dX6_isName_9 rfl (lv_at hl 0 rfl) ?_
    refine z_get (pc := 10) (t := 9) (k := 7) K hw (ob (t := 9) ht0) zq9 (by decide) q402 (fun _ h => h) dX6_isName_10 (zval_r kf_9_7) ?_
    have hg2 : tg σ (σ a0 7 0) = 1 := (z_tg (t := 9) (r := 1) hw ht0 ⟨by decide, by decide⟩ kf_9_7 kn_9_7 kt_9_7 (by decide) (by decide))
    refine z_getN (pc := 13) (t := 1) (k := 5) K hw (ob (t := 1) hg2) zq1 (by decide) q518 (fun _ h => h) dX6_isName_13 (zval_p (κ := 4) kf_1_5) ?_
    refine zr_i (pc := 16) (maxL := 3) K hw (met_X6_find_9_1 X l σ a0 (σ a0 7 0) 5 6 ht0 hg2 kf_1_5 kl_1_5 kt_1_5 _ h) (i_V (n := 1) (t := 9) (As := [jR X (σ (σ a0 7 0) 5 (-1))]) K hw (ob ht0) zq9 (by decide) q786 q696 q2031 (sg_of K q697) rfl rfl dX6_isName_16) (locw K q697 q97) ⟨by decide, by decide⟩ hl.1 dX6_isName_16 (Nat.le_of_ble_eq_true rfl) ⟨Nat.le_refl _, Nat.le_refl _⟩ (fun r3 _ _ hr4 h hw7 => ?_)
    refine z_iconst (pc := 19) K dX6_isName_19 ?_
    refine z_icmp_ne (pc := 20) (tgt := 57) K hr4 ⟨by decide, by decide⟩ dX6_isName_20 (by decide) (fun hc8 => ?_) (fun hc8 => ?_)
    · have h := ite_t h hc8
      refine z_aload_n (pc := 23) K dX6_isName_23 rfl (lv_at hl 0 rfl) ?_
      refine z_aload_n (pc := 24) K dX6_isName_24 rfl (lv_at hl 0 rfl) ?_
      refine z_get (pc := 25) (t := 9) (k := 7) K hw7 (ob (t := 9) ht0) zq9 (by decide) q402 (fun _ h => h) dX6_isName_25 (zval_r kf_9_7) ?_
      refine z_getN (pc := 28) (t := 1) (k := 6) K hw7 (ob (t := 1) hg2) zq1 (by decide) q520 (fun _ h => h) dX6_isName_28 (zval_p (κ := 4) kf_1_6) ?_
      refine zr_i (pc := 31) (maxL := 3) K hw7 (met_X6_find_9_1 X l σ a0 (σ a0 7 0) 6 13 ht0 hg2 kf_1_6 kl_1_6 kt_1_6 _ h) (i_V (n := 1) (t := 9) (As := [jR X (σ (σ a0 7 0) 6 (-1))]) K hw7 (ob ht0) zq9 (by decide) q786 q696 q2031 (sg_of K q697) rfl rfl dX6_isName_31) (locw K q697 q97) ⟨by decide, by decide⟩ hl.1 dX6_isName_31 (Nat.le_of_ble_eq_true rfl) ⟨Nat.le_refl _, Nat.le_refl _⟩ (fun r9 _ _ hr10 h hw13 => ?_)
      refine z_iconst (pc := 34) K dX6_isName_34 ?_
      refine z_icmp_ne (pc := 35) (tgt := 57) K hr10 ⟨by decide, by decide⟩ dX6_isName_35 (by decide) (fun hc14 => ?_) (fun hc14 => ?_)
      · have h := ite_t h hc14
        refine z_aload_n (pc := 38) K dX6_isName_38 rfl (lv_at hl 0 rfl) ?_
        refine z_aload_n (pc := 39) K dX6_isName_39 rfl (lv_at hl 0 rfl) ?_
        refine z_get (pc := 40) (t := 9) (k := 7) K hw13 (ob (t := 9) ht0) zq9 (by decide) q402 (fun _ h => h) dX6_isName_40 (zval_r kf_9_7) ?_
        refine z_getN (pc := 43) (t := 1) (k := 7) K hw13 (ob (t := 1) hg2) zq1 (by decide) q523 (fun _ h => h) dX6_isName_43 (zval_p (κ := 4) kf_1_7) ?_
        refine zr_i (pc := 46) (maxL := 3) K hw13 (met_X6_find_9_1 X l σ a0 (σ a0 7 0) 7 6 ht0 hg2 kf_1_7 kl_1_7 kt_1_7 _ h) (i_V (n := 1) (t := 9) (As := [jR X (σ (σ a0 7 0) 7 (-1))]) K hw13 (ob ht0) zq9 (by decide) q786 q696 q2031 (sg_of K q697) rfl rfl dX6_isName_46) (locw K q697 q97) ⟨by decide, by decide⟩ hl.1 dX6_isName_46 (Nat.le_of_ble_eq_true rfl) ⟨Nat.le_refl _, Nat.le_refl _⟩ (fun r15 _ _ hr16 h hw19 => ?_)
        refine z_iconst (pc := 49) K dX6_isName_49 ?_
        refine z_icmp_ne (pc := 50) (tgt := 57) K hr16 ⟨by decide, by decide⟩ dX6_isName_50 (by decide) (fun hc20 => ?_) (fun hc20 => ?_)
        · have h := ite_t h hc20
          refine z_iconst (pc := 53) K dX6_isName_53 ?_
          refine z_goto (pc := 54) (tgt := 58) K dX6_isName_54 (by decide) ?_
          exact z_zret (pc := 58) K hw19 ⟨by decide, by decide⟩ ⟨rfl, h⟩ dX6_isName_58
        · have h := ite_f h hc20
          refine z_iconst (pc := 57) K dX6_isName_57 ?_
          exact z_zret (pc := 58) K hw19 ⟨by decide, by decide⟩ ⟨rfl, h⟩ dX6_isName_58
      · have h := ite_f h hc14
        refine z_iconst (pc := 57) K dX6_isName_57 ?_
        exact z_zret (pc := 58) K hw13 ⟨by decide, by decide⟩ ⟨rfl, h⟩ dX6_isName_58
    · have h := ite_f h hc8
      refine z_iconst (pc := 57) K dX6_isName_57 ?_
      exact z_zret (pc := 58) K hw7 ⟨by decide, by decide⟩ ⟨rfl, h⟩ dX6_isName_58
  · have h := ite_f h hc1
    refine z_iconst (pc := 57) K dX6_isName_57 ?_
    exact z_zret (pc := 58) K hw ⟨by decide, by decide⟩ ⟨rfl, h⟩ dX6_isName_58
def ws_X6_wrong : List (Int × Nat) := [(2, 6), (2, 7)]
theorem wo_X6_wrong : wsOk ws_X6_wrong = true := rfl
def wp_X6_wrong (σ : St) (a0 : Int) (x1 : Int) (x2 : Int) (Q : Int → St → Prop) : Prop :=
  ∀ σ4 : St, σ4 = st σ (σ (σ a0 7 0) 4 0) 6 0 x1 → ∀ σ11 : St, σ11 = st σ4 (σ4 (σ4 a0 7 0) 4 0) 7 0 x2 → Q (σ11 (σ11 a0 7 0) 4 0) σ11
set_option maxHeartbeats 4000000 in
theorem met_X6_wrong_6 (X : Cxt) (l : Launch) (σ : St) (a0 : Int) (x1 : Int) (x2 : Int) (ht0 : tg σ a0 = 6) (hx1 : rng x1) (hx2 : rng x2) (Q : Int → St → Prop) (h : wp_X6_wrong σ a0 x1 x2 Q) : MetT l yX6_wrong (ws_ yX6_wrong cX6_wrong 3 (some (.object "CombTable$Fault"))) (zrm 1 0 0) (ZP X σ [jR X a0, jI x1, jI x2]) (ZQ X (qR X 2 (fun r σ' => Kp ws_X6_wrong σ σ' ∧ Q r σ')) (fun _ _ => False)) 0 0 (zA X) := by
  refine z_start (own := "CombTable$Reader") (lv := [(0, jR X a0), (1, jI x1), (2, jI x2)]) (by decide) rfl (by simp [lv_args, jR_cat, jI_cat, jL_cat]) (by simp [lg_sl, jR_cat, jI_cat, jL_cat]) (fun p e s m below meth c ls K _ _ hw hl => ?_)
  have hk : Kp ws_X6_wrong σ σ := kp_rf σ
  refine z_aload_n (pc := 0) K dX6_wrong_0 rfl (lv_at hl 0 rfl) ?_
  refine z_get (pc := 1) (t := 6) (k := 7) K hw (ob (t := 6) ht0) zq6 (by decide) q402 (fun _ h => h) dX6_wrong_1 (zval_r kf_6_7) ?_
  have hg1 : tg σ (σ a0 7 0) = 1 := (z_tg (t := 6) (r := 1) hw ht0 ⟨by decide, by decide⟩ kf_6_7 kn_6_7 kt_6_7 (by decide) (by decide))
  refine z_getN (pc := 4) (t := 1) (k := 4) K hw (ob (t := 1) hg1) zq1 (by decide) q515 (fun _ h => h) dX6_wrong_4 (zval_r kf_1_4) ?_
  refine lv_iload_n (pc := 7) K.x K.b dX6_wrong_7 rfl (lv_at hl 1 rfl) ?_
  have hg2 : tg σ (σ (σ a0 7 0) 4 0) = 2 := (z_tg (t := 1) (r := 2) hw hg1 ⟨by decide, by decide⟩ kf_1_4 kn_1_4 kt_1_4 (by decide) (by decide))
  refine z_puti (pc := 8) (t := 2) 6 K hw (ob hg2) zq2 (by decide) kf_2_6 zt_2_6 hx1 q177 (fun _ h => h) rfl dX6_wrong_8 (fun _ _ hw3 => ?_)
  obtain ⟨σ4, e5⟩ : ∃ z, z = st σ (σ (σ a0 7 0) 4 0) 6 0 x1 := ⟨_, rfl⟩
  have h := h σ4 e5
  have hw3 := wc_e e5 hw3
  have hk6 := kp_e e5 hk wo_X6_wrong (by decide) hg2 (t := 2) (by decide)
  have hg7 : tg σ4 a0 = 6 := (tg_e e5 (by decide)).trans ht0
  refine z_aload_n (pc := 11) K dX6_wrong_11 rfl (lv_at hl 0 rfl) ?_
  refine z_get (pc := 12) (t := 6) (k := 7) K hw3 (ob (t := 6) hg7) zq6 (by decide) q402 (fun _ h => h) dX6_wrong_12 (zval_r kf_6_7) ?_
  have hg8 : tg σ4 (σ4 a0 7 0) = 1 := (z_tg (t := 6) (r := 1) hw3 hg7 ⟨by decide, by decide⟩ kf_6_7 kn_6_7 kt_6_7 (by decide) (by decide))
  refine z_getN (pc := 15) (t := 1) (k := 4) K hw3 (ob (t := 1) hg8) zq1 (by decide) q515 (fun _ h => h) dX6_wrong_15 (zval_r kf_1_4) ?_
  refine lv_iload_n (pc := 18) K.x K.b dX6_wrong_18 rfl (lv_at hl 2 rfl) ?_
  have hg9 : tg σ4 (σ4 (σ4 a0 7 0) 4 0) = 2 := (z_tg (t := 1) (r := 2) hw3 hg8 ⟨by decide, by decide⟩ kf_1_4 kn_1_4 kt_1_4 (by decide) (by decide))
  refine z_puti (pc := 19) (t := 2) 7 K hw3 (ob hg9) zq2 (by decide) kf_2_7 zt_2_7 hx2 q179 (fun _ h => h) rfl dX6_wrong_19 (fun _ _ hw10 => ?_)
  obtain ⟨σ11, e12⟩ : ∃ z, z = st σ4 (σ4 (σ4 a0 7 0) 4 0) 7 0 x2 := ⟨_, rfl⟩
  have h := h σ11 e12
  have hw10 := wc_e e12 hw10
  have hk13 := kp_e e12 hk6 wo_X6_wrong (by decide) hg9 (t := 2) (by decide)
  have hg14 : tg σ11 a0 = 6 := (tg_e e12 (by decide)).trans hg7
  refine z_aload_n (pc := 22) K dX6_wrong_22 rfl (lv_at hl 0 rfl) ?_
  refine z_get (pc := 23) (t := 6) (k := 7) K hw10 (ob (t := 6) hg14) zq6 (by decide) q402 (fun _ h => h) dX6_wrong_23 (zval_r kf_6_7) ?_
  have hg15 : tg σ11 (σ11 a0 7 0) = 1 := (z_tg (t := 6) (r := 1) hw10 hg14 ⟨by decide, by decide⟩ kf_6_7 kn_6_7 kt_6_7 (by decide) (by decide))
  refine z_getN (pc := 26) (t := 1) (k := 4) K hw10 (ob (t := 1) hg15) zq1 (by decide) q515 (fun _ h => h) dX6_wrong_26 (zval_r kf_1_4) ?_
  have hg16 : tg σ11 (σ11 (σ11 a0 7 0) 4 0) = 2 := (z_tg (t := 1) (r := 2) hw10 hg15 ⟨by decide, by decide⟩ kf_1_4 kn_1_4 kt_1_4 (by decide) (by decide))
  exact z_aret (pc := 29) K hw10 (Or.inr (tg_okR (r := 2) (by decide) (by decide) hg16)) ⟨hk13, h⟩ dX6_wrong_29
set_option maxHeartbeats 4000000 in
theorem met_X6_wrong_7 (X : Cxt) (l : Launch) (σ : St) (a0 : Int) (x1 : Int) (x2 : Int) (ht0 : tg σ a0 = 7) (hx1 : rng x1) (hx2 : rng x2) (Q : Int → St → Prop) (h : wp_X6_wrong σ a0 x1 x2 Q) : MetT l yX6_wrong (ws_ yX6_wrong cX6_wrong 3 (some (.object "CombTable$Fault"))) (zrm 1 0 0) (ZP X σ [jR X a0, jI x1, jI x2]) (ZQ X (qR X 2 (fun r σ' => Kp ws_X6_wrong σ σ' ∧ Q r σ')) (fun _ _ => False)) 0 0 (zA X) := by
  refine z_start (own := "CombTable$Reader") (lv := [(0, jR X a0), (1, jI x1), (2, jI x2)]) (by decide) rfl (by simp [lv_args, jR_cat, jI_cat, jL_cat]) (by simp [lg_sl, jR_cat, jI_cat, jL_cat]) (fun p e s m below meth c ls K _ _ hw hl => ?_)
  have hk : Kp ws_X6_wrong σ σ := kp_rf σ
  refine z_aload_n (pc := 0) K dX6_wrong_0 rfl (lv_at hl 0 rfl) ?_
  refine z_get (pc := 1) (t := 7) (k := 7) K hw (ob (t := 7) ht0) zq7 (by decide) q402 (fun _ h => h) dX6_wrong_1 (zval_r kf_7_7) ?_
  have hg1 : tg σ (σ a0 7 0) = 1 := (z_tg (t := 7) (r := 1) hw ht0 ⟨by decide, by decide⟩ kf_7_7 kn_7_7 kt_7_7 (by decide) (by decide))
  refine z_getN (pc := 4) (t := 1) (k := 4) K hw (ob (t := 1) hg1) zq1 (by decide) q515 (fun _ h => h) dX6_wrong_4 (zval_r kf_1_4) ?_
  refine lv_iload_n (pc := 7) K.x K.b dX6_wrong_7 rfl (lv_at hl 1 rfl) ?_
  have hg2 : tg σ (σ (σ a0 7 0) 4 0) = 2 := (z_tg (t := 1) (r := 2) hw hg1 ⟨by decide, by decide⟩ kf_1_4 kn_1_4 kt_1_4 (by decide) (by decide))
  refine z_puti (pc := 8) (t := 2) 6 K hw (ob hg2) zq2 (by decide) kf_2_6 zt_2_6 hx1 q177 (fun _ h => h) rfl dX6_wrong_8 (fun _ _ hw3 => ?_)
  obtain ⟨σ4, e5⟩ : ∃ z, z = st σ (σ (σ a0 7 0) 4 0) 6 0 x1 := ⟨_, rfl⟩
  have h := h σ4 e5
  have hw3 := wc_e e5 hw3
  have hk6 := kp_e e5 hk wo_X6_wrong (by decide) hg2 (t := 2) (by decide)
  have hg7 : tg σ4 a0 = 7 := (tg_e e5 (by decide)).trans ht0
  refine z_aload_n (pc := 11) K dX6_wrong_11 rfl (lv_at hl 0 rfl) ?_
  refine z_get (pc := 12) (t := 7) (k := 7) K hw3 (ob (t := 7) hg7) zq7 (by decide) q402 (fun _ h => h) dX6_wrong_12 (zval_r kf_7_7) ?_
  have hg8 : tg σ4 (σ4 a0 7 0) = 1 := (z_tg (t := 7) (r := 1) hw3 hg7 ⟨by decide, by decide⟩ kf_7_7 kn_7_7 kt_7_7 (by decide) (by decide))
  refine z_getN (pc := 15) (t := 1) (k := 4) K hw3 (ob (t := 1) hg8) zq1 (by decide) q515 (fun _ h => h) dX6_wrong_15 (zval_r kf_1_4) ?_
  refine lv_iload_n (pc := 18) K.x K.b dX6_wrong_18 rfl (lv_at hl 2 rfl) ?_
  have hg9 : tg σ4 (σ4 (σ4 a0 7 0) 4 0) = 2 := (z_tg (t := 1) (r := 2) hw3 hg8 ⟨by decide, by decide⟩ kf_1_4 kn_1_4 kt_1_4 (by decide) (by decide))
  refine z_puti (pc := 19) (t := 2) 7 K hw3 (ob hg9) zq2 (by decide) kf_2_7 zt_2_7 hx2 q179 (fun _ h => h) rfl dX6_wrong_19 (fun _ _ hw10 => ?_)
  obtain ⟨σ11, e12⟩ : ∃ z, z = st σ4 (σ4 (σ4 a0 7 0) 4 0) 7 0 x2 := ⟨_, rfl⟩
  have h := h σ11 e12
  have hw10 := wc_e e12 hw10
  have hk13 := kp_e e12 hk6 wo_X6_wrong (by decide) hg9 (t := 2) (by decide)
  have hg14 : tg σ11 a0 = 7 := (tg_e e12 (by decide)).trans hg7
  refine z_aload_n (pc := 22) K dX6_wrong_22 rfl (lv_at hl 0 rfl) ?_
  refine z_get (pc := 23) (t := 7) (k := 7) K hw10 (ob (t := 7) hg14) zq7 (by decide) q402 (fun _ h => h) dX6_wrong_23 (zval_r kf_7_7) ?_
  have hg15 : tg σ11 (σ11 a0 7 0) = 1 := (z_tg (t := 7) (r := 1) hw10 hg14 ⟨by decide, by decide⟩ kf_7_7 kn_7_7 kt_7_7 (by decide) (by decide))
  refine z_getN (pc := 26) (t := 1) (k := 4) K hw10 (ob (t := 1) hg15) zq1 (by decide) q515 (fun _ h => h) dX6_wrong_26 (zval_r kf_1_4) ?_
  have hg16 : tg σ11 (σ11 (σ11 a0 7 0) 4 0) = 2 := (z_tg (t := 1) (r := 2) hw10 hg15 ⟨by decide, by decide⟩ kf_1_4 kn_1_4 kt_1_4 (by decide) (by decide))
  exact z_aret (pc := 29) K hw10 (Or.inr (tg_okR (r := 2) (by decide) (by decide) hg16)) ⟨hk13, h⟩ dX6_wrong_29
set_option maxHeartbeats 4000000 in
theorem met_X6_wrong_8 (X : Cxt) (l : Launch) (σ : St) (a0 : Int) (x1 : Int) (x2 : Int) (ht0 : tg σ a0 = 8) (hx1 : rng x1) (hx2 : rng x2) (Q : Int → St → Prop) (h : wp_X6_wrong σ a0 x1 x2 Q) : MetT l yX6_wrong (ws_ yX6_wrong cX6_wrong 3 (some (.object "CombTable$Fault"))) (zrm 1 0 0) (ZP X σ [jR X a0, jI x1, jI x2]) (ZQ X (qR X 2 (fun r σ' => Kp ws_X6_wrong σ σ' ∧ Q r σ')) (fun _ _ => False)) 0 0 (zA X) := by
  refine z_start (own := "CombTable$Reader") (lv := [(0, jR X a0), (1, jI x1), (2, jI x2)]) (by decide) rfl (by simp [lv_args, jR_cat, jI_cat, jL_cat]) (by simp [lg_sl, jR_cat, jI_cat, jL_cat]) (fun p e s m below meth c ls K _ _ hw hl => ?_)
  have hk : Kp ws_X6_wrong σ σ := kp_rf σ
  refine z_aload_n (pc := 0) K dX6_wrong_0 rfl (lv_at hl 0 rfl) ?_
  refine z_get (pc := 1) (t := 8) (k := 7) K hw (ob (t := 8) ht0) zq8 (by decide) q402 (fun _ h => h) dX6_wrong_1 (zval_r kf_8_7) ?_
  have hg1 : tg σ (σ a0 7 0) = 1 := (z_tg (t := 8) (r := 1) hw ht0 ⟨by decide, by decide⟩ kf_8_7 kn_8_7 kt_8_7 (by decide) (by decide))
  refine z_getN (pc := 4) (t := 1) (k := 4) K hw (ob (t := 1) hg1) zq1 (by decide) q515 (fun _ h => h) dX6_wrong_4 (zval_r kf_1_4) ?_
  refine lv_iload_n (pc := 7) K.x K.b dX6_wrong_7 rfl (lv_at hl 1 rfl) ?_
  have hg2 : tg σ (σ (σ a0 7 0) 4 0) = 2 := (z_tg (t := 1) (r := 2) hw hg1 ⟨by decide, by decide⟩ kf_1_4 kn_1_4 kt_1_4 (by decide) (by decide))
  refine z_puti (pc := 8) (t := 2) 6 K hw (ob hg2) zq2 (by decide) kf_2_6 zt_2_6 hx1 q177 (fun _ h => h) rfl dX6_wrong_8 (fun _ _ hw3 => ?_)
  obtain ⟨σ4, e5⟩ : ∃ z, z = st σ (σ (σ a0 7 0) 4 0) 6 0 x1 := ⟨_, rfl⟩
  have h := h σ4 e5
  have hw3 := wc_e e5 hw3
  have hk6 := kp_e e5 hk wo_X6_wrong (by decide) hg2 (t := 2) (by decide)
  have hg7 : tg σ4 a0 = 8 := (tg_e e5 (by decide)).trans ht0
  refine z_aload_n (pc := 11) K dX6_wrong_11 rfl (lv_at hl 0 rfl) ?_
  refine z_get (pc := 12) (t := 8) (k := 7) K hw3 (ob (t := 8) hg7) zq8 (by decide) q402 (fun _ h => h) dX6_wrong_12 (zval_r kf_8_7) ?_
  have hg8 : tg σ4 (σ4 a0 7 0) = 1 := (z_tg (t := 8) (r := 1) hw3 hg7 ⟨by decide, by decide⟩ kf_8_7 kn_8_7 kt_8_7 (by decide) (by decide))
  refine z_getN (pc := 15) (t := 1) (k := 4) K hw3 (ob (t := 1) hg8) zq1 (by decide) q515 (fun _ h => h) dX6_wrong_15 (zval_r kf_1_4) ?_
  refine lv_iload_n (pc := 18) K.x K.b dX6_wrong_18 rfl (lv_at hl 2 rfl) ?_
  have hg9 : tg σ4 (σ4 (σ4 a0 7 0) 4 0) = 2 := (z_tg (t := 1) (r := 2) hw3 hg8 ⟨by decide, by decide⟩ kf_1_4 kn_1_4 kt_1_4 (by decide) (by decide))
  refine z_puti (pc := 19) (t := 2) 7 K hw3 (ob hg9) zq2 (by decide) kf_2_7 zt_2_7 hx2 q179 (fun _ h => h) rfl dX6_wrong_19 (fun _ _ hw10 => ?_)
  obtain ⟨σ11, e12⟩ : ∃ z, z = st σ4 (σ4 (σ4 a0 7 0) 4 0) 7 0 x2 := ⟨_, rfl⟩
  have h := h σ11 e12
  have hw10 := wc_e e12 hw10
  have hk13 := kp_e e12 hk6 wo_X6_wrong (by decide) hg9 (t := 2) (by decide)
  have hg14 : tg σ11 a0 = 8 := (tg_e e12 (by decide)).trans hg7
  refine z_aload_n (pc := 22) K dX6_wrong_22 rfl (lv_at hl 0 rfl) ?_
  refine z_get (pc := 23) (t := 8) (k := 7) K hw10 (ob (t := 8) hg14) zq8 (by decide) q402 (fun _ h => h) dX6_wrong_23 (zval_r kf_8_7) ?_
  have hg15 : tg σ11 (σ11 a0 7 0) = 1 := (z_tg (t := 8) (r := 1) hw10 hg14 ⟨by decide, by decide⟩ kf_8_7 kn_8_7 kt_8_7 (by decide) (by decide))
  refine z_getN (pc := 26) (t := 1) (k := 4) K hw10 (ob (t := 1) hg15) zq1 (by decide) q515 (fun _ h => h) dX6_wrong_26 (zval_r kf_1_4) ?_
  have hg16 : tg σ11 (σ11 (σ11 a0 7 0) 4 0) = 2 := (z_tg (t := 1) (r := 2) hw10 hg15 ⟨by decide, by decide⟩ kf_1_4 kn_1_4 kt_1_4 (by decide) (by decide))
  exact z_aret (pc := 29) K hw10 (Or.inr (tg_okR (r := 2) (by decide) (by decide) hg16)) ⟨hk13, h⟩ dX6_wrong_29
set_option maxHeartbeats 4000000 in
theorem met_X6_wrong_9 (X : Cxt) (l : Launch) (σ : St) (a0 : Int) (x1 : Int) (x2 : Int) (ht0 : tg σ a0 = 9) (hx1 : rng x1) (hx2 : rng x2) (Q : Int → St → Prop) (h : wp_X6_wrong σ a0 x1 x2 Q) : MetT l yX6_wrong (ws_ yX6_wrong cX6_wrong 3 (some (.object "CombTable$Fault"))) (zrm 1 0 0) (ZP X σ [jR X a0, jI x1, jI x2]) (ZQ X (qR X 2 (fun r σ' => Kp ws_X6_wrong σ σ' ∧ Q r σ')) (fun _ _ => False)) 0 0 (zA X) := by
  refine z_start (own := "CombTable$Reader") (lv := [(0, jR X a0), (1, jI x1), (2, jI x2)]) (by decide) rfl (by simp [lv_args, jR_cat, jI_cat, jL_cat]) (by simp [lg_sl, jR_cat, jI_cat, jL_cat]) (fun p e s m below meth c ls K _ _ hw hl => ?_)
  have hk : Kp ws_X6_wrong σ σ := kp_rf σ
  refine z_aload_n (pc := 0) K dX6_wrong_0 rfl (lv_at hl 0 rfl) ?_
  refine z_get (pc := 1) (t := 9) (k := 7) K hw (ob (t := 9) ht0) zq9 (by decide) q402 (fun _ h => h) dX6_wrong_1 (zval_r kf_9_7) ?_
  have hg1 : tg σ (σ a0 7 0) = 1 := (z_tg (t := 9) (r := 1) hw ht0 ⟨by decide, by decide⟩ kf_9_7 kn_9_7 kt_9_7 (by decide) (by decide))
  refine z_getN (pc := 4) (t := 1) (k := 4) K hw (ob (t := 1) hg1) zq1 (by decide) q515 (fun _ h => h) dX6_wrong_4 (zval_r kf_1_4) ?_
  refine lv_iload_n (pc := 7) K.x K.b dX6_wrong_7 rfl (lv_at hl 1 rfl) ?_
  have hg2 : tg σ (σ (σ a0 7 0) 4 0) = 2 := (z_tg (t := 1) (r := 2) hw hg1 ⟨by decide, by decide⟩ kf_1_4 kn_1_4 kt_1_4 (by decide) (by decide))
  refine z_puti (pc := 8) (t := 2) 6 K hw (ob hg2) zq2 (by decide) kf_2_6 zt_2_6 hx1 q177 (fun _ h => h) rfl dX6_wrong_8 (fun _ _ hw3 => ?_)
  obtain ⟨σ4, e5⟩ : ∃ z, z = st σ (σ (σ a0 7 0) 4 0) 6 0 x1 := ⟨_, rfl⟩
  have h := h σ4 e5
  have hw3 := wc_e e5 hw3
  have hk6 := kp_e e5 hk wo_X6_wrong (by decide) hg2 (t := 2) (by decide)
  have hg7 : tg σ4 a0 = 9 := (tg_e e5 (by decide)).trans ht0
  refine z_aload_n (pc := 11) K dX6_wrong_11 rfl (lv_at hl 0 rfl) ?_
  refine z_get (pc := 12) (t := 9) (k := 7) K hw3 (ob (t := 9) hg7) zq9 (by decide) q402 (fun _ h => h) dX6_wrong_12 (zval_r kf_9_7) ?_
  have hg8 : tg σ4 (σ4 a0 7 0) = 1 := (z_tg (t := 9) (r := 1) hw3 hg7 ⟨by decide, by decide⟩ kf_9_7 kn_9_7 kt_9_7 (by decide) (by decide))
  refine z_getN (pc := 15) (t := 1) (k := 4) K hw3 (ob (t := 1) hg8) zq1 (by decide) q515 (fun _ h => h) dX6_wrong_15 (zval_r kf_1_4) ?_
  refine lv_iload_n (pc := 18) K.x K.b dX6_wrong_18 rfl (lv_at hl 2 rfl) ?_
  have hg9 : tg σ4 (σ4 (σ4 a0 7 0) 4 0) = 2 := (z_tg (t := 1) (r := 2) hw3 hg8 ⟨by decide, by decide⟩ kf_1_4 kn_1_4 kt_1_4 (by decide) (by decide))
  refine z_puti (pc := 19) (t := 2) 7 K hw3 (ob hg9) zq2 (by decide) kf_2_7 zt_2_7 hx2 q179 (fun _ h => h) rfl dX6_wrong_19 (fun _ _ hw10 => ?_)
  obtain ⟨σ11, e12⟩ : ∃ z, z = st σ4 (σ4 (σ4 a0 7 0) 4 0) 7 0 x2 := ⟨_, rfl⟩
  have h := h σ11 e12
  have hw10 := wc_e e12 hw10
  have hk13 := kp_e e12 hk6 wo_X6_wrong (by decide) hg9 (t := 2) (by decide)
  have hg14 : tg σ11 a0 = 9 := (tg_e e12 (by decide)).trans hg7
  refine z_aload_n (pc := 22) K dX6_wrong_22 rfl (lv_at hl 0 rfl) ?_
  refine z_get (pc := 23) (t := 9) (k := 7) K hw10 (ob (t := 9) hg14) zq9 (by decide) q402 (fun _ h => h) dX6_wrong_23 (zval_r kf_9_7) ?_
  have hg15 : tg σ11 (σ11 a0 7 0) = 1 := (z_tg (t := 9) (r := 1) hw10 hg14 ⟨by decide, by decide⟩ kf_9_7 kn_9_7 kt_9_7 (by decide) (by decide))
  refine z_getN (pc := 26) (t := 1) (k := 4) K hw10 (ob (t := 1) hg15) zq1 (by decide) q515 (fun _ h => h) dX6_wrong_26 (zval_r kf_1_4) ?_
  have hg16 : tg σ11 (σ11 (σ11 a0 7 0) 4 0) = 2 := (z_tg (t := 1) (r := 2) hw10 hg15 ⟨by decide, by decide⟩ kf_1_4 kn_1_4 kt_1_4 (by decide) (by decide))
  exact z_aret (pc := 29) K hw10 (Or.inr (tg_okR (r := 2) (by decide) (by decide) hg16)) ⟨hk13, h⟩ dX6_wrong_29
def ws_X6_must : List (Int × Nat) := [(2, 6), (2, 7)]
theorem wo_X6_must : wsOk ws_X6_must = true := rfl
def wp_X6_must (σ : St) (a0 : Int) (x1 : Int) (x2 : Int) (Q : St → Prop) (E : Int → St → Prop) : Prop :=
  (if x1 = 0 then
    wp_X6_wrong σ a0 x2 (σ a0 2 0) (fun r2 σ5 => Kp ws_X6_wrong σ σ5 → r2 ≠ -1 ∧ E r2 σ5)
    else
    Q σ)
set_option maxHeartbeats 4000000 in
theorem met_X6_must_6 (X : Cxt) (l : Launch) (σ : St) (a0 : Int) (x1 : Int) (x2 : Int) (ht0 : tg σ a0 = 6) (hx1 : 0 ≤ x1 ∧ x1 ≤ 1) (hx2 : rng x2) (Q : St → Prop) (E : Int → St → Prop) (h : wp_X6_must σ a0 x1 x2 Q E) : MetT l yX6_must (ws_ yX6_must cX6_must 3 (none)) (zrm 2 0 0) (ZP X σ [jR X a0, jI x1, jI x2]) (ZQ X (qV (fun σ' => Kp ws_X6_must σ σ' ∧ Q σ')) (fun x σ' => tg σ' x = 2 ∧ Kp ws_X6_must σ σ' ∧ E x σ')) 0 0 (zA X) := by
  refine z_start (own := "CombTable$Reader") (lv := [(0, jR X a0), (1, jI x1), (2, jI x2)]) (by decide) rfl (by simp [lv_args, jR_cat, jI_cat, jL_cat]) (by simp [lg_sl, jR_cat, jI_cat, jL_cat]) (fun p e s m below meth c ls K hex _ hw hl => ?_)
  have hk : Kp ws_X6_must σ σ := kp_rf σ
  refine lv_iload_n (pc := 0) K.x K.b dX6_must_0 rfl (lv_at hl 1 rfl) ?_
  refine z_if_ne (pc := 1) (tgt := 14) K (b01r hx1) dX6_must_1 (by decide) (fun hc1 => ?_) (fun hc1 => ?_)
  · have h := ite_t h hc1
    refine z_aload_n (pc := 4) K dX6_must_4 rfl (lv_at hl 0 rfl) ?_
    refine lv_iload_n (pc := 5) K.x K.b dX6_must_5 rfl (lv_at hl 2 rfl) ?_
    refine z_aload_n (pc := 6) K dX6_must_6 rfl (lv_at hl 0 rfl) ?_
    refine z_get (pc := 7) (t := 6) (k := 2) K hw (ob (t := 6) ht0) zq6 (by decide) q385 (fun _ h => h) dX6_must_7 (zval_i kf_6_2) ?_
    refine zc_r (pc := 10) (maxL := 3) K hw (met_X6_wrong_6 X l σ a0 x2 (σ a0 2 0) ht0 hx2 (z_rI hw (ob (t := 6) ht0) kf_6_2) _ h) (i_V (n := 2) (t := 6) (As := [jI x2, jI (σ a0 2 0)]) K hw (ob ht0) zq6 (by decide) q760 q761 q765 (sg_of K q767) rfl rfl dX6_must_10) (locw K q767 q97) ⟨by decide, by decide⟩ hl.1 dX6_must_10 (Nat.le_of_ble_eq_true rfl) ⟨Nat.le_refl _, Nat.le_refl _⟩ (fun r2 σ5 _ _ hr3 hq4 hw6 => ?_)
    obtain ⟨hk7, h⟩ := hq4
    have h := h hk7
    have hk8 := kp_trans wo_X6_must hk hk7 (fun _ q => q) (by decide)
    have hg9 : tg σ5 a0 = 6 := kp_tg hk7 wo_X6_wrong ht0 (by decide)
    obtain ⟨hn11, h⟩ := h
    have hg10 : tg σ5 r2 = 2 := okR_nn hn11 (by decide) (by decide) hr3
    exact z_athrow (pc := 13) K hw6 (hw6.1.pos (by rw [hg10]; decide)).1 ⟨hg10, hk8, h⟩ (no_cov hex 13) dX6_must_13
  · have h := ite_f h hc1
    exact z_vret (pc := 14) K hw ⟨hk, h⟩ dX6_must_14
set_option maxHeartbeats 4000000 in
theorem met_X6_must_7 (X : Cxt) (l : Launch) (σ : St) (a0 : Int) (x1 : Int) (x2 : Int) (ht0 : tg σ a0 = 7) (hx1 : 0 ≤ x1 ∧ x1 ≤ 1) (hx2 : rng x2) (Q : St → Prop) (E : Int → St → Prop) (h : wp_X6_must σ a0 x1 x2 Q E) : MetT l yX6_must (ws_ yX6_must cX6_must 3 (none)) (zrm 2 0 0) (ZP X σ [jR X a0, jI x1, jI x2]) (ZQ X (qV (fun σ' => Kp ws_X6_must σ σ' ∧ Q σ')) (fun x σ' => tg σ' x = 2 ∧ Kp ws_X6_must σ σ' ∧ E x σ')) 0 0 (zA X) := by
  refine z_start (own := "CombTable$Reader") (lv := [(0, jR X a0), (1, jI x1), (2, jI x2)]) (by decide) rfl (by simp [lv_args, jR_cat, jI_cat, jL_cat]) (by simp [lg_sl, jR_cat, jI_cat, jL_cat]) (fun p e s m below meth c ls K hex _ hw hl => ?_)
  have hk : Kp ws_X6_must σ σ := kp_rf σ
  refine lv_iload_n (pc := 0) K.x K.b dX6_must_0 rfl (lv_at hl 1 rfl) ?_
  refine z_if_ne (pc := 1) (tgt := 14) K (b01r hx1) dX6_must_1 (by decide) (fun hc1 => ?_) (fun hc1 => ?_)
  · have h := ite_t h hc1
    refine z_aload_n (pc := 4) K dX6_must_4 rfl (lv_at hl 0 rfl) ?_
    refine lv_iload_n (pc := 5) K.x K.b dX6_must_5 rfl (lv_at hl 2 rfl) ?_
    refine z_aload_n (pc := 6) K dX6_must_6 rfl (lv_at hl 0 rfl) ?_
    refine z_get (pc := 7) (t := 7) (k := 2) K hw (ob (t := 7) ht0) zq7 (by decide) q385 (fun _ h => h) dX6_must_7 (zval_i kf_7_2) ?_
    refine zc_r (pc := 10) (maxL := 3) K hw (met_X6_wrong_7 X l σ a0 x2 (σ a0 2 0) ht0 hx2 (z_rI hw (ob (t := 7) ht0) kf_7_2) _ h) (i_V (n := 2) (t := 7) (As := [jI x2, jI (σ a0 2 0)]) K hw (ob ht0) zq7 (by decide) q760 q761 q766 (sg_of K q767) rfl rfl dX6_must_10) (locw K q767 q97) ⟨by decide, by decide⟩ hl.1 dX6_must_10 (Nat.le_of_ble_eq_true rfl) ⟨Nat.le_refl _, Nat.le_refl _⟩ (fun r2 σ5 _ _ hr3 hq4 hw6 => ?_)
    obtain ⟨hk7, h⟩ := hq4
    have h := h hk7
    have hk8 := kp_trans wo_X6_must hk hk7 (fun _ q => q) (by decide)
    have hg9 : tg σ5 a0 = 7 := kp_tg hk7 wo_X6_wrong ht0 (by decide)
    obtain ⟨hn11, h⟩ := h
    have hg10 : tg σ5 r2 = 2 := okR_nn hn11 (by decide) (by decide) hr3
    exact z_athrow (pc := 13) K hw6 (hw6.1.pos (by rw [hg10]; decide)).1 ⟨hg10, hk8, h⟩ (no_cov hex 13) dX6_must_13
  · have h := ite_f h hc1
    exact z_vret (pc := 14) K hw ⟨hk, h⟩ dX6_must_14
set_option maxHeartbeats 4000000 in
theorem met_X6_must_8 (X : Cxt) (l : Launch) (σ : St) (a0 : Int) (x1 : Int) (x2 : Int) (ht0 : tg σ a0 = 8) (hx1 : 0 ≤ x1 ∧ x1 ≤ 1) (hx2 : rng x2) (Q : St → Prop) (E : Int → St → Prop) (h : wp_X6_must σ a0 x1 x2 Q E) : MetT l yX6_must (ws_ yX6_must cX6_must 3 (none)) (zrm 2 0 0) (ZP X σ [jR X a0, jI x1, jI x2]) (ZQ X (qV (fun σ' => Kp ws_X6_must σ σ' ∧ Q σ')) (fun x σ' => tg σ' x = 2 ∧ Kp ws_X6_must σ σ' ∧ E x σ')) 0 0 (zA X) := by
  refine z_start (own := "CombTable$Reader") (lv := [(0, jR X a0), (1, jI x1), (2, jI x2)]) (by decide) rfl (by simp [lv_args, jR_cat, jI_cat, jL_cat]) (by simp [lg_sl, jR_cat, jI_cat, jL_cat]) (fun p e s m below meth c ls K hex _ hw hl => ?_)
  have hk : Kp ws_X6_must σ σ := kp_rf σ
  refine lv_iload_n (pc := 0) K.x K.b dX6_must_0 rfl (lv_at hl 1 rfl) ?_
  refine z_if_ne (pc := 1) (tgt := 14) K (b01r hx1) dX6_must_1 (by decide) (fun hc1 => ?_) (fun hc1 => ?_)
  · have h := ite_t h hc1
    refine z_aload_n (pc := 4) K dX6_must_4 rfl (lv_at hl 0 rfl) ?_
    refine lv_iload_n (pc := 5) K.x K.b dX6_must_5 rfl (lv_at hl 2 rfl) ?_
    refine z_aload_n (pc := 6) K dX6_must_6 rfl (lv_at hl 0 rfl) ?_
    refine z_get (pc := 7) (t := 8) (k := 2) K hw (ob (t := 8) ht0) zq8 (by decide) q385 (fun _ h => h) dX6_must_7 (zval_i kf_8_2) ?_
    refine zc_r (pc := 10) (maxL := 3) K hw (met_X6_wrong_8 X l σ a0 x2 (σ a0 2 0) ht0 hx2 (z_rI hw (ob (t := 8) ht0) kf_8_2) _ h) (i_V (n := 2) (t := 8) (As := [jI x2, jI (σ a0 2 0)]) K hw (ob ht0) zq8 (by decide) q760 q761 q763 (sg_of K q767) rfl rfl dX6_must_10) (locw K q767 q97) ⟨by decide, by decide⟩ hl.1 dX6_must_10 (Nat.le_of_ble_eq_true rfl) ⟨Nat.le_refl _, Nat.le_refl _⟩ (fun r2 σ5 _ _ hr3 hq4 hw6 => ?_)
    obtain ⟨hk7, h⟩ := hq4
    have h := h hk7
    have hk8 := kp_trans wo_X6_must hk hk7 (fun _ q => q) (by decide)
    have hg9 : tg σ5 a0 = 8 := kp_tg hk7 wo_X6_wrong ht0 (by decide)
    obtain ⟨hn11, h⟩ := h
    have hg10 : tg σ5 r2 = 2 := okR_nn hn11 (by decide) (by decide) hr3
    exact z_athrow (pc := 13) K hw6 (hw6.1.pos (by rw [hg10]; decide)).1 ⟨hg10, hk8, h⟩ (no_cov hex 13) dX6_must_13
  · have h := ite_f h hc1
    exact z_vret (pc := 14) K hw ⟨hk, h⟩ dX6_must_14
set_option maxHeartbeats 4000000 in
theorem met_X6_must_9 (X : Cxt) (l : Launch) (σ : St) (a0 : Int) (x1 : Int) (x2 : Int) (ht0 : tg σ a0 = 9) (hx1 : 0 ≤ x1 ∧ x1 ≤ 1) (hx2 : rng x2) (Q : St → Prop) (E : Int → St → Prop) (h : wp_X6_must σ a0 x1 x2 Q E) : MetT l yX6_must (ws_ yX6_must cX6_must 3 (none)) (zrm 2 0 0) (ZP X σ [jR X a0, jI x1, jI x2]) (ZQ X (qV (fun σ' => Kp ws_X6_must σ σ' ∧ Q σ')) (fun x σ' => tg σ' x = 2 ∧ Kp ws_X6_must σ σ' ∧ E x σ')) 0 0 (zA X) := by
  refine z_start (own := "CombTable$Reader") (lv := [(0, jR X a0), (1, jI x1), (2, jI x2)]) (by decide) rfl (by simp [lv_args, jR_cat, jI_cat, jL_cat]) (by simp [lg_sl, jR_cat, jI_cat, jL_cat]) (fun p e s m below meth c ls K hex _ hw hl => ?_)
  have hk : Kp ws_X6_must σ σ := kp_rf σ
  refine lv_iload_n (pc := 0) K.x K.b dX6_must_0 rfl (lv_at hl 1 rfl) ?_
  refine z_if_ne (pc := 1) (tgt := 14) K (b01r hx1) dX6_must_1 (by decide) (fun hc1 => ?_) (fun hc1 => ?_)
  · have h := ite_t h hc1
    refine z_aload_n (pc := 4) K dX6_must_4 rfl (lv_at hl 0 rfl) ?_
    refine lv_iload_n (pc := 5) K.x K.b dX6_must_5 rfl (lv_at hl 2 rfl) ?_
    refine z_aload_n (pc := 6) K dX6_must_6 rfl (lv_at hl 0 rfl) ?_
    refine z_get (pc := 7) (t := 9) (k := 2) K hw (ob (t := 9) ht0) zq9 (by decide) q385 (fun _ h => h) dX6_must_7 (zval_i kf_9_2) ?_
    refine zc_r (pc := 10) (maxL := 3) K hw (met_X6_wrong_9 X l σ a0 x2 (σ a0 2 0) ht0 hx2 (z_rI hw (ob (t := 9) ht0) kf_9_2) _ h) (i_V (n := 2) (t := 9) (As := [jI x2, jI (σ a0 2 0)]) K hw (ob ht0) zq9 (by decide) q760 q761 q764 (sg_of K q767) rfl rfl dX6_must_10) (locw K q767 q97) ⟨by decide, by decide⟩ hl.1 dX6_must_10 (Nat.le_of_ble_eq_true rfl) ⟨Nat.le_refl _, Nat.le_refl _⟩ (fun r2 σ5 _ _ hr3 hq4 hw6 => ?_)
    obtain ⟨hk7, h⟩ := hq4
    have h := h hk7
    have hk8 := kp_trans wo_X6_must hk hk7 (fun _ q => q) (by decide)
    have hg9 : tg σ5 a0 = 9 := kp_tg hk7 wo_X6_wrong ht0 (by decide)
    obtain ⟨hn11, h⟩ := h
    have hg10 : tg σ5 r2 = 2 := okR_nn hn11 (by decide) (by decide) hr3
    exact z_athrow (pc := 13) K hw6 (hw6.1.pos (by rw [hg10]; decide)).1 ⟨hg10, hk8, h⟩ (no_cov hex 13) dX6_must_13
  · have h := ite_f h hc1
    exact z_vret (pc := 14) K hw ⟨hk, h⟩ dX6_must_14
def wp_X6_isDigit (σ : St) (a0 : Int) (x1 : Int) (Q : Int → Prop) : Prop :=
  wp_X1_isIn σ x1 48 57 (fun r1 => Q r1)
set_option maxHeartbeats 4000000 in
theorem met_X6_isDigit_6 (X : Cxt) (l : Launch) (σ : St) (a0 : Int) (x1 : Int) (ht0 : tg σ a0 = 6) (hx1 : rng x1) (Q : Int → Prop) (h : wp_X6_isDigit σ a0 x1 Q) : MetT l yX6_isDigit (ws_ yX6_isDigit cX6_isDigit 2 (some .boolean)) (zrm 2 0 0) (ZP X σ [jR X a0, jI x1]) (ZQ X (qZ (fun r σ' => σ' = σ ∧ Q r)) (fun _ _ => False)) 0 0 (zA X) := by
  refine z_start (own := "CombTable$Reader") (lv := [(0, jR X a0), (1, jI x1)]) (by decide) rfl (by simp [lv_args, jR_cat, jI_cat, jL_cat]) (by simp [lg_sl, jR_cat, jI_cat, jL_cat]) (fun p e s m below meth c ls K _ _ hw hl => ?_)
  refine lv_iload_n (pc := 0) K.x K.b dX6_isDigit_0 rfl (lv_at hl 1 rfl) ?_
  refine z_bipush (pc := 1) K dX6_isDigit_1 (by decide) ?_
  refine z_bipush (pc := 3) K dX6_isDigit_3 (by decide) ?_
  refine zr_z (pc := 5) (maxL := 3) K hw (met_X1_isIn X l σ x1 48 57 hx1 ⟨by decide, by decide⟩ ⟨by decide, by decide⟩ _ h) (i_SN (n := 3) (As := [jI x1, jI 48, jI 57]) K (by decide) q681 q682 q90 (sg_of K q683) rfl rfl dX6_isDigit_5) (locw K q683 q90) ⟨by decide, by decide⟩ hl.1 dX6_isDigit_5 (Nat.le_of_ble_eq_true rfl) ⟨Nat.le_refl _, Nat.le_refl _⟩ (fun r1 _ _ hr2 h hw5 => ?_)
  exact z_zret (pc := 8) K hw5 hr2 ⟨rfl, h⟩ dX6_isDigit_8
set_option maxHeartbeats 4000000 in
theorem met_X6_isDigit_7 (X : Cxt) (l : Launch) (σ : St) (a0 : Int) (x1 : Int) (ht0 : tg σ a0 = 7) (hx1 : rng x1) (Q : Int → Prop) (h : wp_X6_isDigit σ a0 x1 Q) : MetT l yX6_isDigit (ws_ yX6_isDigit cX6_isDigit 2 (some .boolean)) (zrm 2 0 0) (ZP X σ [jR X a0, jI x1]) (ZQ X (qZ (fun r σ' => σ' = σ ∧ Q r)) (fun _ _ => False)) 0 0 (zA X) := by
  refine z_start (own := "CombTable$Reader") (lv := [(0, jR X a0), (1, jI x1)]) (by decide) rfl (by simp [lv_args, jR_cat, jI_cat, jL_cat]) (by simp [lg_sl, jR_cat, jI_cat, jL_cat]) (fun p e s m below meth c ls K _ _ hw hl => ?_)
  refine lv_iload_n (pc := 0) K.x K.b dX6_isDigit_0 rfl (lv_at hl 1 rfl) ?_
  refine z_bipush (pc := 1) K dX6_isDigit_1 (by decide) ?_
  refine z_bipush (pc := 3) K dX6_isDigit_3 (by decide) ?_
  refine zr_z (pc := 5) (maxL := 3) K hw (met_X1_isIn X l σ x1 48 57 hx1 ⟨by decide, by decide⟩ ⟨by decide, by decide⟩ _ h) (i_SN (n := 3) (As := [jI x1, jI 48, jI 57]) K (by decide) q681 q682 q90 (sg_of K q683) rfl rfl dX6_isDigit_5) (locw K q683 q90) ⟨by decide, by decide⟩ hl.1 dX6_isDigit_5 (Nat.le_of_ble_eq_true rfl) ⟨Nat.le_refl _, Nat.le_refl _⟩ (fun r1 _ _ hr2 h hw5 => ?_)
  exact z_zret (pc := 8) K hw5 hr2 ⟨rfl, h⟩ dX6_isDigit_8
set_option maxHeartbeats 4000000 in
theorem met_X6_isDigit_8 (X : Cxt) (l : Launch) (σ : St) (a0 : Int) (x1 : Int) (ht0 : tg σ a0 = 8) (hx1 : rng x1) (Q : Int → Prop) (h : wp_X6_isDigit σ a0 x1 Q) : MetT l yX6_isDigit (ws_ yX6_isDigit cX6_isDigit 2 (some .boolean)) (zrm 2 0 0) (ZP X σ [jR X a0, jI x1]) (ZQ X (qZ (fun r σ' => σ' = σ ∧ Q r)) (fun _ _ => False)) 0 0 (zA X) := by
  refine z_start (own := "CombTable$Reader") (lv := [(0, jR X a0), (1, jI x1)]) (by decide) rfl (by simp [lv_args, jR_cat, jI_cat, jL_cat]) (by simp [lg_sl, jR_cat, jI_cat, jL_cat]) (fun p e s m below meth c ls K _ _ hw hl => ?_)
  refine lv_iload_n (pc := 0) K.x K.b dX6_isDigit_0 rfl (lv_at hl 1 rfl) ?_
  refine z_bipush (pc := 1) K dX6_isDigit_1 (by decide) ?_
  refine z_bipush (pc := 3) K dX6_isDigit_3 (by decide) ?_
  refine zr_z (pc := 5) (maxL := 3) K hw (met_X1_isIn X l σ x1 48 57 hx1 ⟨by decide, by decide⟩ ⟨by decide, by decide⟩ _ h) (i_SN (n := 3) (As := [jI x1, jI 48, jI 57]) K (by decide) q681 q682 q90 (sg_of K q683) rfl rfl dX6_isDigit_5) (locw K q683 q90) ⟨by decide, by decide⟩ hl.1 dX6_isDigit_5 (Nat.le_of_ble_eq_true rfl) ⟨Nat.le_refl _, Nat.le_refl _⟩ (fun r1 _ _ hr2 h hw5 => ?_)
  exact z_zret (pc := 8) K hw5 hr2 ⟨rfl, h⟩ dX6_isDigit_8
set_option maxHeartbeats 4000000 in
theorem met_X6_isDigit_9 (X : Cxt) (l : Launch) (σ : St) (a0 : Int) (x1 : Int) (ht0 : tg σ a0 = 9) (hx1 : rng x1) (Q : Int → Prop) (h : wp_X6_isDigit σ a0 x1 Q) : MetT l yX6_isDigit (ws_ yX6_isDigit cX6_isDigit 2 (some .boolean)) (zrm 2 0 0) (ZP X σ [jR X a0, jI x1]) (ZQ X (qZ (fun r σ' => σ' = σ ∧ Q r)) (fun _ _ => False)) 0 0 (zA X) := by
  refine z_start (own := "CombTable$Reader") (lv := [(0, jR X a0), (1, jI x1)]) (by decide) rfl (by simp [lv_args, jR_cat, jI_cat, jL_cat]) (by simp [lg_sl, jR_cat, jI_cat, jL_cat]) (fun p e s m below meth c ls K _ _ hw hl => ?_)
  refine lv_iload_n (pc := 0) K.x K.b dX6_isDigit_0 rfl (lv_at hl 1 rfl) ?_
  refine z_bipush (pc := 1) K dX6_isDigit_1 (by decide) ?_
  refine z_bipush (pc := 3) K dX6_isDigit_3 (by decide) ?_
  refine zr_z (pc := 5) (maxL := 3) K hw (met_X1_isIn X l σ x1 48 57 hx1 ⟨by decide, by decide⟩ ⟨by decide, by decide⟩ _ h) (i_SN (n := 3) (As := [jI x1, jI 48, jI 57]) K (by decide) q681 q682 q90 (sg_of K q683) rfl rfl dX6_isDigit_5) (locw K q683 q90) ⟨by decide, by decide⟩ hl.1 dX6_isDigit_5 (Nat.le_of_ble_eq_true rfl) ⟨Nat.le_refl _, Nat.le_refl _⟩ (fun r1 _ _ hr2 h hw5 => ?_)
  exact z_zret (pc := 8) K hw5 hr2 ⟨rfl, h⟩ dX6_isDigit_8
def wp_X6_isLetter (σ : St) (a0 : Int) (x1 : Int) (Q : Int → Prop) : Prop :=
  wp_X1_isIn σ x1 97 122 (fun r1 => Q r1)
set_option maxHeartbeats 4000000 in
theorem met_X6_isLetter_6 (X : Cxt) (l : Launch) (σ : St) (a0 : Int) (x1 : Int) (ht0 : tg σ a0 = 6) (hx1 : rng x1) (Q : Int → Prop) (h : wp_X6_isLetter σ a0 x1 Q) : MetT l yX6_isLetter (ws_ yX6_isLetter cX6_isLetter 2 (some .boolean)) (zrm 2 0 0) (ZP X σ [jR X a0, jI x1]) (ZQ X (qZ (fun r σ' => σ' = σ ∧ Q r)) (fun _ _ => False)) 0 0 (zA X) := by
  refine z_start (own := "CombTable$Reader") (lv := [(0, jR X a0), (1, jI x1)]) (by decide) rfl (by simp [lv_args, jR_cat, jI_cat, jL_cat]) (by simp [lg_sl, jR_cat, jI_cat, jL_cat]) (fun p e s m below meth c ls K _ _ hw hl => ?_)
  refine lv_iload_n (pc := 0) K.x K.b dX6_isLetter_0 rfl (lv_at hl 1 rfl) ?_
  refine z_bipush (pc := 1) K dX6_isLetter_1 (by decide) ?_
  refine z_bipush (pc := 3) K dX6_isLetter_3 (by decide) ?_
  refine zr_z (pc := 5) (maxL := 3) K hw (met_X1_isIn X l σ x1 97 122 hx1 ⟨by decide, by decide⟩ ⟨by decide, by decide⟩ _ h) (i_SN (n := 3) (As := [jI x1, jI 97, jI 122]) K (by decide) q681 q682 q90 (sg_of K q683) rfl rfl dX6_isLetter_5) (locw K q683 q90) ⟨by decide, by decide⟩ hl.1 dX6_isLetter_5 (Nat.le_of_ble_eq_true rfl) ⟨Nat.le_refl _, Nat.le_refl _⟩ (fun r1 _ _ hr2 h hw5 => ?_)
  exact z_zret (pc := 8) K hw5 hr2 ⟨rfl, h⟩ dX6_isLetter_8
set_option maxHeartbeats 4000000 in
theorem met_X6_isLetter_7 (X : Cxt) (l : Launch) (σ : St) (a0 : Int) (x1 : Int) (ht0 : tg σ a0 = 7) (hx1 : rng x1) (Q : Int → Prop) (h : wp_X6_isLetter σ a0 x1 Q) : MetT l yX6_isLetter (ws_ yX6_isLetter cX6_isLetter 2 (some .boolean)) (zrm 2 0 0) (ZP X σ [jR X a0, jI x1]) (ZQ X (qZ (fun r σ' => σ' = σ ∧ Q r)) (fun _ _ => False)) 0 0 (zA X) := by
  refine z_start (own := "CombTable$Reader") (lv := [(0, jR X a0), (1, jI x1)]) (by decide) rfl (by simp [lv_args, jR_cat, jI_cat, jL_cat]) (by simp [lg_sl, jR_cat, jI_cat, jL_cat]) (fun p e s m below meth c ls K _ _ hw hl => ?_)
  refine lv_iload_n (pc := 0) K.x K.b dX6_isLetter_0 rfl (lv_at hl 1 rfl) ?_
  refine z_bipush (pc := 1) K dX6_isLetter_1 (by decide) ?_
  refine z_bipush (pc := 3) K dX6_isLetter_3 (by decide) ?_
  refine zr_z (pc := 5) (maxL := 3) K hw (met_X1_isIn X l σ x1 97 122 hx1 ⟨by decide, by decide⟩ ⟨by decide, by decide⟩ _ h) (i_SN (n := 3) (As := [jI x1, jI 97, jI 122]) K (by decide) q681 q682 q90 (sg_of K q683) rfl rfl dX6_isLetter_5) (locw K q683 q90) ⟨by decide, by decide⟩ hl.1 dX6_isLetter_5 (Nat.le_of_ble_eq_true rfl) ⟨Nat.le_refl _, Nat.le_refl _⟩ (fun r1 _ _ hr2 h hw5 => ?_)
  exact z_zret (pc := 8) K hw5 hr2 ⟨rfl, h⟩ dX6_isLetter_8
set_option maxHeartbeats 4000000 in
theorem met_X6_isLetter_8 (X : Cxt) (l : Launch) (σ : St) (a0 : Int) (x1 : Int) (ht0 : tg σ a0 = 8) (hx1 : rng x1) (Q : Int → Prop) (h : wp_X6_isLetter σ a0 x1 Q) : MetT l yX6_isLetter (ws_ yX6_isLetter cX6_isLetter 2 (some .boolean)) (zrm 2 0 0) (ZP X σ [jR X a0, jI x1]) (ZQ X (qZ (fun r σ' => σ' = σ ∧ Q r)) (fun _ _ => False)) 0 0 (zA X) := by
  refine z_start (own := "CombTable$Reader") (lv := [(0, jR X a0), (1, jI x1)]) (by decide) rfl (by simp [lv_args, jR_cat, jI_cat, jL_cat]) (by simp [lg_sl, jR_cat, jI_cat, jL_cat]) (fun p e s m below meth c ls K _ _ hw hl => ?_)
  refine lv_iload_n (pc := 0) K.x K.b dX6_isLetter_0 rfl (lv_at hl 1 rfl) ?_
  refine z_bipush (pc := 1) K dX6_isLetter_1 (by decide) ?_
  refine z_bipush (pc := 3) K dX6_isLetter_3 (by decide) ?_
  refine zr_z (pc := 5) (maxL := 3) K hw (met_X1_isIn X l σ x1 97 122 hx1 ⟨by decide, by decide⟩ ⟨by decide, by decide⟩ _ h) (i_SN (n := 3) (As := [jI x1, jI 97, jI 122]) K (by decide) q681 q682 q90 (sg_of K q683) rfl rfl dX6_isLetter_5) (locw K q683 q90) ⟨by decide, by decide⟩ hl.1 dX6_isLetter_5 (Nat.le_of_ble_eq_true rfl) ⟨Nat.le_refl _, Nat.le_refl _⟩ (fun r1 _ _ hr2 h hw5 => ?_)
  exact z_zret (pc := 8) K hw5 hr2 ⟨rfl, h⟩ dX6_isLetter_8
set_option maxHeartbeats 4000000 in
theorem met_X6_isLetter_9 (X : Cxt) (l : Launch) (σ : St) (a0 : Int) (x1 : Int) (ht0 : tg σ a0 = 9) (hx1 : rng x1) (Q : Int → Prop) (h : wp_X6_isLetter σ a0 x1 Q) : MetT l yX6_isLetter (ws_ yX6_isLetter cX6_isLetter 2 (some .boolean)) (zrm 2 0 0) (ZP X σ [jR X a0, jI x1]) (ZQ X (qZ (fun r σ' => σ' = σ ∧ Q r)) (fun _ _ => False)) 0 0 (zA X) := by
  refine z_start (own := "CombTable$Reader") (lv := [(0, jR X a0), (1, jI x1)]) (by decide) rfl (by simp [lv_args, jR_cat, jI_cat, jL_cat]) (by simp [lg_sl, jR_cat, jI_cat, jL_cat]) (fun p e s m below meth c ls K _ _ hw hl => ?_)
  refine lv_iload_n (pc := 0) K.x K.b dX6_isLetter_0 rfl (lv_at hl 1 rfl) ?_
  refine z_bipush (pc := 1) K dX6_isLetter_1 (by decide) ?_
  refine z_bipush (pc := 3) K dX6_isLetter_3 (by decide) ?_
  refine zr_z (pc := 5) (maxL := 3) K hw (met_X1_isIn X l σ x1 97 122 hx1 ⟨by decide, by decide⟩ ⟨by decide, by decide⟩ _ h) (i_SN (n := 3) (As := [jI x1, jI 97, jI 122]) K (by decide) q681 q682 q90 (sg_of K q683) rfl rfl dX6_isLetter_5) (locw K q683 q90) ⟨by decide, by decide⟩ hl.1 dX6_isLetter_5 (Nat.le_of_ble_eq_true rfl) ⟨Nat.le_refl _, Nat.le_refl _⟩ (fun r1 _ _ hr2 h hw5 => ?_)
  exact z_zret (pc := 8) K hw5 hr2 ⟨rfl, h⟩ dX6_isLetter_8
def wp_X6_peek (σ : St) (a0 : Int) (Q : Int → Prop) : Prop :=
  (if σ a0 1 0 < σ (σ a0 7 0) 2 0 then
    (0 ≤ σ a0 1 0 ∧ σ a0 1 0 < 940) ∧ Q (zand (σ (σ a0 7 0) 0 (σ a0 1 0)) 255)
    else
    Q (-1))
set_option maxHeartbeats 4000000 in
theorem met_X6_peek_6 (X : Cxt) (l : Launch) (σ : St) (a0 : Int) (ht0 : tg σ a0 = 6) (Q : Int → Prop) (h : wp_X6_peek σ a0 Q) : MetT l yX6_peek (ws_ yX6_peek cX6_peek 1 (some .int)) (zrm 1 0 0) (ZP X σ [jR X a0]) (ZQ X (qI (fun r σ' => σ' = σ ∧ Q r)) (fun _ _ => False)) 0 0 (zA X) := by
  refine z_start (own := "CombTable$Reader") (lv := [(0, jR X a0)]) (by decide) rfl (by simp [lv_args, jR_cat, jI_cat, jL_cat]) (by simp [lg_sl, jR_cat, jI_cat, jL_cat]) (fun p e s m below meth c ls K _ _ hw hl => ?_)
  refine z_aload_n (pc := 0) K dX6_peek_0 rfl (lv_at hl 0 rfl) ?_
  refine z_get (pc := 1) (t := 6) (k := 1) K hw (ob (t := 6) ht0) zq6 (by decide) q382 (fun _ h => h) dX6_peek_1 (zval_i kf_6_1) ?_
  refine z_aload_n (pc := 4) K dX6_peek_4 rfl (lv_at hl 0 rfl) ?_
  refine z_get (pc := 5) (t := 6) (k := 7) K hw (ob (t := 6) ht0) zq6 (by decide) q402 (fun _ h => h) dX6_peek_5 (zval_r kf_6_7) ?_
  have hg1 : tg σ (σ a0 7 0) = 1 := (z_tg (t := 6) (r := 1) hw ht0 ⟨by decide, by decide⟩ kf_6_7 kn_6_7 kt_6_7 (by decide) (by decide))
  refine z_getN (pc := 8) (t := 1) (k := 2) K hw (ob (t := 1) hg1) zq1 (by decide) q512 (fun _ h => h) dX6_peek_8 (zval_i kf_1_2) ?_
  refine z_icmp_ge (pc := 11) (tgt := 33) K (z_rI hw (ob (t := 6) ht0) kf_6_1) (z_rI hw (ob (t := 1) hg1) kf_1_2) dX6_peek_11 (by decide) (fun hc2 => ?_) (fun hc2 => ?_)
  · have h := ite_t h hc2
    refine z_aload_n (pc := 14) K dX6_peek_14 rfl (lv_at hl 0 rfl) ?_
    refine z_get (pc := 15) (t := 6) (k := 7) K hw (ob (t := 6) ht0) zq6 (by decide) q402 (fun _ h => h) dX6_peek_15 (zval_r kf_6_7) ?_
    refine z_getN (pc := 18) (t := 1) (k := 0) K hw (ob (t := 1) hg1) zq1 (by decide) q510 (fun _ h => h) dX6_peek_18 (zval_p (κ := 0) kf_1_0) ?_
    refine z_aload_n (pc := 21) K dX6_peek_21 rfl (lv_at hl 0 rfl) ?_
    refine z_get (pc := 22) (t := 6) (k := 1) K hw (ob (t := 6) ht0) zq6 (by decide) q382 (fun _ h => h) dX6_peek_22 (zval_i kf_6_1) ?_
    obtain ⟨hj3, h⟩ := h
    refine z_bald (pc := 25) (t := 1) K hw hg1 ⟨by decide, by decide⟩ kf_1_0 kl_1_0 hj3 (by decide) dX6_peek_25 ?_
    refine z_sipush (pc := 26) K dX6_peek_26 (by decide) ?_
    refine z_iand (pc := 29) K dX6_peek_29 ?_
    refine z_goto (pc := 30) (tgt := 34) K dX6_peek_30 (by decide) ?_
    exact z_iret (pc := 34) K hw (rng_toInt _) ⟨rfl, h⟩ dX6_peek_34
  · have h := ite_f h hc2
    refine z_iconst (pc := 33) K dX6_peek_33 ?_
    exact z_iret (pc := 34) K hw ⟨by decide, by decide⟩ ⟨rfl, h⟩ dX6_peek_34
set_option maxHeartbeats 4000000 in
theorem met_X6_peek_7 (X : Cxt) (l : Launch) (σ : St) (a0 : Int) (ht0 : tg σ a0 = 7) (Q : Int → Prop) (h : wp_X6_peek σ a0 Q) : MetT l yX6_peek (ws_ yX6_peek cX6_peek 1 (some .int)) (zrm 1 0 0) (ZP X σ [jR X a0]) (ZQ X (qI (fun r σ' => σ' = σ ∧ Q r)) (fun _ _ => False)) 0 0 (zA X) := by
  refine z_start (own := "CombTable$Reader") (lv := [(0, jR X a0)]) (by decide) rfl (by simp [lv_args, jR_cat, jI_cat, jL_cat]) (by simp [lg_sl, jR_cat, jI_cat, jL_cat]) (fun p e s m below meth c ls K _ _ hw hl => ?_)
  refine z_aload_n (pc := 0) K dX6_peek_0 rfl (lv_at hl 0 rfl) ?_
  refine z_get (pc := 1) (t := 7) (k := 1) K hw (ob (t := 7) ht0) zq7 (by decide) q382 (fun _ h => h) dX6_peek_1 (zval_i kf_7_1) ?_
  refine z_aload_n (pc := 4) K dX6_peek_4 rfl (lv_at hl 0 rfl) ?_
  refine z_get (pc := 5) (t := 7) (k := 7) K hw (ob (t := 7) ht0) zq7 (by decide) q402 (fun _ h => h) dX6_peek_5 (zval_r kf_7_7) ?_
  have hg1 : tg σ (σ a0 7 0) = 1 := (z_tg (t := 7) (r := 1) hw ht0 ⟨by decide, by decide⟩ kf_7_7 kn_7_7 kt_7_7 (by decide) (by decide))
  refine z_getN (pc := 8) (t := 1) (k := 2) K hw (ob (t := 1) hg1) zq1 (by decide) q512 (fun _ h => h) dX6_peek_8 (zval_i kf_1_2) ?_
  refine z_icmp_ge (pc := 11) (tgt := 33) K (z_rI hw (ob (t := 7) ht0) kf_7_1) (z_rI hw (ob (t := 1) hg1) kf_1_2) dX6_peek_11 (by decide) (fun hc2 => ?_) (fun hc2 => ?_)
  · have h := ite_t h hc2
    refine z_aload_n (pc := 14) K dX6_peek_14 rfl (lv_at hl 0 rfl) ?_
    refine z_get (pc := 15) (t := 7) (k := 7) K hw (ob (t := 7) ht0) zq7 (by decide) q402 (fun _ h => h) dX6_peek_15 (zval_r kf_7_7) ?_
    refine z_getN (pc := 18) (t := 1) (k := 0) K hw (ob (t := 1) hg1) zq1 (by decide) q510 (fun _ h => h) dX6_peek_18 (zval_p (κ := 0) kf_1_0) ?_
    refine z_aload_n (pc := 21) K dX6_peek_21 rfl (lv_at hl 0 rfl) ?_
    refine z_get (pc := 22) (t := 7) (k := 1) K hw (ob (t := 7) ht0) zq7 (by decide) q382 (fun _ h => h) dX6_peek_22 (zval_i kf_7_1) ?_
    obtain ⟨hj3, h⟩ := h
    refine z_bald (pc := 25) (t := 1) K hw hg1 ⟨by decide, by decide⟩ kf_1_0 kl_1_0 hj3 (by decide) dX6_peek_25 ?_
    refine z_sipush (pc := 26) K dX6_peek_26 (by decide) ?_
    refine z_iand (pc := 29) K dX6_peek_29 ?_
    refine z_goto (pc := 30) (tgt := 34) K dX6_peek_30 (by decide) ?_
    exact z_iret (pc := 34) K hw (rng_toInt _) ⟨rfl, h⟩ dX6_peek_34
  · have h := ite_f h hc2
    refine z_iconst (pc := 33) K dX6_peek_33 ?_
    exact z_iret (pc := 34) K hw ⟨by decide, by decide⟩ ⟨rfl, h⟩ dX6_peek_34
set_option maxHeartbeats 4000000 in
theorem met_X6_peek_8 (X : Cxt) (l : Launch) (σ : St) (a0 : Int) (ht0 : tg σ a0 = 8) (Q : Int → Prop) (h : wp_X6_peek σ a0 Q) : MetT l yX6_peek (ws_ yX6_peek cX6_peek 1 (some .int)) (zrm 1 0 0) (ZP X σ [jR X a0]) (ZQ X (qI (fun r σ' => σ' = σ ∧ Q r)) (fun _ _ => False)) 0 0 (zA X) := by
  refine z_start (own := "CombTable$Reader") (lv := [(0, jR X a0)]) (by decide) rfl (by simp [lv_args, jR_cat, jI_cat, jL_cat]) (by simp [lg_sl, jR_cat, jI_cat, jL_cat]) (fun p e s m below meth c ls K _ _ hw hl => ?_)
  refine z_aload_n (pc := 0) K dX6_peek_0 rfl (lv_at hl 0 rfl) ?_
  refine z_get (pc := 1) (t := 8) (k := 1) K hw (ob (t := 8) ht0) zq8 (by decide) q382 (fun _ h => h) dX6_peek_1 (zval_i kf_8_1) ?_
  refine z_aload_n (pc := 4) K dX6_peek_4 rfl (lv_at hl 0 rfl) ?_
  refine z_get (pc := 5) (t := 8) (k := 7) K hw (ob (t := 8) ht0) zq8 (by decide) q402 (fun _ h => h) dX6_peek_5 (zval_r kf_8_7) ?_
  have hg1 : tg σ (σ a0 7 0) = 1 := (z_tg (t := 8) (r := 1) hw ht0 ⟨by decide, by decide⟩ kf_8_7 kn_8_7 kt_8_7 (by decide) (by decide))
  refine z_getN (pc := 8) (t := 1) (k := 2) K hw (ob (t := 1) hg1) zq1 (by decide) q512 (fun _ h => h) dX6_peek_8 (zval_i kf_1_2) ?_
  refine z_icmp_ge (pc := 11) (tgt := 33) K (z_rI hw (ob (t := 8) ht0) kf_8_1) (z_rI hw (ob (t := 1) hg1) kf_1_2) dX6_peek_11 (by decide) (fun hc2 => ?_) (fun hc2 => ?_)
  · have h := ite_t h hc2
    refine z_aload_n (pc := 14) K dX6_peek_14 rfl (lv_at hl 0 rfl) ?_
    refine z_get (pc := 15) (t := 8) (k := 7) K hw (ob (t := 8) ht0) zq8 (by decide) q402 (fun _ h => h) dX6_peek_15 (zval_r kf_8_7) ?_
    refine z_getN (pc := 18) (t := 1) (k := 0) K hw (ob (t := 1) hg1) zq1 (by decide) q510 (fun _ h => h) dX6_peek_18 (zval_p (κ := 0) kf_1_0) ?_
    refine z_aload_n (pc := 21) K dX6_peek_21 rfl (lv_at hl 0 rfl) ?_
    refine z_get (pc := 22) (t := 8) (k := 1) K hw (ob (t := 8) ht0) zq8 (by decide) q382 (fun _ h => h) dX6_peek_22 (zval_i kf_8_1) ?_
    obtain ⟨hj3, h⟩ := h
    refine z_bald (pc := 25) (t := 1) K hw hg1 ⟨by decide, by decide⟩ kf_1_0 kl_1_0 hj3 (by decide) dX6_peek_25 ?_
    refine z_sipush (pc := 26) K dX6_peek_26 (by decide) ?_
    refine z_iand (pc := 29) K dX6_peek_29 ?_
    refine z_goto (pc := 30) (tgt := 34) K dX6_peek_30 (by decide) ?_
    exact z_iret (pc := 34) K hw (rng_toInt _) ⟨rfl, h⟩ dX6_peek_34
  · have h := ite_f h hc2
    refine z_iconst (pc := 33) K dX6_peek_33 ?_
    exact z_iret (pc := 34) K hw ⟨by decide, by decide⟩ ⟨rfl, h⟩ dX6_peek_34
set_option maxHeartbeats 4000000 in
theorem met_X6_peek_9 (X : Cxt) (l : Launch) (σ : St) (a0 : Int) (ht0 : tg σ a0 = 9) (Q : Int → Prop) (h : wp_X6_peek σ a0 Q) : MetT l yX6_peek (ws_ yX6_peek cX6_peek 1 (some .int)) (zrm 1 0 0) (ZP X σ [jR X a0]) (ZQ X (qI (fun r σ' => σ' = σ ∧ Q r)) (fun _ _ => False)) 0 0 (zA X) := by
  refine z_start (own := "CombTable$Reader") (lv := [(0, jR X a0)]) (by decide) rfl (by simp [lv_args, jR_cat, jI_cat, jL_cat]) (by simp [lg_sl, jR_cat, jI_cat, jL_cat]) (fun p e s m below meth c ls K _ _ hw hl => ?_)
  refine z_aload_n (pc := 0) K dX6_peek_0 rfl (lv_at hl 0 rfl) ?_
  refine z_get (pc := 1) (t := 9) (k := 1) K hw (ob (t := 9) ht0) zq9 (by decide) q382 (fun _ h => h) dX6_peek_1 (zval_i kf_9_1) ?_
  refine z_aload_n (pc := 4) K dX6_peek_4 rfl (lv_at hl 0 rfl) ?_
  refine z_get (pc := 5) (t := 9) (k := 7) K hw (ob (t := 9) ht0) zq9 (by decide) q402 (fun _ h => h) dX6_peek_5 (zval_r kf_9_7) ?_
  have hg1 : tg σ (σ a0 7 0) = 1 := (z_tg (t := 9) (r := 1) hw ht0 ⟨by decide, by decide⟩ kf_9_7 kn_9_7 kt_9_7 (by decide) (by decide))
  refine z_getN (pc := 8) (t := 1) (k := 2) K hw (ob (t := 1) hg1) zq1 (by decide) q512 (fun _ h => h) dX6_peek_8 (zval_i kf_1_2) ?_
  refine z_icmp_ge (pc := 11) (tgt := 33) K (z_rI hw (ob (t := 9) ht0) kf_9_1) (z_rI hw (ob (t := 1) hg1) kf_1_2) dX6_peek_11 (by decide) (fun hc2 => ?_) (fun hc2 => ?_)
  · have h := ite_t h hc2
    refine z_aload_n (pc := 14) K dX6_peek_14 rfl (lv_at hl 0 rfl) ?_
    refine z_get (pc := 15) (t := 9) (k := 7) K hw (ob (t := 9) ht0) zq9 (by decide) q402 (fun _ h => h) dX6_peek_15 (zval_r kf_9_7) ?_
    refine z_getN (pc := 18) (t := 1) (k := 0) K hw (ob (t := 1) hg1) zq1 (by decide) q510 (fun _ h => h) dX6_peek_18 (zval_p (κ := 0) kf_1_0) ?_
    refine z_aload_n (pc := 21) K dX6_peek_21 rfl (lv_at hl 0 rfl) ?_
    refine z_get (pc := 22) (t := 9) (k := 1) K hw (ob (t := 9) ht0) zq9 (by decide) q382 (fun _ h => h) dX6_peek_22 (zval_i kf_9_1) ?_
    obtain ⟨hj3, h⟩ := h
    refine z_bald (pc := 25) (t := 1) K hw hg1 ⟨by decide, by decide⟩ kf_1_0 kl_1_0 hj3 (by decide) dX6_peek_25 ?_
    refine z_sipush (pc := 26) K dX6_peek_26 (by decide) ?_
    refine z_iand (pc := 29) K dX6_peek_29 ?_
    refine z_goto (pc := 30) (tgt := 34) K dX6_peek_30 (by decide) ?_
    exact z_iret (pc := 34) K hw (rng_toInt _) ⟨rfl, h⟩ dX6_peek_34
  · have h := ite_f h hc2
    refine z_iconst (pc := 33) K dX6_peek_33 ?_
    exact z_iret (pc := 34) K hw ⟨by decide, by decide⟩ ⟨rfl, h⟩ dX6_peek_34
def ws_X6_run : List (Int × Nat) := [(6, 1), (6, 3), (6, 4), (6, 5), (6, 6), (7, 1), (7, 3), (7, 4), (7, 5), (7, 6), (8, 1), (8, 3), (8, 4), (8, 5), (8, 6), (9, 1), (9, 3), (9, 4), (9, 5), (9, 6)]
theorem wo_X6_run : wsOk ws_X6_run = true := rfl
def wp_X6_run_b180 (a0 : Int) (x1 : Int) (Q : St → Prop) (σ0 : St) (σ : St) (s1 : Int) : Prop :=
  ∀ σ2 : St, σ2 = st σ a0 3 0 s1 → Q σ2
def wp_X6_run_b167 (a0 : Int) (x1 : Int) (Q : St → Prop) (σ0 : St) (σ : St) : Prop :=
  (wp_X6_run_b180 a0 x1 Q σ0 σ 4)
def wp_X6_run_b164 (a0 : Int) (x1 : Int) (Q : St → Prop) (σ0 : St) (σ : St) (s1 : Int) (s2 : Int) : Prop :=
  (if s2 < s1 then
    (wp_X6_run_b167 a0 x1 Q σ0 σ)
    else
    (if x1 = 0 then
      (wp_X6_run_b180 a0 x1 Q σ0 σ 2)
      else
      (wp_X6_run_b180 a0 x1 Q σ0 σ 1)))
def wp_X6_run_b119 (a0 : Int) (x1 : Int) (Q : St → Prop) (σ0 : St) (L12 : St → Int → Prop) (σ : St) (v2 : Int) : Prop :=
  rng ((σ a0 1 0) + 1) ∧ ∀ σ3 : St, σ3 = st σ a0 1 0 ((σ a0 1 0) + 1) → (L12 σ3 v2)
def wp_X6_run_b87 (a0 : Int) (x1 : Int) (Q : St → Prop) (σ0 : St) (L12 : St → Int → Prop) (σ : St) (v2 : Int) : Prop :=
  rng ((σ a0 1 0) - (σ a0 2 0)) ∧ (if (σ a0 1 0) - (σ a0 2 0) < 3 then
    wp_X6_peek σ a0 (fun r3 => rng (((10 * (σ a0 4 0)) + r3) - 48) ∧ ∀ σ10 : St, σ10 = st σ a0 4 0 (((10 * (σ a0 4 0)) + r3) - 48) → (wp_X6_run_b119 a0 x1 Q σ0 L12 σ10 v2))
    else
    (wp_X6_run_b119 a0 x1 Q σ0 L12 σ v2))
def wp_X6_run_b55 (a0 : Int) (x1 : Int) (Q : St → Prop) (σ0 : St) (L12 : St → Int → Prop) (σ : St) (s0 : Int) : Prop :=
  rng ((σ a0 1 0) - (σ a0 2 0)) ∧ (if (σ a0 1 0) - (σ a0 2 0) < 7 then
    wp_X6_peek σ a0 (fun r3 => ∀ σ9 : St, σ9 = st σ a0 6 0 (zlor (zlshl (σ a0 6 0) 8) r3) → (wp_X6_run_b87 a0 x1 Q σ0 L12 σ9 s0))
    else
    (wp_X6_run_b87 a0 x1 Q σ0 L12 σ s0))
def wp_X6_run_b54 (a0 : Int) (x1 : Int) (Q : St → Prop) (σ0 : St) (L12 : St → Int → Prop) (σ : St) : Prop :=
  (wp_X6_run_b55 a0 x1 Q σ0 L12 σ 0)
def wp_X6_run_b34 (a0 : Int) (x1 : Int) (Q : St → Prop) (σ0 : St) (L12 : St → Int → Prop) (σ : St) (v2 : Int) : Prop :=
  (if v2 = 0 then
    (wp_X6_run_b54 a0 x1 Q σ0 L12 σ)
    else
    wp_X6_peek σ a0 (fun r2 => wp_X6_isLetter σ a0 r2 (fun r7 => (if r7 = x1 then
      (wp_X6_run_b55 a0 x1 Q σ0 L12 σ 1)
      else
      (wp_X6_run_b54 a0 x1 Q σ0 L12 σ)))))
def lp_X6_run_12 (a0 : Int) (x1 : Int) (Q : St → Prop) (σ0 : St) : Nat → St → Int → Prop
  | 0 => fun _ _ => False
  | n + 1 => fun σ v2 => 
    Kp ws_X6_run σ0 σ → wp_X6_peek σ a0 (fun r1 => wp_X6_isLetter σ a0 r1 (fun r6 => (if r6 = 0 then
      wp_X6_peek σ a0 (fun r12 => wp_X6_isDigit σ a0 r12 (fun r17 => (if r17 = 0 then
        rng ((σ a0 1 0) - (σ a0 2 0)) ∧ ∀ σ25 : St, σ25 = st σ a0 5 0 ((σ a0 1 0) - (σ a0 2 0)) → (if v2 = 0 then
          (wp_X6_run_b167 a0 x1 Q σ0 σ25)
          else
          (if x1 = 0 then
            (wp_X6_run_b164 a0 x1 Q σ0 σ25 (σ25 a0 5 0) 3)
            else
            (wp_X6_run_b164 a0 x1 Q σ0 σ25 (σ25 a0 5 0) 7)))
        else
        (wp_X6_run_b34 a0 x1 Q σ0 (lp_X6_run_12 a0 x1 Q σ0 n) σ v2))))
      else
      (wp_X6_run_b34 a0 x1 Q σ0 (lp_X6_run_12 a0 x1 Q σ0 n) σ v2))))
def wp_X6_run (σ : St) (a0 : Int) (x1 : Int) (Q : St → Prop) : Prop :=
  ∀ σ2 : St, σ2 = st σ a0 4 0 0 → ∀ σ7 : St, σ7 = st σ2 a0 6 0 0 → (∃ kk, lp_X6_run_12 a0 x1 Q σ kk σ7 1)
set_option maxHeartbeats 4000000 in
theorem wk_X6_run_b180_6 {X : Cxt} {p : Program} {l : Launch} {e : Env} {s : State} {m : MethodId} {args : Array Value} {below : List Frame} {meth : Method} {c : Code} (a0 : Int) (x1 : Int) (Q : St → Prop) (σ0 : St) (K : MCx X p s m args meth c cX6_run 3 "CombTable$Reader" (none)) (hx1 : 0 ≤ x1 ∧ x1 ≤ 1) : ∀ (σ : St) (s1 : Int) (H : Heap) (locs : List Loc) (ls : Array Slot), wp_X6_run_b180 a0 x1 Q σ0 σ s1 → Wc X σ s.heap H locs → Kp ws_X6_run σ0 σ → tg σ a0 = 6 → rng s1 → lv_has ls 3 [] → W p l e (zrm 3 0 0) s m args below meth c H locs 0 0 (MQT below (ZQ X (qV (fun σ' => Kp ws_X6_run σ0 σ' ∧ Q σ')) (fun _ _ => False)) args s 0 0 (zA X)) (F0 m 180 ls [jI s1, jR X a0]) := by
  intro σ s1 H locs ls h hw hk hts0 hs1 hl
  refine z_puti (pc := 180) (t := 6) 3 K hw (ob hts0) zq6 (by decide) kf_6_3 zt_6_3 hs1 q394 (fun _ h => h) rfl dX6_run_180 (fun _ _ hw1 => ?_)
  obtain ⟨σ2, e3⟩ : ∃ z, z = st σ a0 3 0 s1 := ⟨_, rfl⟩
  have h := h σ2 e3
  have hw1 := wc_e e3 hw1
  have hk4 := kp_e e3 hk wo_X6_run (by decide) hts0 (t := 6) (by decide)
  exact z_vret (pc := 183) K hw1 ⟨hk4, h⟩ dX6_run_183
set_option maxHeartbeats 4000000 in
theorem wk_X6_run_b167_6 {X : Cxt} {p : Program} {l : Launch} {e : Env} {s : State} {m : MethodId} {args : Array Value} {below : List Frame} {meth : Method} {c : Code} (a0 : Int) (x1 : Int) (Q : St → Prop) (σ0 : St) (K : MCx X p s m args meth c cX6_run 3 "CombTable$Reader" (none)) (hx1 : 0 ≤ x1 ∧ x1 ≤ 1) : ∀ (σ : St) (H : Heap) (locs : List Loc) (ls : Array Slot), wp_X6_run_b167 a0 x1 Q σ0 σ → Wc X σ s.heap H locs → Kp ws_X6_run σ0 σ → tg σ a0 = 6 → lv_has ls 3 [] → W p l e (zrm 3 0 0) s m args below meth c H locs 0 0 (MQT below (ZQ X (qV (fun σ' => Kp ws_X6_run σ0 σ' ∧ Q σ')) (fun _ _ => False)) args s 0 0 (zA X)) (F0 m 167 ls [jR X a0]) := by
  intro σ H locs ls h hw hk hts0 hl
  refine z_iconst (pc := 167) K dX6_run_167 ?_
  refine z_goto (pc := 168) (tgt := 180) K dX6_run_168 (by decide) ?_
  exact wk_X6_run_b180_6 a0 x1 Q σ0 K hx1 σ 4 _ _ _ h hw hk hts0 ⟨by decide, by decide⟩ (lv_sub hl [] rfl)
set_option maxHeartbeats 4000000 in
theorem wk_X6_run_b164_6 {X : Cxt} {p : Program} {l : Launch} {e : Env} {s : State} {m : MethodId} {args : Array Value} {below : List Frame} {meth : Method} {c : Code} (a0 : Int) (x1 : Int) (Q : St → Prop) (σ0 : St) (K : MCx X p s m args meth c cX6_run 3 "CombTable$Reader" (none)) (hx1 : 0 ≤ x1 ∧ x1 ≤ 1) : ∀ (σ : St) (s1 : Int) (s2 : Int) (H : Heap) (locs : List Loc) (ls : Array Slot), wp_X6_run_b164 a0 x1 Q σ0 σ s1 s2 → Wc X σ s.heap H locs → Kp ws_X6_run σ0 σ → tg σ a0 = 6 → rng s1 → rng s2 → lv_has ls 3 [(1, jI x1)] → W p l e (zrm 3 0 0) s m args below meth c H locs 0 0 (MQT below (ZQ X (qV (fun σ' => Kp ws_X6_run σ0 σ' ∧ Q σ')) (fun _ _ => False)) args s 0 0 (zA X)) (F0 m 164 ls [jI s2, jI s1, jR X a0]) := by
  intro σ s1 s2 H locs ls h hw hk hts0 hs1 hs2 hl
  refine z_icmp_le (pc := 164) (tgt := 171) K hs1 hs2 dX6_run_164 (by decide) (fun hc1 => ?_) (fun hc1 => ?_)
  · have h := ite_t h hc1
    exact wk_X6_run_b167_6 a0 x1 Q σ0 K hx1 σ _ _ _ h hw hk hts0 (lv_sub hl [] rfl)
  · have h := ite_f h hc1
    refine lv_iload_n (pc := 171) K.x K.b dX6_run_171 rfl (lv_at hl 0 rfl) ?_
    refine z_if_eq (pc := 172) (tgt := 179) K (b01r hx1) dX6_run_172 (by decide) (fun hc2 => ?_) (fun hc2 => ?_)
    · have h := ite_t h hc2
      refine z_iconst (pc := 179) K dX6_run_179 ?_
      exact wk_X6_run_b180_6 a0 x1 Q σ0 K hx1 σ 2 _ _ _ h hw hk hts0 ⟨by decide, by decide⟩ (lv_sub hl [] rfl)
    · have h := ite_f h hc2
      refine z_iconst (pc := 175) K dX6_run_175 ?_
      refine z_goto (pc := 176) (tgt := 180) K dX6_run_176 (by decide) ?_
      exact wk_X6_run_b180_6 a0 x1 Q σ0 K hx1 σ 1 _ _ _ h hw hk hts0 ⟨by decide, by decide⟩ (lv_sub hl [] rfl)
set_option maxHeartbeats 4000000 in
theorem wk_X6_run_b119_6 {X : Cxt} {p : Program} {l : Launch} {e : Env} {s : State} {m : MethodId} {args : Array Value} {below : List Frame} {meth : Method} {c : Code} (a0 : Int) (x1 : Int) (Q : St → Prop) (σ0 : St) (K : MCx X p s m args meth c cX6_run 3 "CombTable$Reader" (none)) (hx1 : 0 ≤ x1 ∧ x1 ≤ 1) (L12 : St → Int → Prop) (hL12 : ∀ (σ : St) (v2 : Int) (H : Heap) (locs : List Loc) (ls : Array Slot), L12 σ v2 → Wc X σ s.heap H locs → Kp ws_X6_run σ0 σ → tg σ a0 = 6 → (0 ≤ v2 ∧ v2 ≤ 1) → lv_has ls 3 [(0, jR X a0), (1, jI x1), (2, jI v2)] → W p l e (zrm 3 0 0) s m args below meth c H locs 0 0 (MQT below (ZQ X (qV (fun σ' => Kp ws_X6_run σ0 σ' ∧ Q σ')) (fun _ _ => False)) args s 0 0 (zA X)) (F0 m 12 ls [])) : ∀ (σ : St) (v2 : Int) (H : Heap) (locs : List Loc) (ls : Array Slot), wp_X6_run_b119 a0 x1 Q σ0 L12 σ v2 → Wc X σ s.heap H locs → Kp ws_X6_run σ0 σ → tg σ a0 = 6 → (0 ≤ v2 ∧ v2 ≤ 1) → lv_has ls 3 [(0, jR X a0), (1, jI x1), (2, jI v2)] → W p l e (zrm 3 0 0) s m args below meth c H locs 0 0 (MQT below (ZQ X (qV (fun σ' => Kp ws_X6_run σ0 σ' ∧ Q σ')) (fun _ _ => False)) args s 0 0 (zA X)) (F0 m 119 ls []) := by
  intro σ v2 H locs ls h hw hk ht0 hv2 hl
  refine z_aload_n (pc := 119) K dX6_run_119 rfl (lv_at hl 0 rfl) ?_
  refine lv_dup (pc := 120) K.x K.b dX6_run_120 (jR_cat _ _) ?_
  refine z_get (pc := 121) (t := 6) (k := 1) K hw (ob (t := 6) ht0) zq6 (by decide) q382 (fun _ h => h) dX6_run_121 (zval_i kf_6_1) ?_
  refine z_iconst (pc := 124) K dX6_run_124 ?_
  refine z_iadd (pc := 125) K dX6_run_125 ?_
  obtain ⟨hr1, h⟩ := h
  refine z_puti (pc := 126) (t := 6) 1 K hw (ob ht0) zq6 (by decide) kf_6_1 zt_6_1 hr1 q382 (fun _ h => h) rfl dX6_run_126 (fun _ _ hw2 => ?_)
  obtain ⟨σ3, e4⟩ : ∃ z, z = st σ a0 1 0 ((σ a0 1 0) + 1) := ⟨_, rfl⟩
  have h := h σ3 e4
  have hw2 := wc_e e4 hw2
  have hk5 := kp_e e4 hk wo_X6_run (by decide) ht0 (t := 6) (by decide)
  have hg6 : tg σ3 a0 = 6 := (tg_e e4 (by decide)).trans ht0
  refine z_goto (pc := 129) (tgt := 12) K dX6_run_129 (by decide) ?_
  exact hL12 σ3 v2 _ _ _ h hw2 hk5 hg6 hv2 (lv_sub hl [0, 1, 2] rfl)
set_option maxHeartbeats 4000000 in
theorem wk_X6_run_b87_6 {X : Cxt} {p : Program} {l : Launch} {e : Env} {s : State} {m : MethodId} {args : Array Value} {below : List Frame} {meth : Method} {c : Code} (a0 : Int) (x1 : Int) (Q : St → Prop) (σ0 : St) (K : MCx X p s m args meth c cX6_run 3 "CombTable$Reader" (none)) (hx1 : 0 ≤ x1 ∧ x1 ≤ 1) (L12 : St → Int → Prop) (hL12 : ∀ (σ : St) (v2 : Int) (H : Heap) (locs : List Loc) (ls : Array Slot), L12 σ v2 → Wc X σ s.heap H locs → Kp ws_X6_run σ0 σ → tg σ a0 = 6 → (0 ≤ v2 ∧ v2 ≤ 1) → lv_has ls 3 [(0, jR X a0), (1, jI x1), (2, jI v2)] → W p l e (zrm 3 0 0) s m args below meth c H locs 0 0 (MQT below (ZQ X (qV (fun σ' => Kp ws_X6_run σ0 σ' ∧ Q σ')) (fun _ _ => False)) args s 0 0 (zA X)) (F0 m 12 ls [])) : ∀ (σ : St) (v2 : Int) (H : Heap) (locs : List Loc) (ls : Array Slot), wp_X6_run_b87 a0 x1 Q σ0 L12 σ v2 → Wc X σ s.heap H locs → Kp ws_X6_run σ0 σ → tg σ a0 = 6 → (0 ≤ v2 ∧ v2 ≤ 1) → lv_has ls 3 [(0, jR X a0), (1, jI x1), (2, jI v2)] → W p l e (zrm 3 0 0) s m args below meth c H locs 0 0 (MQT below (ZQ X (qV (fun σ' => Kp ws_X6_run σ0 σ' ∧ Q σ')) (fun _ _ => False)) args s 0 0 (zA X)) (F0 m 87 ls []) := by
  intro σ v2 H locs ls h hw hk ht0 hv2 hl
  refine z_aload_n (pc := 87) K dX6_run_87 rfl (lv_at hl 0 rfl) ?_
  refine z_get (pc := 88) (t := 6) (k := 1) K hw (ob (t := 6) ht0) zq6 (by decide) q382 (fun _ h => h) dX6_run_88 (zval_i kf_6_1) ?_
  refine z_aload_n (pc := 91) K dX6_run_91 rfl (lv_at hl 0 rfl) ?_
  refine z_get (pc := 92) (t := 6) (k := 2) K hw (ob (t := 6) ht0) zq6 (by decide) q385 (fun _ h => h) dX6_run_92 (zval_i kf_6_2) ?_
  refine z_isub (pc := 95) K dX6_run_95 ?_
  refine z_iconst (pc := 96) K dX6_run_96 ?_
  obtain ⟨hr2, h⟩ := h
  refine z_icmp_ge (pc := 97) (tgt := 119) K hr2 ⟨by decide, by decide⟩ dX6_run_97 (by decide) (fun hc1 => ?_) (fun hc1 => ?_)
  · have h := ite_t h hc1
    refine z_aload_n (pc := 100) K dX6_run_100 rfl (lv_at hl 0 rfl) ?_
    refine z_bipush (pc := 101) K dX6_run_101 (by decide) ?_
    refine z_aload_n (pc := 103) K dX6_run_103 rfl (lv_at hl 0 rfl) ?_
    refine z_get (pc := 104) (t := 6) (k := 4) K hw (ob (t := 6) ht0) zq6 (by decide) q397 (fun _ h => h) dX6_run_104 (zval_i kf_6_4) ?_
    refine z_imul (pc := 107) K dX6_run_107 ?_
    refine z_aload_n (pc := 108) K dX6_run_108 rfl (lv_at hl 0 rfl) ?_
    refine zr_i (pc := 109) (maxL := 1) K hw (met_X6_peek_6 X l σ a0 ht0 _ h) (i_VP (n := 0) (t := 6) (As := []) K hw (ob ht0) zq6 (by decide) q673 q675 q674 q2025 (sg_of K q676) rfl rfl dX6_run_109) (locw K q676 q97) ⟨by decide, by decide⟩ hl.1 dX6_run_109 (Nat.le_of_ble_eq_true rfl) ⟨Nat.le_refl _, Nat.le_refl _⟩ (fun r3 _ _ hr4 h hw7 => ?_)
    refine z_iadd (pc := 112) K dX6_run_112 ?_
    refine z_bipush (pc := 113) K dX6_run_113 (by decide) ?_
    refine z_isub (pc := 115) K dX6_run_115 ?_
    obtain ⟨hr8, h⟩ := h
    refine z_puti (pc := 116) (t := 6) 4 K hw7 (ob ht0) zq6 (by decide) kf_6_4 zt_6_4 hr8 q397 (fun _ h => h) rfl dX6_run_116 (fun _ _ hw9 => ?_)
    obtain ⟨σ10, e11⟩ : ∃ z, z = st σ a0 4 0 (((10 * (σ a0 4 0)) + r3) - 48) := ⟨_, rfl⟩
    have h := h σ10 e11
    have hw9 := wc_e e11 hw9
    have hk12 := kp_e e11 hk wo_X6_run (by decide) ht0 (t := 6) (by decide)
    have hg13 : tg σ10 a0 = 6 := (tg_e e11 (by decide)).trans ht0
    exact wk_X6_run_b119_6 a0 x1 Q σ0 K hx1 L12 hL12 σ10 v2 _ _ _ h hw9 hk12 hg13 hv2 (lv_sub hl [0, 1, 2] rfl)
  · have h := ite_f h hc1
    exact wk_X6_run_b119_6 a0 x1 Q σ0 K hx1 L12 hL12 σ v2 _ _ _ h hw hk ht0 hv2 (lv_sub hl [0, 1, 2] rfl)
set_option maxHeartbeats 4000000 in
theorem wk_X6_run_b55_6 {X : Cxt} {p : Program} {l : Launch} {e : Env} {s : State} {m : MethodId} {args : Array Value} {below : List Frame} {meth : Method} {c : Code} (a0 : Int) (x1 : Int) (Q : St → Prop) (σ0 : St) (K : MCx X p s m args meth c cX6_run 3 "CombTable$Reader" (none)) (hx1 : 0 ≤ x1 ∧ x1 ≤ 1) (L12 : St → Int → Prop) (hL12 : ∀ (σ : St) (v2 : Int) (H : Heap) (locs : List Loc) (ls : Array Slot), L12 σ v2 → Wc X σ s.heap H locs → Kp ws_X6_run σ0 σ → tg σ a0 = 6 → (0 ≤ v2 ∧ v2 ≤ 1) → lv_has ls 3 [(0, jR X a0), (1, jI x1), (2, jI v2)] → W p l e (zrm 3 0 0) s m args below meth c H locs 0 0 (MQT below (ZQ X (qV (fun σ' => Kp ws_X6_run σ0 σ' ∧ Q σ')) (fun _ _ => False)) args s 0 0 (zA X)) (F0 m 12 ls [])) : ∀ (σ : St) (s0 : Int) (H : Heap) (locs : List Loc) (ls : Array Slot), wp_X6_run_b55 a0 x1 Q σ0 L12 σ s0 → Wc X σ s.heap H locs → Kp ws_X6_run σ0 σ → tg σ a0 = 6 → (0 ≤ s0 ∧ s0 ≤ 1) → lv_has ls 3 [(0, jR X a0), (1, jI x1)] → W p l e (zrm 3 0 0) s m args below meth c H locs 0 0 (MQT below (ZQ X (qV (fun σ' => Kp ws_X6_run σ0 σ' ∧ Q σ')) (fun _ _ => False)) args s 0 0 (zA X)) (F0 m 55 ls [jI s0]) := by
  intro σ s0 H locs ls h hw hk ht0 hs0 hl
  refine lv_istore_n (pc := 55) (lv' := [(2, jI s0), (0, jR X a0), (1, jI x1)]) K.x K.b dX6_run_55 rfl hl (by decide) rfl (fun ls hl => ?_)
  refine z_aload_n (pc := 56) K dX6_run_56 rfl (lv_at hl 1 rfl) ?_
  refine z_get (pc := 57) (t := 6) (k := 1) K hw (ob (t := 6) ht0) zq6 (by decide) q382 (fun _ h => h) dX6_run_57 (zval_i kf_6_1) ?_
  refine z_aload_n (pc := 60) K dX6_run_60 rfl (lv_at hl 1 rfl) ?_
  refine z_get (pc := 61) (t := 6) (k := 2) K hw (ob (t := 6) ht0) zq6 (by decide) q385 (fun _ h => h) dX6_run_61 (zval_i kf_6_2) ?_
  refine z_isub (pc := 64) K dX6_run_64 ?_
  refine z_bipush (pc := 65) K dX6_run_65 (by decide) ?_
  obtain ⟨hr2, h⟩ := h
  refine z_icmp_ge (pc := 67) (tgt := 87) K hr2 ⟨by decide, by decide⟩ dX6_run_67 (by decide) (fun hc1 => ?_) (fun hc1 => ?_)
  · have h := ite_t h hc1
    refine z_aload_n (pc := 70) K dX6_run_70 rfl (lv_at hl 1 rfl) ?_
    refine z_aload_n (pc := 71) K dX6_run_71 rfl (lv_at hl 1 rfl) ?_
    refine z_get (pc := 72) (t := 6) (k := 6) K hw (ob (t := 6) ht0) zq6 (by decide) q401 (fun _ h => h) dX6_run_72 (zval_l kf_6_6) ?_
    refine z_bipush (pc := 75) K dX6_run_75 (by decide) ?_
    refine z_lshl (pc := 77) K dX6_run_77 ?_
    refine z_aload_n (pc := 78) K dX6_run_78 rfl (lv_at hl 1 rfl) ?_
    refine zr_i (pc := 79) (maxL := 1) K hw (met_X6_peek_6 X l σ a0 ht0 _ h) (i_VP (n := 0) (t := 6) (As := []) K hw (ob ht0) zq6 (by decide) q673 q675 q674 q2025 (sg_of K q676) rfl rfl dX6_run_79) (locw K q676 q97) ⟨by decide, by decide⟩ hl.1 dX6_run_79 (Nat.le_of_ble_eq_true rfl) ⟨Nat.le_refl _, Nat.le_refl _⟩ (fun r3 _ _ hr4 h hw7 => ?_)
    refine z_i2l (pc := 82) K hr4 dX6_run_82 ?_
    refine z_lor (pc := 83) K dX6_run_83 ?_
    refine z_putl (pc := 84) (t := 6) 6 K hw7 (ob ht0) zq6 (by decide) kf_6_6 zt_6_6 (rngL_toInt _) q401 (fun _ h => h) rfl dX6_run_84 (fun _ _ hw8 => ?_)
    obtain ⟨σ9, e10⟩ : ∃ z, z = st σ a0 6 0 (zlor (zlshl (σ a0 6 0) 8) r3) := ⟨_, rfl⟩
    have h := h σ9 e10
    have hw8 := wc_e e10 hw8
    have hk11 := kp_e e10 hk wo_X6_run (by decide) ht0 (t := 6) (by decide)
    have hg12 : tg σ9 a0 = 6 := (tg_e e10 (by decide)).trans ht0
    exact wk_X6_run_b87_6 a0 x1 Q σ0 K hx1 L12 hL12 σ9 s0 _ _ _ h hw8 hk11 hg12 hs0 (lv_sub hl [1, 2, 0] rfl)
  · have h := ite_f h hc1
    exact wk_X6_run_b87_6 a0 x1 Q σ0 K hx1 L12 hL12 σ s0 _ _ _ h hw hk ht0 hs0 (lv_sub hl [1, 2, 0] rfl)
set_option maxHeartbeats 4000000 in
theorem wk_X6_run_b54_6 {X : Cxt} {p : Program} {l : Launch} {e : Env} {s : State} {m : MethodId} {args : Array Value} {below : List Frame} {meth : Method} {c : Code} (a0 : Int) (x1 : Int) (Q : St → Prop) (σ0 : St) (K : MCx X p s m args meth c cX6_run 3 "CombTable$Reader" (none)) (hx1 : 0 ≤ x1 ∧ x1 ≤ 1) (L12 : St → Int → Prop) (hL12 : ∀ (σ : St) (v2 : Int) (H : Heap) (locs : List Loc) (ls : Array Slot), L12 σ v2 → Wc X σ s.heap H locs → Kp ws_X6_run σ0 σ → tg σ a0 = 6 → (0 ≤ v2 ∧ v2 ≤ 1) → lv_has ls 3 [(0, jR X a0), (1, jI x1), (2, jI v2)] → W p l e (zrm 3 0 0) s m args below meth c H locs 0 0 (MQT below (ZQ X (qV (fun σ' => Kp ws_X6_run σ0 σ' ∧ Q σ')) (fun _ _ => False)) args s 0 0 (zA X)) (F0 m 12 ls [])) : ∀ (σ : St) (H : Heap) (locs : List Loc) (ls : Array Slot), wp_X6_run_b54 a0 x1 Q σ0 L12 σ → Wc X σ s.heap H locs → Kp ws_X6_run σ0 σ → tg σ a0 = 6 → lv_has ls 3 [(0, jR X a0), (1, jI x1)] → W p l e (zrm 3 0 0) s m args below meth c H locs 0 0 (MQT below (ZQ X (qV (fun σ' => Kp ws_X6_run σ0 σ' ∧ Q σ')) (fun _ _ => False)) args s 0 0 (zA X)) (F0 m 54 ls []) := by
  intro σ H locs ls h hw hk ht0 hl
  refine z_iconst (pc := 54) K dX6_run_54 ?_
  exact wk_X6_run_b55_6 a0 x1 Q σ0 K hx1 L12 hL12 σ 0 _ _ _ h hw hk ht0 ⟨by decide, by decide⟩ (lv_sub hl [0, 1] rfl)
set_option maxHeartbeats 4000000 in
theorem wk_X6_run_b34_6 {X : Cxt} {p : Program} {l : Launch} {e : Env} {s : State} {m : MethodId} {args : Array Value} {below : List Frame} {meth : Method} {c : Code} (a0 : Int) (x1 : Int) (Q : St → Prop) (σ0 : St) (K : MCx X p s m args meth c cX6_run 3 "CombTable$Reader" (none)) (hx1 : 0 ≤ x1 ∧ x1 ≤ 1) (L12 : St → Int → Prop) (hL12 : ∀ (σ : St) (v2 : Int) (H : Heap) (locs : List Loc) (ls : Array Slot), L12 σ v2 → Wc X σ s.heap H locs → Kp ws_X6_run σ0 σ → tg σ a0 = 6 → (0 ≤ v2 ∧ v2 ≤ 1) → lv_has ls 3 [(0, jR X a0), (1, jI x1), (2, jI v2)] → W p l e (zrm 3 0 0) s m args below meth c H locs 0 0 (MQT below (ZQ X (qV (fun σ' => Kp ws_X6_run σ0 σ' ∧ Q σ')) (fun _ _ => False)) args s 0 0 (zA X)) (F0 m 12 ls [])) : ∀ (σ : St) (v2 : Int) (H : Heap) (locs : List Loc) (ls : Array Slot), wp_X6_run_b34 a0 x1 Q σ0 L12 σ v2 → Wc X σ s.heap H locs → Kp ws_X6_run σ0 σ → tg σ a0 = 6 → (0 ≤ v2 ∧ v2 ≤ 1) → lv_has ls 3 [(0, jR X a0), (1, jI x1), (2, jI v2)] → W p l e (zrm 3 0 0) s m args below meth c H locs 0 0 (MQT below (ZQ X (qV (fun σ' => Kp ws_X6_run σ0 σ' ∧ Q σ')) (fun _ _ => False)) args s 0 0 (zA X)) (F0 m 34 ls []) := by
  intro σ v2 H locs ls h hw hk ht0 hv2 hl
  refine lv_iload_n (pc := 34) K.x K.b dX6_run_34 rfl (lv_at hl 2 rfl) ?_
  refine z_if_eq (pc := 35) (tgt := 54) K (b01r hv2) dX6_run_35 (by decide) (fun hc1 => ?_) (fun hc1 => ?_)
  · have h := ite_t h hc1
    exact wk_X6_run_b54_6 a0 x1 Q σ0 K hx1 L12 hL12 σ _ _ _ h hw hk ht0 (lv_sub hl [0, 1] rfl)
  · have h := ite_f h hc1
    refine z_aload_n (pc := 38) K dX6_run_38 rfl (lv_at hl 0 rfl) ?_
    refine z_aload_n (pc := 39) K dX6_run_39 rfl (lv_at hl 0 rfl) ?_
    refine zr_i (pc := 40) (maxL := 1) K hw (met_X6_peek_6 X l σ a0 ht0 _ h) (i_VP (n := 0) (t := 6) (As := []) K hw (ob ht0) zq6 (by decide) q673 q675 q674 q2025 (sg_of K q676) rfl rfl dX6_run_40) (locw K q676 q97) ⟨by decide, by decide⟩ hl.1 dX6_run_40 (Nat.le_of_ble_eq_true rfl) ⟨Nat.le_refl _, Nat.le_refl _⟩ (fun r2 _ _ hr3 h hw6 => ?_)
    refine zr_z (pc := 43) (maxL := 2) K hw6 (met_X6_isLetter_6 X l σ a0 r2 ht0 hr3 _ h) (i_VP (n := 1) (t := 6) (As := [jI r2]) K hw6 (ob ht0) zq6 (by decide) q677 q679 q678 q2026 (sg_of K q680) rfl rfl dX6_run_43) (locw K q680 q97) ⟨by decide, by decide⟩ hl.1 dX6_run_43 (Nat.le_of_ble_eq_true rfl) ⟨Nat.le_refl _, Nat.le_refl _⟩ (fun r7 _ _ hr8 h hw11 => ?_)
    refine lv_iload_n (pc := 46) K.x K.b dX6_run_46 rfl (lv_at hl 1 rfl) ?_
    refine z_icmp_ne (pc := 47) (tgt := 54) K (b01r hr8) (b01r hx1) dX6_run_47 (by decide) (fun hc12 => ?_) (fun hc12 => ?_)
    · have h := ite_t h hc12
      refine z_iconst (pc := 50) K dX6_run_50 ?_
      refine z_goto (pc := 51) (tgt := 55) K dX6_run_51 (by decide) ?_
      exact wk_X6_run_b55_6 a0 x1 Q σ0 K hx1 L12 hL12 σ 1 _ _ _ h hw11 hk ht0 ⟨by decide, by decide⟩ (lv_sub hl [0, 1] rfl)
    · have h := ite_f h hc12
      exact wk_X6_run_b54_6 a0 x1 Q σ0 K hx1 L12 hL12 σ _ _ _ h hw11 hk ht0 (lv_sub hl [0, 1] rfl)
set_option maxHeartbeats 4000000 in
theorem wk_X6_run_12_6 {X : Cxt} {p : Program} {l : Launch} {e : Env} {s : State} {m : MethodId} {args : Array Value} {below : List Frame} {meth : Method} {c : Code} (a0 : Int) (x1 : Int) (Q : St → Prop) (σ0 : St) (K : MCx X p s m args meth c cX6_run 3 "CombTable$Reader" (none)) (hx1 : 0 ≤ x1 ∧ x1 ≤ 1) : ∀ (n : Nat), ∀ (σ : St) (v2 : Int) (H : Heap) (locs : List Loc) (ls : Array Slot), lp_X6_run_12 a0 x1 Q σ0 n σ v2 → Wc X σ s.heap H locs → Kp ws_X6_run σ0 σ → tg σ a0 = 6 → (0 ≤ v2 ∧ v2 ≤ 1) → lv_has ls 3 [(0, jR X a0), (1, jI x1), (2, jI v2)] → W p l e (zrm 3 0 0) s m args below meth c H locs 0 0 (MQT below (ZQ X (qV (fun σ' => Kp ws_X6_run σ0 σ' ∧ Q σ')) (fun _ _ => False)) args s 0 0 (zA X)) (F0 m 12 ls []) := by
  intro n
  induction n with
  | zero => intro σ v2 H locs ls h; exact h.elim
  | succ n ih =>
    intro σ v2 H locs ls h hw hk ht0 hv2 hl
    have h := h hk
    refine z_aload_n (pc := 12) K dX6_run_12 rfl (lv_at hl 0 rfl) ?_
    refine z_aload_n (pc := 13) K dX6_run_13 rfl (lv_at hl 0 rfl) ?_
    refine zr_i (pc := 14) (maxL := 1) K hw (met_X6_peek_6 X l σ a0 ht0 _ h) (i_VP (n := 0) (t := 6) (As := []) K hw (ob ht0) zq6 (by decide) q673 q675 q674 q2025 (sg_of K q676) rfl rfl dX6_run_14) (locw K q676 q97) ⟨by decide, by decide⟩ hl.1 dX6_run_14 (Nat.le_of_ble_eq_true rfl) ⟨Nat.le_refl _, Nat.le_refl _⟩ (fun r1 _ _ hr2 h hw5 => ?_)
    refine zr_z (pc := 17) (maxL := 2) K hw5 (met_X6_isLetter_6 X l σ a0 r1 ht0 hr2 _ h) (i_VP (n := 1) (t := 6) (As := [jI r1]) K hw5 (ob ht0) zq6 (by decide) q677 q679 q678 q2026 (sg_of K q680) rfl rfl dX6_run_17) (locw K q680 q97) ⟨by decide, by decide⟩ hl.1 dX6_run_17 (Nat.le_of_ble_eq_true rfl) ⟨Nat.le_refl _, Nat.le_refl _⟩ (fun r6 _ _ hr7 h hw10 => ?_)
    refine z_if_ne (pc := 20) (tgt := 34) K (b01r hr7) dX6_run_20 (by decide) (fun hc11 => ?_) (fun hc11 => ?_)
    · have h := ite_t h hc11
      refine z_aload_n (pc := 23) K dX6_run_23 rfl (lv_at hl 0 rfl) ?_
      refine z_aload_n (pc := 24) K dX6_run_24 rfl (lv_at hl 0 rfl) ?_
      refine zr_i (pc := 25) (maxL := 1) K hw10 (met_X6_peek_6 X l σ a0 ht0 _ h) (i_VP (n := 0) (t := 6) (As := []) K hw10 (ob ht0) zq6 (by decide) q673 q675 q674 q2025 (sg_of K q676) rfl rfl dX6_run_25) (locw K q676 q97) ⟨by decide, by decide⟩ hl.1 dX6_run_25 (Nat.le_of_ble_eq_true rfl) ⟨Nat.le_refl _, Nat.le_refl _⟩ (fun r12 _ _ hr13 h hw16 => ?_)
      refine zr_z (pc := 28) (maxL := 2) K hw16 (met_X6_isDigit_6 X l σ a0 r12 ht0 hr13 _ h) (i_VP (n := 1) (t := 6) (As := [jI r12]) K hw16 (ob ht0) zq6 (by decide) q684 q686 q685 q2027 (sg_of K q687) rfl rfl dX6_run_28) (locw K q687 q97) ⟨by decide, by decide⟩ hl.1 dX6_run_28 (Nat.le_of_ble_eq_true rfl) ⟨Nat.le_refl _, Nat.le_refl _⟩ (fun r17 _ _ hr18 h hw21 => ?_)
      refine z_if_eq (pc := 31) (tgt := 132) K (b01r hr18) dX6_run_31 (by decide) (fun hc22 => ?_) (fun hc22 => ?_)
      · have h := ite_t h hc22
        refine z_aload_n (pc := 132) K dX6_run_132 rfl (lv_at hl 0 rfl) ?_
        refine z_aload_n (pc := 133) K dX6_run_133 rfl (lv_at hl 0 rfl) ?_
        refine z_get (pc := 134) (t := 6) (k := 1) K hw21 (ob (t := 6) ht0) zq6 (by decide) q382 (fun _ h => h) dX6_run_134 (zval_i kf_6_1) ?_
        refine z_aload_n (pc := 137) K dX6_run_137 rfl (lv_at hl 0 rfl) ?_
        refine z_get (pc := 138) (t := 6) (k := 2) K hw21 (ob (t := 6) ht0) zq6 (by decide) q385 (fun _ h => h) dX6_run_138 (zval_i kf_6_2) ?_
        refine z_isub (pc := 141) K dX6_run_141 ?_
        obtain ⟨hr23, h⟩ := h
        refine z_puti (pc := 142) (t := 6) 5 K hw21 (ob ht0) zq6 (by decide) kf_6_5 zt_6_5 hr23 q398 (fun _ h => h) rfl dX6_run_142 (fun _ _ hw24 => ?_)
        obtain ⟨σ25, e26⟩ : ∃ z, z = st σ a0 5 0 ((σ a0 1 0) - (σ a0 2 0)) := ⟨_, rfl⟩
        have h := h σ25 e26
        have hw24 := wc_e e26 hw24
        have hk27 := kp_e e26 hk wo_X6_run (by decide) ht0 (t := 6) (by decide)
        have hg28 : tg σ25 a0 = 6 := (tg_e e26 (by decide)).trans ht0
        refine z_aload_n (pc := 145) K dX6_run_145 rfl (lv_at hl 0 rfl) ?_
        refine lv_iload_n (pc := 146) K.x K.b dX6_run_146 rfl (lv_at hl 2 rfl) ?_
        refine z_if_eq (pc := 147) (tgt := 167) K (b01r hv2) dX6_run_147 (by decide) (fun hc29 => ?_) (fun hc29 => ?_)
        · have h := ite_t h hc29
          exact wk_X6_run_b167_6 a0 x1 Q σ0 K hx1 σ25 _ _ _ h hw24 hk27 hg28 (lv_sub hl [] rfl)
        · have h := ite_f h hc29
          refine z_aload_n (pc := 150) K dX6_run_150 rfl (lv_at hl 0 rfl) ?_
          refine z_get (pc := 151) (t := 6) (k := 5) K hw24 (ob (t := 6) hg28) zq6 (by decide) q398 (fun _ h => h) dX6_run_151 (zval_i kf_6_5) ?_
          refine lv_iload_n (pc := 154) K.x K.b dX6_run_154 rfl (lv_at hl 1 rfl) ?_
          refine z_if_eq (pc := 155) (tgt := 163) K (b01r hx1) dX6_run_155 (by decide) (fun hc30 => ?_) (fun hc30 => ?_)
          · have h := ite_t h hc30
            refine z_iconst (pc := 163) K dX6_run_163 ?_
            exact wk_X6_run_b164_6 a0 x1 Q σ0 K hx1 σ25 (σ25 a0 5 0) 3 _ _ _ h hw24 hk27 hg28 (z_rI hw24 (ob (t := 6) hg28) kf_6_5) ⟨by decide, by decide⟩ (lv_sub hl [1] rfl)
          · have h := ite_f h hc30
            refine z_bipush (pc := 158) K dX6_run_158 (by decide) ?_
            refine z_goto (pc := 160) (tgt := 164) K dX6_run_160 (by decide) ?_
            exact wk_X6_run_b164_6 a0 x1 Q σ0 K hx1 σ25 (σ25 a0 5 0) 7 _ _ _ h hw24 hk27 hg28 (z_rI hw24 (ob (t := 6) hg28) kf_6_5) ⟨by decide, by decide⟩ (lv_sub hl [1] rfl)
      · have h := ite_f h hc22
        exact wk_X6_run_b34_6 a0 x1 Q σ0 K hx1 (lp_X6_run_12 a0 x1 Q σ0 n) ih σ v2 _ _ _ h hw21 hk ht0 hv2 (lv_sub hl [0, 1, 2] rfl)
    · have h := ite_f h hc11
      exact wk_X6_run_b34_6 a0 x1 Q σ0 K hx1 (lp_X6_run_12 a0 x1 Q σ0 n) ih σ v2 _ _ _ h hw10 hk ht0 hv2 (lv_sub hl [0, 1, 2] rfl)
set_option maxHeartbeats 4000000 in
theorem met_X6_run_6 (X : Cxt) (l : Launch) (σ : St) (a0 : Int) (x1 : Int) (ht0 : tg σ a0 = 6) (hx1 : 0 ≤ x1 ∧ x1 ≤ 1) (Q : St → Prop) (h : wp_X6_run σ a0 x1 Q) : MetT l yX6_run (ws_ yX6_run cX6_run 3 (none)) (zrm 3 0 0) (ZP X σ [jR X a0, jI x1]) (ZQ X (qV (fun σ' => Kp ws_X6_run σ σ' ∧ Q σ')) (fun _ _ => False)) 0 0 (zA X) := by
  refine z_start (own := "CombTable$Reader") (lv := [(0, jR X a0), (1, jI x1)]) (by decide) rfl (by simp [lv_args, jR_cat, jI_cat, jL_cat]) (by simp [lg_sl, jR_cat, jI_cat, jL_cat]) (fun p e s m below meth c ls K _ _ hw hl => ?_)
  have hk : Kp ws_X6_run σ σ := kp_rf σ
  refine z_iconst (pc := 0) K dX6_run_0 ?_
  refine lv_istore_n (pc := 1) (lv' := [(2, jI 1), (0, jR X a0), (1, jI x1)]) K.x K.b dX6_run_1 rfl hl (by decide) rfl (fun ls hl => ?_)
  refine z_aload_n (pc := 2) K dX6_run_2 rfl (lv_at hl 1 rfl) ?_
  refine z_iconst (pc := 3) K dX6_run_3 ?_
  refine z_puti (pc := 4) (t := 6) 4 K hw (ob ht0) zq6 (by decide) kf_6_4 zt_6_4 ⟨by decide, by decide⟩ q397 (fun _ h => h) rfl dX6_run_4 (fun _ _ hw1 => ?_)
  obtain ⟨σ2, e3⟩ : ∃ z, z = st σ a0 4 0 0 := ⟨_, rfl⟩
  have h := h σ2 e3
  have hw1 := wc_e e3 hw1
  have hk4 := kp_e e3 hk wo_X6_run (by decide) ht0 (t := 6) (by decide)
  have hg5 : tg σ2 a0 = 6 := (tg_e e3 (by decide)).trans ht0
  refine z_aload_n (pc := 7) K dX6_run_7 rfl (lv_at hl 1 rfl) ?_
  refine z_lconst (pc := 8) (z := 0) K dX6_run_8 (by decide) ?_
  refine z_putl (pc := 9) (t := 6) 6 K hw1 (ob hg5) zq6 (by decide) kf_6_6 zt_6_6 ⟨by decide, by decide⟩ q401 (fun _ h => h) rfl dX6_run_9 (fun _ _ hw6 => ?_)
  obtain ⟨σ7, e8⟩ : ∃ z, z = st σ2 a0 6 0 0 := ⟨_, rfl⟩
  have h := h σ7 e8
  have hw6 := wc_e e8 hw6
  have hk9 := kp_e e8 hk4 wo_X6_run (by decide) hg5 (t := 6) (by decide)
  have hg10 : tg σ7 a0 = 6 := (tg_e e8 (by decide)).trans hg5
  obtain ⟨nf11, h⟩ := h
  exact wk_X6_run_12_6 a0 x1 Q σ K hx1 nf11 σ7 1 _ _ _ h hw6 hk9 hg10 ⟨by decide, by decide⟩ (lv_sub hl [1, 2, 0] rfl)
set_option maxHeartbeats 4000000 in
theorem wk_X6_run_b180_7 {X : Cxt} {p : Program} {l : Launch} {e : Env} {s : State} {m : MethodId} {args : Array Value} {below : List Frame} {meth : Method} {c : Code} (a0 : Int) (x1 : Int) (Q : St → Prop) (σ0 : St) (K : MCx X p s m args meth c cX6_run 3 "CombTable$Reader" (none)) (hx1 : 0 ≤ x1 ∧ x1 ≤ 1) : ∀ (σ : St) (s1 : Int) (H : Heap) (locs : List Loc) (ls : Array Slot), wp_X6_run_b180 a0 x1 Q σ0 σ s1 → Wc X σ s.heap H locs → Kp ws_X6_run σ0 σ → tg σ a0 = 7 → rng s1 → lv_has ls 3 [] → W p l e (zrm 3 0 0) s m args below meth c H locs 0 0 (MQT below (ZQ X (qV (fun σ' => Kp ws_X6_run σ0 σ' ∧ Q σ')) (fun _ _ => False)) args s 0 0 (zA X)) (F0 m 180 ls [jI s1, jR X a0]) := by
  intro σ s1 H locs ls h hw hk hts0 hs1 hl
  refine z_puti (pc := 180) (t := 7) 3 K hw (ob hts0) zq7 (by decide) kf_7_3 zt_7_3 hs1 q394 (fun _ h => h) rfl dX6_run_180 (fun _ _ hw1 => ?_)
  obtain ⟨σ2, e3⟩ : ∃ z, z = st σ a0 3 0 s1 := ⟨_, rfl⟩
  have h := h σ2 e3
  have hw1 := wc_e e3 hw1
  have hk4 := kp_e e3 hk wo_X6_run (by decide) hts0 (t := 7) (by decide)
  exact z_vret (pc := 183) K hw1 ⟨hk4, h⟩ dX6_run_183
set_option maxHeartbeats 4000000 in
theorem wk_X6_run_b167_7 {X : Cxt} {p : Program} {l : Launch} {e : Env} {s : State} {m : MethodId} {args : Array Value} {below : List Frame} {meth : Method} {c : Code} (a0 : Int) (x1 : Int) (Q : St → Prop) (σ0 : St) (K : MCx X p s m args meth c cX6_run 3 "CombTable$Reader" (none)) (hx1 : 0 ≤ x1 ∧ x1 ≤ 1) : ∀ (σ : St) (H : Heap) (locs : List Loc) (ls : Array Slot), wp_X6_run_b167 a0 x1 Q σ0 σ → Wc X σ s.heap H locs → Kp ws_X6_run σ0 σ → tg σ a0 = 7 → lv_has ls 3 [] → W p l e (zrm 3 0 0) s m args below meth c H locs 0 0 (MQT below (ZQ X (qV (fun σ' => Kp ws_X6_run σ0 σ' ∧ Q σ')) (fun _ _ => False)) args s 0 0 (zA X)) (F0 m 167 ls [jR X a0]) := by
  intro σ H locs ls h hw hk hts0 hl
  refine z_iconst (pc := 167) K dX6_run_167 ?_
  refine z_goto (pc := 168) (tgt := 180) K dX6_run_168 (by decide) ?_
  exact wk_X6_run_b180_7 a0 x1 Q σ0 K hx1 σ 4 _ _ _ h hw hk hts0 ⟨by decide, by decide⟩ (lv_sub hl [] rfl)
set_option maxHeartbeats 4000000 in
theorem wk_X6_run_b164_7 {X : Cxt} {p : Program} {l : Launch} {e : Env} {s : State} {m : MethodId} {args : Array Value} {below : List Frame} {meth : Method} {c : Code} (a0 : Int) (x1 : Int) (Q : St → Prop) (σ0 : St) (K : MCx X p s m args meth c cX6_run 3 "CombTable$Reader" (none)) (hx1 : 0 ≤ x1 ∧ x1 ≤ 1) : ∀ (σ : St) (s1 : Int) (s2 : Int) (H : Heap) (locs : List Loc) (ls : Array Slot), wp_X6_run_b164 a0 x1 Q σ0 σ s1 s2 → Wc X σ s.heap H locs → Kp ws_X6_run σ0 σ → tg σ a0 = 7 → rng s1 → rng s2 → lv_has ls 3 [(1, jI x1)] → W p l e (zrm 3 0 0) s m args below meth c H locs 0 0 (MQT below (ZQ X (qV (fun σ' => Kp ws_X6_run σ0 σ' ∧ Q σ')) (fun _ _ => False)) args s 0 0 (zA X)) (F0 m 164 ls [jI s2, jI s1, jR X a0]) := by
  intro σ s1 s2 H locs ls h hw hk hts0 hs1 hs2 hl
  refine z_icmp_le (pc := 164) (tgt := 171) K hs1 hs2 dX6_run_164 (by decide) (fun hc1 => ?_) (fun hc1 => ?_)
  · have h := ite_t h hc1
    exact wk_X6_run_b167_7 a0 x1 Q σ0 K hx1 σ _ _ _ h hw hk hts0 (lv_sub hl [] rfl)
  · have h := ite_f h hc1
    refine lv_iload_n (pc := 171) K.x K.b dX6_run_171 rfl (lv_at hl 0 rfl) ?_
    refine z_if_eq (pc := 172) (tgt := 179) K (b01r hx1) dX6_run_172 (by decide) (fun hc2 => ?_) (fun hc2 => ?_)
    · have h := ite_t h hc2
      refine z_iconst (pc := 179) K dX6_run_179 ?_
      exact wk_X6_run_b180_7 a0 x1 Q σ0 K hx1 σ 2 _ _ _ h hw hk hts0 ⟨by decide, by decide⟩ (lv_sub hl [] rfl)
    · have h := ite_f h hc2
      refine z_iconst (pc := 175) K dX6_run_175 ?_
      refine z_goto (pc := 176) (tgt := 180) K dX6_run_176 (by decide) ?_
      exact wk_X6_run_b180_7 a0 x1 Q σ0 K hx1 σ 1 _ _ _ h hw hk hts0 ⟨by decide, by decide⟩ (lv_sub hl [] rfl)
set_option maxHeartbeats 4000000 in
theorem wk_X6_run_b119_7 {X : Cxt} {p : Program} {l : Launch} {e : Env} {s : State} {m : MethodId} {args : Array Value} {below : List Frame} {meth : Method} {c : Code} (a0 : Int) (x1 : Int) (Q : St → Prop) (σ0 : St) (K : MCx X p s m args meth c cX6_run 3 "CombTable$Reader" (none)) (hx1 : 0 ≤ x1 ∧ x1 ≤ 1) (L12 : St → Int → Prop) (hL12 : ∀ (σ : St) (v2 : Int) (H : Heap) (locs : List Loc) (ls : Array Slot), L12 σ v2 → Wc X σ s.heap H locs → Kp ws_X6_run σ0 σ → tg σ a0 = 7 → (0 ≤ v2 ∧ v2 ≤ 1) → lv_has ls 3 [(0, jR X a0), (1, jI x1), (2, jI v2)] → W p l e (zrm 3 0 0) s m args below meth c H locs 0 0 (MQT below (ZQ X (qV (fun σ' => Kp ws_X6_run σ0 σ' ∧ Q σ')) (fun _ _ => False)) args s 0 0 (zA X)) (F0 m 12 ls [])) : ∀ (σ : St) (v2 : Int) (H : Heap) (locs : List Loc) (ls : Array Slot), wp_X6_run_b119 a0 x1 Q σ0 L12 σ v2 → Wc X σ s.heap H locs → Kp ws_X6_run σ0 σ → tg σ a0 = 7 → (0 ≤ v2 ∧ v2 ≤ 1) → lv_has ls 3 [(0, jR X a0), (1, jI x1), (2, jI v2)] → W p l e (zrm 3 0 0) s m args below meth c H locs 0 0 (MQT below (ZQ X (qV (fun σ' => Kp ws_X6_run σ0 σ' ∧ Q σ')) (fun _ _ => False)) args s 0 0 (zA X)) (F0 m 119 ls []) := by
  intro σ v2 H locs ls h hw hk ht0 hv2 hl
  refine z_aload_n (pc := 119) K dX6_run_119 rfl (lv_at hl 0 rfl) ?_
  refine lv_dup (pc := 120) K.x K.b dX6_run_120 (jR_cat _ _) ?_
  refine z_get (pc := 121) (t := 7) (k := 1) K hw (ob (t := 7) ht0) zq7 (by decide) q382 (fun _ h => h) dX6_run_121 (zval_i kf_7_1) ?_
  refine z_iconst (pc := 124) K dX6_run_124 ?_
  refine z_iadd (pc := 125) K dX6_run_125 ?_
  obtain ⟨hr1, h⟩ := h
  refine z_puti (pc := 126) (t := 7) 1 K hw (ob ht0) zq7 (by decide) kf_7_1 zt_7_1 hr1 q382 (fun _ h => h) rfl dX6_run_126 (fun _ _ hw2 => ?_)
  obtain ⟨σ3, e4⟩ : ∃ z, z = st σ a0 1 0 ((σ a0 1 0) + 1) := ⟨_, rfl⟩
  have h := h σ3 e4
  have hw2 := wc_e e4 hw2
  have hk5 := kp_e e4 hk wo_X6_run (by decide) ht0 (t := 7) (by decide)
  have hg6 : tg σ3 a0 = 7 := (tg_e e4 (by decide)).trans ht0
  refine z_goto (pc := 129) (tgt := 12) K dX6_run_129 (by decide) ?_
  exact hL12 σ3 v2 _ _ _ h hw2 hk5 hg6 hv2 (lv_sub hl [0, 1, 2] rfl)
set_option maxHeartbeats 4000000 in
theorem wk_X6_run_b87_7 {X : Cxt} {p : Program} {l : Launch} {e : Env} {s : State} {m : MethodId} {args : Array Value} {below : List Frame} {meth : Method} {c : Code} (a0 : Int) (x1 : Int) (Q : St → Prop) (σ0 : St) (K : MCx X p s m args meth c cX6_run 3 "CombTable$Reader" (none)) (hx1 : 0 ≤ x1 ∧ x1 ≤ 1) (L12 : St → Int → Prop) (hL12 : ∀ (σ : St) (v2 : Int) (H : Heap) (locs : List Loc) (ls : Array Slot), L12 σ v2 → Wc X σ s.heap H locs → Kp ws_X6_run σ0 σ → tg σ a0 = 7 → (0 ≤ v2 ∧ v2 ≤ 1) → lv_has ls 3 [(0, jR X a0), (1, jI x1), (2, jI v2)] → W p l e (zrm 3 0 0) s m args below meth c H locs 0 0 (MQT below (ZQ X (qV (fun σ' => Kp ws_X6_run σ0 σ' ∧ Q σ')) (fun _ _ => False)) args s 0 0 (zA X)) (F0 m 12 ls [])) : ∀ (σ : St) (v2 : Int) (H : Heap) (locs : List Loc) (ls : Array Slot), wp_X6_run_b87 a0 x1 Q σ0 L12 σ v2 → Wc X σ s.heap H locs → Kp ws_X6_run σ0 σ → tg σ a0 = 7 → (0 ≤ v2 ∧ v2 ≤ 1) → lv_has ls 3 [(0, jR X a0), (1, jI x1), (2, jI v2)] → W p l e (zrm 3 0 0) s m args below meth c H locs 0 0 (MQT below (ZQ X (qV (fun σ' => Kp ws_X6_run σ0 σ' ∧ Q σ')) (fun _ _ => False)) args s 0 0 (zA X)) (F0 m 87 ls []) := by
  intro σ v2 H locs ls h hw hk ht0 hv2 hl
  refine z_aload_n (pc := 87) K dX6_run_87 rfl (lv_at hl 0 rfl) ?_
  refine z_get (pc := 88) (t := 7) (k := 1) K hw (ob (t := 7) ht0) zq7 (by decide) q382 (fun _ h => h) dX6_run_88 (zval_i kf_7_1) ?_
  refine z_aload_n (pc := 91) K dX6_run_91 rfl (lv_at hl 0 rfl) ?_
  refine z_get (pc := 92) (t := 7) (k := 2) K hw (ob (t := 7) ht0) zq7 (by decide) q385 (fun _ h => h) dX6_run_92 (zval_i kf_7_2) ?_
  refine z_isub (pc := 95) K dX6_run_95 ?_
  refine z_iconst (pc := 96) K dX6_run_96 ?_
  obtain ⟨hr2, h⟩ := h
  refine z_icmp_ge (pc := 97) (tgt := 119) K hr2 ⟨by decide, by decide⟩ dX6_run_97 (by decide) (fun hc1 => ?_) (fun hc1 => ?_)
  · have h := ite_t h hc1
    refine z_aload_n (pc := 100) K dX6_run_100 rfl (lv_at hl 0 rfl) ?_
    refine z_bipush (pc := 101) K dX6_run_101 (by decide) ?_
    refine z_aload_n (pc := 103) K dX6_run_103 rfl (lv_at hl 0 rfl) ?_
    refine z_get (pc := 104) (t := 7) (k := 4) K hw (ob (t := 7) ht0) zq7 (by decide) q397 (fun _ h => h) dX6_run_104 (zval_i kf_7_4) ?_
    refine z_imul (pc := 107) K dX6_run_107 ?_
    refine z_aload_n (pc := 108) K dX6_run_108 rfl (lv_at hl 0 rfl) ?_
    refine zr_i (pc := 109) (maxL := 1) K hw (met_X6_peek_7 X l σ a0 ht0 _ h) (i_VP (n := 0) (t := 7) (As := []) K hw (ob ht0) zq7 (by decide) q673 q675 q674 q2025 (sg_of K q676) rfl rfl dX6_run_109) (locw K q676 q97) ⟨by decide, by decide⟩ hl.1 dX6_run_109 (Nat.le_of_ble_eq_true rfl) ⟨Nat.le_refl _, Nat.le_refl _⟩ (fun r3 _ _ hr4 h hw7 => ?_)
    refine z_iadd (pc := 112) K dX6_run_112 ?_
    refine z_bipush (pc := 113) K dX6_run_113 (by decide) ?_
    refine z_isub (pc := 115) K dX6_run_115 ?_
    obtain ⟨hr8, h⟩ := h
    refine z_puti (pc := 116) (t := 7) 4 K hw7 (ob ht0) zq7 (by decide) kf_7_4 zt_7_4 hr8 q397 (fun _ h => h) rfl dX6_run_116 (fun _ _ hw9 => ?_)
    obtain ⟨σ10, e11⟩ : ∃ z, z = st σ a0 4 0 (((10 * (σ a0 4 0)) + r3) - 48) := ⟨_, rfl⟩
    have h := h σ10 e11
    have hw9 := wc_e e11 hw9
    have hk12 := kp_e e11 hk wo_X6_run (by decide) ht0 (t := 7) (by decide)
    have hg13 : tg σ10 a0 = 7 := (tg_e e11 (by decide)).trans ht0
    exact wk_X6_run_b119_7 a0 x1 Q σ0 K hx1 L12 hL12 σ10 v2 _ _ _ h hw9 hk12 hg13 hv2 (lv_sub hl [0, 1, 2] rfl)
  · have h := ite_f h hc1
    exact wk_X6_run_b119_7 a0 x1 Q σ0 K hx1 L12 hL12 σ v2 _ _ _ h hw hk ht0 hv2 (lv_sub hl [0, 1, 2] rfl)
set_option maxHeartbeats 4000000 in
theorem wk_X6_run_b55_7 {X : Cxt} {p : Program} {l : Launch} {e : Env} {s : State} {m : MethodId} {args : Array Value} {below : List Frame} {meth : Method} {c : Code} (a0 : Int) (x1 : Int) (Q : St → Prop) (σ0 : St) (K : MCx X p s m args meth c cX6_run 3 "CombTable$Reader" (none)) (hx1 : 0 ≤ x1 ∧ x1 ≤ 1) (L12 : St → Int → Prop) (hL12 : ∀ (σ : St) (v2 : Int) (H : Heap) (locs : List Loc) (ls : Array Slot), L12 σ v2 → Wc X σ s.heap H locs → Kp ws_X6_run σ0 σ → tg σ a0 = 7 → (0 ≤ v2 ∧ v2 ≤ 1) → lv_has ls 3 [(0, jR X a0), (1, jI x1), (2, jI v2)] → W p l e (zrm 3 0 0) s m args below meth c H locs 0 0 (MQT below (ZQ X (qV (fun σ' => Kp ws_X6_run σ0 σ' ∧ Q σ')) (fun _ _ => False)) args s 0 0 (zA X)) (F0 m 12 ls [])) : ∀ (σ : St) (s0 : Int) (H : Heap) (locs : List Loc) (ls : Array Slot), wp_X6_run_b55 a0 x1 Q σ0 L12 σ s0 → Wc X σ s.heap H locs → Kp ws_X6_run σ0 σ → tg σ a0 = 7 → (0 ≤ s0 ∧ s0 ≤ 1) → lv_has ls 3 [(0, jR X a0), (1, jI x1)] → W p l e (zrm 3 0 0) s m args below meth c H locs 0 0 (MQT below (ZQ X (qV (fun σ' => Kp ws_X6_run σ0 σ' ∧ Q σ')) (fun _ _ => False)) args s 0 0 (zA X)) (F0 m 55 ls [jI s0]) := by
  intro σ s0 H locs ls h hw hk ht0 hs0 hl
  refine lv_istore_n (pc := 55) (lv' := [(2, jI s0), (0, jR X a0), (1, jI x1)]) K.x K.b dX6_run_55 rfl hl (by decide) rfl (fun ls hl => ?_)
  refine z_aload_n (pc := 56) K dX6_run_56 rfl (lv_at hl 1 rfl) ?_
  refine z_get (pc := 57) (t := 7) (k := 1) K hw (ob (t := 7) ht0) zq7 (by decide) q382 (fun _ h => h) dX6_run_57 (zval_i kf_7_1) ?_
  refine z_aload_n (pc := 60) K dX6_run_60 rfl (lv_at hl 1 rfl) ?_
  refine z_get (pc := 61) (t := 7) (k := 2) K hw (ob (t := 7) ht0) zq7 (by decide) q385 (fun _ h => h) dX6_run_61 (zval_i kf_7_2) ?_
  refine z_isub (pc := 64) K dX6_run_64 ?_
  refine z_bipush (pc := 65) K dX6_run_65 (by decide) ?_
  obtain ⟨hr2, h⟩ := h
  refine z_icmp_ge (pc := 67) (tgt := 87) K hr2 ⟨by decide, by decide⟩ dX6_run_67 (by decide) (fun hc1 => ?_) (fun hc1 => ?_)
  · have h := ite_t h hc1
    refine z_aload_n (pc := 70) K dX6_run_70 rfl (lv_at hl 1 rfl) ?_
    refine z_aload_n (pc := 71) K dX6_run_71 rfl (lv_at hl 1 rfl) ?_
    refine z_get (pc := 72) (t := 7) (k := 6) K hw (ob (t := 7) ht0) zq7 (by decide) q401 (fun _ h => h) dX6_run_72 (zval_l kf_7_6) ?_
    refine z_bipush (pc := 75) K dX6_run_75 (by decide) ?_
    refine z_lshl (pc := 77) K dX6_run_77 ?_
    refine z_aload_n (pc := 78) K dX6_run_78 rfl (lv_at hl 1 rfl) ?_
    refine zr_i (pc := 79) (maxL := 1) K hw (met_X6_peek_7 X l σ a0 ht0 _ h) (i_VP (n := 0) (t := 7) (As := []) K hw (ob ht0) zq7 (by decide) q673 q675 q674 q2025 (sg_of K q676) rfl rfl dX6_run_79) (locw K q676 q97) ⟨by decide, by decide⟩ hl.1 dX6_run_79 (Nat.le_of_ble_eq_true rfl) ⟨Nat.le_refl _, Nat.le_refl _⟩ (fun r3 _ _ hr4 h hw7 => ?_)
    refine z_i2l (pc := 82) K hr4 dX6_run_82 ?_
    refine z_lor (pc := 83) K dX6_run_83 ?_
    refine z_putl (pc := 84) (t := 7) 6 K hw7 (ob ht0) zq7 (by decide) kf_7_6 zt_7_6 (rngL_toInt _) q401 (fun _ h => h) rfl dX6_run_84 (fun _ _ hw8 => ?_)
    obtain ⟨σ9, e10⟩ : ∃ z, z = st σ a0 6 0 (zlor (zlshl (σ a0 6 0) 8) r3) := ⟨_, rfl⟩
    have h := h σ9 e10
    have hw8 := wc_e e10 hw8
    have hk11 := kp_e e10 hk wo_X6_run (by decide) ht0 (t := 7) (by decide)
    have hg12 : tg σ9 a0 = 7 := (tg_e e10 (by decide)).trans ht0
    exact wk_X6_run_b87_7 a0 x1 Q σ0 K hx1 L12 hL12 σ9 s0 _ _ _ h hw8 hk11 hg12 hs0 (lv_sub hl [1, 2, 0] rfl)
  · have h := ite_f h hc1
    exact wk_X6_run_b87_7 a0 x1 Q σ0 K hx1 L12 hL12 σ s0 _ _ _ h hw hk ht0 hs0 (lv_sub hl [1, 2, 0] rfl)
set_option maxHeartbeats 4000000 in
theorem wk_X6_run_b54_7 {X : Cxt} {p : Program} {l : Launch} {e : Env} {s : State} {m : MethodId} {args : Array Value} {below : List Frame} {meth : Method} {c : Code} (a0 : Int) (x1 : Int) (Q : St → Prop) (σ0 : St) (K : MCx X p s m args meth c cX6_run 3 "CombTable$Reader" (none)) (hx1 : 0 ≤ x1 ∧ x1 ≤ 1) (L12 : St → Int → Prop) (hL12 : ∀ (σ : St) (v2 : Int) (H : Heap) (locs : List Loc) (ls : Array Slot), L12 σ v2 → Wc X σ s.heap H locs → Kp ws_X6_run σ0 σ → tg σ a0 = 7 → (0 ≤ v2 ∧ v2 ≤ 1) → lv_has ls 3 [(0, jR X a0), (1, jI x1), (2, jI v2)] → W p l e (zrm 3 0 0) s m args below meth c H locs 0 0 (MQT below (ZQ X (qV (fun σ' => Kp ws_X6_run σ0 σ' ∧ Q σ')) (fun _ _ => False)) args s 0 0 (zA X)) (F0 m 12 ls [])) : ∀ (σ : St) (H : Heap) (locs : List Loc) (ls : Array Slot), wp_X6_run_b54 a0 x1 Q σ0 L12 σ → Wc X σ s.heap H locs → Kp ws_X6_run σ0 σ → tg σ a0 = 7 → lv_has ls 3 [(0, jR X a0), (1, jI x1)] → W p l e (zrm 3 0 0) s m args below meth c H locs 0 0 (MQT below (ZQ X (qV (fun σ' => Kp ws_X6_run σ0 σ' ∧ Q σ')) (fun _ _ => False)) args s 0 0 (zA X)) (F0 m 54 ls []) := by
  intro σ H locs ls h hw hk ht0 hl
  refine z_iconst (pc := 54) K dX6_run_54 ?_
  exact wk_X6_run_b55_7 a0 x1 Q σ0 K hx1 L12 hL12 σ 0 _ _ _ h hw hk ht0 ⟨by decide, by decide⟩ (lv_sub hl [0, 1] rfl)
set_option maxHeartbeats 4000000 in
theorem wk_X6_run_b34_7 {X : Cxt} {p : Program} {l : Launch} {e : Env} {s : State} {m : MethodId} {args : Array Value} {below : List Frame} {meth : Method} {c : Code} (a0 : Int) (x1 : Int) (Q : St → Prop) (σ0 : St) (K : MCx X p s m args meth c cX6_run 3 "CombTable$Reader" (none)) (hx1 : 0 ≤ x1 ∧ x1 ≤ 1) (L12 : St → Int → Prop) (hL12 : ∀ (σ : St) (v2 : Int) (H : Heap) (locs : List Loc) (ls : Array Slot), L12 σ v2 → Wc X σ s.heap H locs → Kp ws_X6_run σ0 σ → tg σ a0 = 7 → (0 ≤ v2 ∧ v2 ≤ 1) → lv_has ls 3 [(0, jR X a0), (1, jI x1), (2, jI v2)] → W p l e (zrm 3 0 0) s m args below meth c H locs 0 0 (MQT below (ZQ X (qV (fun σ' => Kp ws_X6_run σ0 σ' ∧ Q σ')) (fun _ _ => False)) args s 0 0 (zA X)) (F0 m 12 ls [])) : ∀ (σ : St) (v2 : Int) (H : Heap) (locs : List Loc) (ls : Array Slot), wp_X6_run_b34 a0 x1 Q σ0 L12 σ v2 → Wc X σ s.heap H locs → Kp ws_X6_run σ0 σ → tg σ a0 = 7 → (0 ≤ v2 ∧ v2 ≤ 1) → lv_has ls 3 [(0, jR X a0), (1, jI x1), (2, jI v2)] → W p l e (zrm 3 0 0) s m args below meth c H locs 0 0 (MQT below (ZQ X (qV (fun σ' => Kp ws_X6_run σ0 σ' ∧ Q σ')) (fun _ _ => False)) args s 0 0 (zA X)) (F0 m 34 ls []) := by
  intro σ v2 H locs ls h hw hk ht0 hv2 hl
  refine lv_iload_n (pc := 34) K.x K.b dX6_run_34 rfl (lv_at hl 2 rfl) ?_
  refine z_if_eq (pc := 35) (tgt := 54) K (b01r hv2) dX6_run_35 (by decide) (fun hc1 => ?_) (fun hc1 => ?_)
  · have h := ite_t h hc1
    exact wk_X6_run_b54_7 a0 x1 Q σ0 K hx1 L12 hL12 σ _ _ _ h hw hk ht0 (lv_sub hl [0, 1] rfl)
  · have h := ite_f h hc1
    refine z_aload_n (pc := 38) K dX6_run_38 rfl (lv_at hl 0 rfl) ?_
    refine z_aload_n (pc := 39) K dX6_run_39 rfl (lv_at hl 0 rfl) ?_
    refine zr_i (pc := 40) (maxL := 1) K hw (met_X6_peek_7 X l σ a0 ht0 _ h) (i_VP (n := 0) (t := 7) (As := []) K hw (ob ht0) zq7 (by decide) q673 q675 q674 q2025 (sg_of K q676) rfl rfl dX6_run_40) (locw K q676 q97) ⟨by decide, by decide⟩ hl.1 dX6_run_40 (Nat.le_of_ble_eq_true rfl) ⟨Nat.le_refl _, Nat.le_refl _⟩ (fun r2 _ _ hr3 h hw6 => ?_)
    refine zr_z (pc := 43) (maxL := 2) K hw6 (met_X6_isLetter_7 X l σ a0 r2 ht0 hr3 _ h) (i_VP (n := 1) (t := 7) (As := [jI r2]) K hw6 (ob ht0) zq7 (by decide) q677 q679 q678 q2026 (sg_of K q680) rfl rfl dX6_run_43) (locw K q680 q97) ⟨by decide, by decide⟩ hl.1 dX6_run_43 (Nat.le_of_ble_eq_true rfl) ⟨Nat.le_refl _, Nat.le_refl _⟩ (fun r7 _ _ hr8 h hw11 => ?_)
    refine lv_iload_n (pc := 46) K.x K.b dX6_run_46 rfl (lv_at hl 1 rfl) ?_
    refine z_icmp_ne (pc := 47) (tgt := 54) K (b01r hr8) (b01r hx1) dX6_run_47 (by decide) (fun hc12 => ?_) (fun hc12 => ?_)
    · have h := ite_t h hc12
      refine z_iconst (pc := 50) K dX6_run_50 ?_
      refine z_goto (pc := 51) (tgt := 55) K dX6_run_51 (by decide) ?_
      exact wk_X6_run_b55_7 a0 x1 Q σ0 K hx1 L12 hL12 σ 1 _ _ _ h hw11 hk ht0 ⟨by decide, by decide⟩ (lv_sub hl [0, 1] rfl)
    · have h := ite_f h hc12
      exact wk_X6_run_b54_7 a0 x1 Q σ0 K hx1 L12 hL12 σ _ _ _ h hw11 hk ht0 (lv_sub hl [0, 1] rfl)
set_option maxHeartbeats 4000000 in
theorem wk_X6_run_12_7 {X : Cxt} {p : Program} {l : Launch} {e : Env} {s : State} {m : MethodId} {args : Array Value} {below : List Frame} {meth : Method} {c : Code} (a0 : Int) (x1 : Int) (Q : St → Prop) (σ0 : St) (K : MCx X p s m args meth c cX6_run 3 "CombTable$Reader" (none)) (hx1 : 0 ≤ x1 ∧ x1 ≤ 1) : ∀ (n : Nat), ∀ (σ : St) (v2 : Int) (H : Heap) (locs : List Loc) (ls : Array Slot), lp_X6_run_12 a0 x1 Q σ0 n σ v2 → Wc X σ s.heap H locs → Kp ws_X6_run σ0 σ → tg σ a0 = 7 → (0 ≤ v2 ∧ v2 ≤ 1) → lv_has ls 3 [(0, jR X a0), (1, jI x1), (2, jI v2)] → W p l e (zrm 3 0 0) s m args below meth c H locs 0 0 (MQT below (ZQ X (qV (fun σ' => Kp ws_X6_run σ0 σ' ∧ Q σ')) (fun _ _ => False)) args s 0 0 (zA X)) (F0 m 12 ls []) := by
  intro n
  induction n with
  | zero => intro σ v2 H locs ls h; exact h.elim
  | succ n ih =>
    intro σ v2 H locs ls h hw hk ht0 hv2 hl
    have h := h hk
    refine z_aload_n (pc := 12) K dX6_run_12 rfl (lv_at hl 0 rfl) ?_
    refine z_aload_n (pc := 13) K dX6_run_13 rfl (lv_at hl 0 rfl) ?_
    refine zr_i (pc := 14) (maxL := 1) K hw (met_X6_peek_7 X l σ a0 ht0 _ h) (i_VP (n := 0) (t := 7) (As := []) K hw (ob ht0) zq7 (by decide) q673 q675 q674 q2025 (sg_of K q676) rfl rfl dX6_run_14) (locw K q676 q97) ⟨by decide, by decide⟩ hl.1 dX6_run_14 (Nat.le_of_ble_eq_true rfl) ⟨Nat.le_refl _, Nat.le_refl _⟩ (fun r1 _ _ hr2 h hw5 => ?_)
    refine zr_z (pc := 17) (maxL := 2) K hw5 (met_X6_isLetter_7 X l σ a0 r1 ht0 hr2 _ h) (i_VP (n := 1) (t := 7) (As := [jI r1]) K hw5 (ob ht0) zq7 (by decide) q677 q679 q678 q2026 (sg_of K q680) rfl rfl dX6_run_17) (locw K q680 q97) ⟨by decide, by decide⟩ hl.1 dX6_run_17 (Nat.le_of_ble_eq_true rfl) ⟨Nat.le_refl _, Nat.le_refl _⟩ (fun r6 _ _ hr7 h hw10 => ?_)
    refine z_if_ne (pc := 20) (tgt := 34) K (b01r hr7) dX6_run_20 (by decide) (fun hc11 => ?_) (fun hc11 => ?_)
    · have h := ite_t h hc11
      refine z_aload_n (pc := 23) K dX6_run_23 rfl (lv_at hl 0 rfl) ?_
      refine z_aload_n (pc := 24) K dX6_run_24 rfl (lv_at hl 0 rfl) ?_
      refine zr_i (pc := 25) (maxL := 1) K hw10 (met_X6_peek_7 X l σ a0 ht0 _ h) (i_VP (n := 0) (t := 7) (As := []) K hw10 (ob ht0) zq7 (by decide) q673 q675 q674 q2025 (sg_of K q676) rfl rfl dX6_run_25) (locw K q676 q97) ⟨by decide, by decide⟩ hl.1 dX6_run_25 (Nat.le_of_ble_eq_true rfl) ⟨Nat.le_refl _, Nat.le_refl _⟩ (fun r12 _ _ hr13 h hw16 => ?_)
      refine zr_z (pc := 28) (maxL := 2) K hw16 (met_X6_isDigit_7 X l σ a0 r12 ht0 hr13 _ h) (i_VP (n := 1) (t := 7) (As := [jI r12]) K hw16 (ob ht0) zq7 (by decide) q684 q686 q685 q2027 (sg_of K q687) rfl rfl dX6_run_28) (locw K q687 q97) ⟨by decide, by decide⟩ hl.1 dX6_run_28 (Nat.le_of_ble_eq_true rfl) ⟨Nat.le_refl _, Nat.le_refl _⟩ (fun r17 _ _ hr18 h hw21 => ?_)
      refine z_if_eq (pc := 31) (tgt := 132) K (b01r hr18) dX6_run_31 (by decide) (fun hc22 => ?_) (fun hc22 => ?_)
      · have h := ite_t h hc22
        refine z_aload_n (pc := 132) K dX6_run_132 rfl (lv_at hl 0 rfl) ?_
        refine z_aload_n (pc := 133) K dX6_run_133 rfl (lv_at hl 0 rfl) ?_
        refine z_get (pc := 134) (t := 7) (k := 1) K hw21 (ob (t := 7) ht0) zq7 (by decide) q382 (fun _ h => h) dX6_run_134 (zval_i kf_7_1) ?_
        refine z_aload_n (pc := 137) K dX6_run_137 rfl (lv_at hl 0 rfl) ?_
        refine z_get (pc := 138) (t := 7) (k := 2) K hw21 (ob (t := 7) ht0) zq7 (by decide) q385 (fun _ h => h) dX6_run_138 (zval_i kf_7_2) ?_
        refine z_isub (pc := 141) K dX6_run_141 ?_
        obtain ⟨hr23, h⟩ := h
        refine z_puti (pc := 142) (t := 7) 5 K hw21 (ob ht0) zq7 (by decide) kf_7_5 zt_7_5 hr23 q398 (fun _ h => h) rfl dX6_run_142 (fun _ _ hw24 => ?_)
        obtain ⟨σ25, e26⟩ : ∃ z, z = st σ a0 5 0 ((σ a0 1 0) - (σ a0 2 0)) := ⟨_, rfl⟩
        have h := h σ25 e26
        have hw24 := wc_e e26 hw24
        have hk27 := kp_e e26 hk wo_X6_run (by decide) ht0 (t := 7) (by decide)
        have hg28 : tg σ25 a0 = 7 := (tg_e e26 (by decide)).trans ht0
        refine z_aload_n (pc := 145) K dX6_run_145 rfl (lv_at hl 0 rfl) ?_
        refine lv_iload_n (pc := 146) K.x K.b dX6_run_146 rfl (lv_at hl 2 rfl) ?_
        refine z_if_eq (pc := 147) (tgt := 167) K (b01r hv2) dX6_run_147 (by decide) (fun hc29 => ?_) (fun hc29 => ?_)
        · have h := ite_t h hc29
          exact wk_X6_run_b167_7 a0 x1 Q σ0 K hx1 σ25 _ _ _ h hw24 hk27 hg28 (lv_sub hl [] rfl)
        · have h := ite_f h hc29
          refine z_aload_n (pc := 150) K dX6_run_150 rfl (lv_at hl 0 rfl) ?_
          refine z_get (pc := 151) (t := 7) (k := 5) K hw24 (ob (t := 7) hg28) zq7 (by decide) q398 (fun _ h => h) dX6_run_151 (zval_i kf_7_5) ?_
          refine lv_iload_n (pc := 154) K.x K.b dX6_run_154 rfl (lv_at hl 1 rfl) ?_
          refine z_if_eq (pc := 155) (tgt := 163) K (b01r hx1) dX6_run_155 (by decide) (fun hc30 => ?_) (fun hc30 => ?_)
          · have h := ite_t h hc30
            refine z_iconst (pc := 163) K dX6_run_163 ?_
            exact wk_X6_run_b164_7 a0 x1 Q σ0 K hx1 σ25 (σ25 a0 5 0) 3 _ _ _ h hw24 hk27 hg28 (z_rI hw24 (ob (t := 7) hg28) kf_7_5) ⟨by decide, by decide⟩ (lv_sub hl [1] rfl)
          · have h := ite_f h hc30
            refine z_bipush (pc := 158) K dX6_run_158 (by decide) ?_
            refine z_goto (pc := 160) (tgt := 164) K dX6_run_160 (by decide) ?_
            exact wk_X6_run_b164_7 a0 x1 Q σ0 K hx1 σ25 (σ25 a0 5 0) 7 _ _ _ h hw24 hk27 hg28 (z_rI hw24 (ob (t := 7) hg28) kf_7_5) ⟨by decide, by decide⟩ (lv_sub hl [1] rfl)
      · have h := ite_f h hc22
        exact wk_X6_run_b34_7 a0 x1 Q σ0 K hx1 (lp_X6_run_12 a0 x1 Q σ0 n) ih σ v2 _ _ _ h hw21 hk ht0 hv2 (lv_sub hl [0, 1, 2] rfl)
    · have h := ite_f h hc11
      exact wk_X6_run_b34_7 a0 x1 Q σ0 K hx1 (lp_X6_run_12 a0 x1 Q σ0 n) ih σ v2 _ _ _ h hw10 hk ht0 hv2 (lv_sub hl [0, 1, 2] rfl)
set_option maxHeartbeats 4000000 in
theorem met_X6_run_7 (X : Cxt) (l : Launch) (σ : St) (a0 : Int) (x1 : Int) (ht0 : tg σ a0 = 7) (hx1 : 0 ≤ x1 ∧ x1 ≤ 1) (Q : St → Prop) (h : wp_X6_run σ a0 x1 Q) : MetT l yX6_run (ws_ yX6_run cX6_run 3 (none)) (zrm 3 0 0) (ZP X σ [jR X a0, jI x1]) (ZQ X (qV (fun σ' => Kp ws_X6_run σ σ' ∧ Q σ')) (fun _ _ => False)) 0 0 (zA X) := by
  refine z_start (own := "CombTable$Reader") (lv := [(0, jR X a0), (1, jI x1)]) (by decide) rfl (by simp [lv_args, jR_cat, jI_cat, jL_cat]) (by simp [lg_sl, jR_cat, jI_cat, jL_cat]) (fun p e s m below meth c ls K _ _ hw hl => ?_)
  have hk : Kp ws_X6_run σ σ := kp_rf σ
  refine z_iconst (pc := 0) K dX6_run_0 ?_
  refine lv_istore_n (pc := 1) (lv' := [(2, jI 1), (0, jR X a0), (1, jI x1)]) K.x K.b dX6_run_1 rfl hl (by decide) rfl (fun ls hl => ?_)
  refine z_aload_n (pc := 2) K dX6_run_2 rfl (lv_at hl 1 rfl) ?_
  refine z_iconst (pc := 3) K dX6_run_3 ?_
  refine z_puti (pc := 4) (t := 7) 4 K hw (ob ht0) zq7 (by decide) kf_7_4 zt_7_4 ⟨by decide, by decide⟩ q397 (fun _ h => h) rfl dX6_run_4 (fun _ _ hw1 => ?_)
  obtain ⟨σ2, e3⟩ : ∃ z, z = st σ a0 4 0 0 := ⟨_, rfl⟩
  have h := h σ2 e3
  have hw1 := wc_e e3 hw1
  have hk4 := kp_e e3 hk wo_X6_run (by decide) ht0 (t := 7) (by decide)
  have hg5 : tg σ2 a0 = 7 := (tg_e e3 (by decide)).trans ht0
  refine z_aload_n (pc := 7) K dX6_run_7 rfl (lv_at hl 1 rfl) ?_
  refine z_lconst (pc := 8) (z := 0) K dX6_run_8 (by decide) ?_
  refine z_putl (pc := 9) (t := 7) 6 K hw1 (ob hg5) zq7 (by decide) kf_7_6 zt_7_6 ⟨by decide, by decide⟩ q401 (fun _ h => h) rfl dX6_run_9 (fun _ _ hw6 => ?_)
  obtain ⟨σ7, e8⟩ : ∃ z, z = st σ2 a0 6 0 0 := ⟨_, rfl⟩
  have h := h σ7 e8
  have hw6 := wc_e e8 hw6
  have hk9 := kp_e e8 hk4 wo_X6_run (by decide) hg5 (t := 7) (by decide)
  have hg10 : tg σ7 a0 = 7 := (tg_e e8 (by decide)).trans hg5
  obtain ⟨nf11, h⟩ := h
  exact wk_X6_run_12_7 a0 x1 Q σ K hx1 nf11 σ7 1 _ _ _ h hw6 hk9 hg10 ⟨by decide, by decide⟩ (lv_sub hl [1, 2, 0] rfl)
set_option maxHeartbeats 4000000 in
theorem wk_X6_run_b180_8 {X : Cxt} {p : Program} {l : Launch} {e : Env} {s : State} {m : MethodId} {args : Array Value} {below : List Frame} {meth : Method} {c : Code} (a0 : Int) (x1 : Int) (Q : St → Prop) (σ0 : St) (K : MCx X p s m args meth c cX6_run 3 "CombTable$Reader" (none)) (hx1 : 0 ≤ x1 ∧ x1 ≤ 1) : ∀ (σ : St) (s1 : Int) (H : Heap) (locs : List Loc) (ls : Array Slot), wp_X6_run_b180 a0 x1 Q σ0 σ s1 → Wc X σ s.heap H locs → Kp ws_X6_run σ0 σ → tg σ a0 = 8 → rng s1 → lv_has ls 3 [] → W p l e (zrm 3 0 0) s m args below meth c H locs 0 0 (MQT below (ZQ X (qV (fun σ' => Kp ws_X6_run σ0 σ' ∧ Q σ')) (fun _ _ => False)) args s 0 0 (zA X)) (F0 m 180 ls [jI s1, jR X a0]) := by
  intro σ s1 H locs ls h hw hk hts0 hs1 hl
  refine z_puti (pc := 180) (t := 8) 3 K hw (ob hts0) zq8 (by decide) kf_8_3 zt_8_3 hs1 q394 (fun _ h => h) rfl dX6_run_180 (fun _ _ hw1 => ?_)
  obtain ⟨σ2, e3⟩ : ∃ z, z = st σ a0 3 0 s1 := ⟨_, rfl⟩
  have h := h σ2 e3
  have hw1 := wc_e e3 hw1
  have hk4 := kp_e e3 hk wo_X6_run (by decide) hts0 (t := 8) (by decide)
  exact z_vret (pc := 183) K hw1 ⟨hk4, h⟩ dX6_run_183
set_option maxHeartbeats 4000000 in
theorem wk_X6_run_b167_8 {X : Cxt} {p : Program} {l : Launch} {e : Env} {s : State} {m : MethodId} {args : Array Value} {below : List Frame} {meth : Method} {c : Code} (a0 : Int) (x1 : Int) (Q : St → Prop) (σ0 : St) (K : MCx X p s m args meth c cX6_run 3 "CombTable$Reader" (none)) (hx1 : 0 ≤ x1 ∧ x1 ≤ 1) : ∀ (σ : St) (H : Heap) (locs : List Loc) (ls : Array Slot), wp_X6_run_b167 a0 x1 Q σ0 σ → Wc X σ s.heap H locs → Kp ws_X6_run σ0 σ → tg σ a0 = 8 → lv_has ls 3 [] → W p l e (zrm 3 0 0) s m args below meth c H locs 0 0 (MQT below (ZQ X (qV (fun σ' => Kp ws_X6_run σ0 σ' ∧ Q σ')) (fun _ _ => False)) args s 0 0 (zA X)) (F0 m 167 ls [jR X a0]) := by
  intro σ H locs ls h hw hk hts0 hl
  refine z_iconst (pc := 167) K dX6_run_167 ?_
  refine z_goto (pc := 168) (tgt := 180) K dX6_run_168 (by decide) ?_
  exact wk_X6_run_b180_8 a0 x1 Q σ0 K hx1 σ 4 _ _ _ h hw hk hts0 ⟨by decide, by decide⟩ (lv_sub hl [] rfl)
set_option maxHeartbeats 4000000 in
theorem wk_X6_run_b164_8 {X : Cxt} {p : Program} {l : Launch} {e : Env} {s : State} {m : MethodId} {args : Array Value} {below : List Frame} {meth : Method} {c : Code} (a0 : Int) (x1 : Int) (Q : St → Prop) (σ0 : St) (K : MCx X p s m args meth c cX6_run 3 "CombTable$Reader" (none)) (hx1 : 0 ≤ x1 ∧ x1 ≤ 1) : ∀ (σ : St) (s1 : Int) (s2 : Int) (H : Heap) (locs : List Loc) (ls : Array Slot), wp_X6_run_b164 a0 x1 Q σ0 σ s1 s2 → Wc X σ s.heap H locs → Kp ws_X6_run σ0 σ → tg σ a0 = 8 → rng s1 → rng s2 → lv_has ls 3 [(1, jI x1)] → W p l e (zrm 3 0 0) s m args below meth c H locs 0 0 (MQT below (ZQ X (qV (fun σ' => Kp ws_X6_run σ0 σ' ∧ Q σ')) (fun _ _ => False)) args s 0 0 (zA X)) (F0 m 164 ls [jI s2, jI s1, jR X a0]) := by
  intro σ s1 s2 H locs ls h hw hk hts0 hs1 hs2 hl
  refine z_icmp_le (pc := 164) (tgt := 171) K hs1 hs2 dX6_run_164 (by decide) (fun hc1 => ?_) (fun hc1 => ?_)
  · have h := ite_t h hc1
    exact wk_X6_run_b167_8 a0 x1 Q σ0 K hx1 σ _ _ _ h hw hk hts0 (lv_sub hl [] rfl)
  · have h := ite_f h hc1
    refine lv_iload_n (pc := 171) K.x K.b dX6_run_171 rfl (lv_at hl 0 rfl) ?_
    refine z_if_eq (pc := 172) (tgt := 179) K (b01r hx1) dX6_run_172 (by decide) (fun hc2 => ?_) (fun hc2 => ?_)
    · have h := ite_t h hc2
      refine z_iconst (pc := 179) K dX6_run_179 ?_
      exact wk_X6_run_b180_8 a0 x1 Q σ0 K hx1 σ 2 _ _ _ h hw hk hts0 ⟨by decide, by decide⟩ (lv_sub hl [] rfl)
    · have h := ite_f h hc2
      refine z_iconst (pc := 175) K dX6_run_175 ?_
      refine z_goto (pc := 176) (tgt := 180) K dX6_run_176 (by decide) ?_
      exact wk_X6_run_b180_8 a0 x1 Q σ0 K hx1 σ 1 _ _ _ h hw hk hts0 ⟨by decide, by decide⟩ (lv_sub hl [] rfl)
set_option maxHeartbeats 4000000 in
theorem wk_X6_run_b119_8 {X : Cxt} {p : Program} {l : Launch} {e : Env} {s : State} {m : MethodId} {args : Array Value} {below : List Frame} {meth : Method} {c : Code} (a0 : Int) (x1 : Int) (Q : St → Prop) (σ0 : St) (K : MCx X p s m args meth c cX6_run 3 "CombTable$Reader" (none)) (hx1 : 0 ≤ x1 ∧ x1 ≤ 1) (L12 : St → Int → Prop) (hL12 : ∀ (σ : St) (v2 : Int) (H : Heap) (locs : List Loc) (ls : Array Slot), L12 σ v2 → Wc X σ s.heap H locs → Kp ws_X6_run σ0 σ → tg σ a0 = 8 → (0 ≤ v2 ∧ v2 ≤ 1) → lv_has ls 3 [(0, jR X a0), (1, jI x1), (2, jI v2)] → W p l e (zrm 3 0 0) s m args below meth c H locs 0 0 (MQT below (ZQ X (qV (fun σ' => Kp ws_X6_run σ0 σ' ∧ Q σ')) (fun _ _ => False)) args s 0 0 (zA X)) (F0 m 12 ls [])) : ∀ (σ : St) (v2 : Int) (H : Heap) (locs : List Loc) (ls : Array Slot), wp_X6_run_b119 a0 x1 Q σ0 L12 σ v2 → Wc X σ s.heap H locs → Kp ws_X6_run σ0 σ → tg σ a0 = 8 → (0 ≤ v2 ∧ v2 ≤ 1) → lv_has ls 3 [(0, jR X a0), (1, jI x1), (2, jI v2)] → W p l e (zrm 3 0 0) s m args below meth c H locs 0 0 (MQT below (ZQ X (qV (fun σ' => Kp ws_X6_run σ0 σ' ∧ Q σ')) (fun _ _ => False)) args s 0 0 (zA X)) (F0 m 119 ls []) := by
  intro σ v2 H locs ls h hw hk ht0 hv2 hl
  refine z_aload_n (pc := 119) K dX6_run_119 rfl (lv_at hl 0 rfl) ?_
  refine lv_dup (pc := 120) K.x K.b dX6_run_120 (jR_cat _ _) ?_
  refine z_get (pc := 121) (t := 8) (k := 1) K hw (ob (t := 8) ht0) zq8 (by decide) q382 (fun _ h => h) dX6_run_121 (zval_i kf_8_1) ?_
  refine z_iconst (pc := 124) K dX6_run_124 ?_
  refine z_iadd (pc := 125) K dX6_run_125 ?_
  obtain ⟨hr1, h⟩ := h
  refine z_puti (pc := 126) (t := 8) 1 K hw (ob ht0) zq8 (by decide) kf_8_1 zt_8_1 hr1 q382 (fun _ h => h) rfl dX6_run_126 (fun _ _ hw2 => ?_)
  obtain ⟨σ3, e4⟩ : ∃ z, z = st σ a0 1 0 ((σ a0 1 0) + 1) := ⟨_, rfl⟩
  have h := h σ3 e4
  have hw2 := wc_e e4 hw2
  have hk5 := kp_e e4 hk wo_X6_run (by decide) ht0 (t := 8) (by decide)
  have hg6 : tg σ3 a0 = 8 := (tg_e e4 (by decide)).trans ht0
  refine z_goto (pc := 129) (tgt := 12) K dX6_run_129 (by decide) ?_
  exact hL12 σ3 v2 _ _ _ h hw2 hk5 hg6 hv2 (lv_sub hl [0, 1, 2] rfl)
set_option maxHeartbeats 4000000 in
theorem wk_X6_run_b87_8 {X : Cxt} {p : Program} {l : Launch} {e : Env} {s : State} {m : MethodId} {args : Array Value} {below : List Frame} {meth : Method} {c : Code} (a0 : Int) (x1 : Int) (Q : St → Prop) (σ0 : St) (K : MCx X p s m args meth c cX6_run 3 "CombTable$Reader" (none)) (hx1 : 0 ≤ x1 ∧ x1 ≤ 1) (L12 : St → Int → Prop) (hL12 : ∀ (σ : St) (v2 : Int) (H : Heap) (locs : List Loc) (ls : Array Slot), L12 σ v2 → Wc X σ s.heap H locs → Kp ws_X6_run σ0 σ → tg σ a0 = 8 → (0 ≤ v2 ∧ v2 ≤ 1) → lv_has ls 3 [(0, jR X a0), (1, jI x1), (2, jI v2)] → W p l e (zrm 3 0 0) s m args below meth c H locs 0 0 (MQT below (ZQ X (qV (fun σ' => Kp ws_X6_run σ0 σ' ∧ Q σ')) (fun _ _ => False)) args s 0 0 (zA X)) (F0 m 12 ls [])) : ∀ (σ : St) (v2 : Int) (H : Heap) (locs : List Loc) (ls : Array Slot), wp_X6_run_b87 a0 x1 Q σ0 L12 σ v2 → Wc X σ s.heap H locs → Kp ws_X6_run σ0 σ → tg σ a0 = 8 → (0 ≤ v2 ∧ v2 ≤ 1) → lv_has ls 3 [(0, jR X a0), (1, jI x1), (2, jI v2)] → W p l e (zrm 3 0 0) s m args below meth c H locs 0 0 (MQT below (ZQ X (qV (fun σ' => Kp ws_X6_run σ0 σ' ∧ Q σ')) (fun _ _ => False)) args s 0 0 (zA X)) (F0 m 87 ls []) := by
  intro σ v2 H locs ls h hw hk ht0 hv2 hl
  refine z_aload_n (pc := 87) K dX6_run_87 rfl (lv_at hl 0 rfl) ?_
  refine z_get (pc := 88) (t := 8) (k := 1) K hw (ob (t := 8) ht0) zq8 (by decide) q382 (fun _ h => h) dX6_run_88 (zval_i kf_8_1) ?_
  refine z_aload_n (pc := 91) K dX6_run_91 rfl (lv_at hl 0 rfl) ?_
  refine z_get (pc := 92) (t := 8) (k := 2) K hw (ob (t := 8) ht0) zq8 (by decide) q385 (fun _ h => h) dX6_run_92 (zval_i kf_8_2) ?_
  refine z_isub (pc := 95) K dX6_run_95 ?_
  refine z_iconst (pc := 96) K dX6_run_96 ?_
  obtain ⟨hr2, h⟩ := h
  refine z_icmp_ge (pc := 97) (tgt := 119) K hr2 ⟨by decide, by decide⟩ dX6_run_97 (by decide) (fun hc1 => ?_) (fun hc1 => ?_)
  · have h := ite_t h hc1
    refine z_aload_n (pc := 100) K dX6_run_100 rfl (lv_at hl 0 rfl) ?_
    refine z_bipush (pc := 101) K dX6_run_101 (by decide) ?_
    refine z_aload_n (pc := 103) K dX6_run_103 rfl (lv_at hl 0 rfl) ?_
    refine z_get (pc := 104) (t := 8) (k := 4) K hw (ob (t := 8) ht0) zq8 (by decide) q397 (fun _ h => h) dX6_run_104 (zval_i kf_8_4) ?_
    refine z_imul (pc := 107) K dX6_run_107 ?_
    refine z_aload_n (pc := 108) K dX6_run_108 rfl (lv_at hl 0 rfl) ?_
    refine zr_i (pc := 109) (maxL := 1) K hw (met_X6_peek_8 X l σ a0 ht0 _ h) (i_VP (n := 0) (t := 8) (As := []) K hw (ob ht0) zq8 (by decide) q673 q675 q674 q2025 (sg_of K q676) rfl rfl dX6_run_109) (locw K q676 q97) ⟨by decide, by decide⟩ hl.1 dX6_run_109 (Nat.le_of_ble_eq_true rfl) ⟨Nat.le_refl _, Nat.le_refl _⟩ (fun r3 _ _ hr4 h hw7 => ?_)
    refine z_iadd (pc := 112) K dX6_run_112 ?_
    refine z_bipush (pc := 113) K dX6_run_113 (by decide) ?_
    refine z_isub (pc := 115) K dX6_run_115 ?_
    obtain ⟨hr8, h⟩ := h
    refine z_puti (pc := 116) (t := 8) 4 K hw7 (ob ht0) zq8 (by decide) kf_8_4 zt_8_4 hr8 q397 (fun _ h => h) rfl dX6_run_116 (fun _ _ hw9 => ?_)
    obtain ⟨σ10, e11⟩ : ∃ z, z = st σ a0 4 0 (((10 * (σ a0 4 0)) + r3) - 48) := ⟨_, rfl⟩
    have h := h σ10 e11
    have hw9 := wc_e e11 hw9
    have hk12 := kp_e e11 hk wo_X6_run (by decide) ht0 (t := 8) (by decide)
    have hg13 : tg σ10 a0 = 8 := (tg_e e11 (by decide)).trans ht0
    exact wk_X6_run_b119_8 a0 x1 Q σ0 K hx1 L12 hL12 σ10 v2 _ _ _ h hw9 hk12 hg13 hv2 (lv_sub hl [0, 1, 2] rfl)
  · have h := ite_f h hc1
    exact wk_X6_run_b119_8 a0 x1 Q σ0 K hx1 L12 hL12 σ v2 _ _ _ h hw hk ht0 hv2 (lv_sub hl [0, 1, 2] rfl)
set_option maxHeartbeats 4000000 in
theorem wk_X6_run_b55_8 {X : Cxt} {p : Program} {l : Launch} {e : Env} {s : State} {m : MethodId} {args : Array Value} {below : List Frame} {meth : Method} {c : Code} (a0 : Int) (x1 : Int) (Q : St → Prop) (σ0 : St) (K : MCx X p s m args meth c cX6_run 3 "CombTable$Reader" (none)) (hx1 : 0 ≤ x1 ∧ x1 ≤ 1) (L12 : St → Int → Prop) (hL12 : ∀ (σ : St) (v2 : Int) (H : Heap) (locs : List Loc) (ls : Array Slot), L12 σ v2 → Wc X σ s.heap H locs → Kp ws_X6_run σ0 σ → tg σ a0 = 8 → (0 ≤ v2 ∧ v2 ≤ 1) → lv_has ls 3 [(0, jR X a0), (1, jI x1), (2, jI v2)] → W p l e (zrm 3 0 0) s m args below meth c H locs 0 0 (MQT below (ZQ X (qV (fun σ' => Kp ws_X6_run σ0 σ' ∧ Q σ')) (fun _ _ => False)) args s 0 0 (zA X)) (F0 m 12 ls [])) : ∀ (σ : St) (s0 : Int) (H : Heap) (locs : List Loc) (ls : Array Slot), wp_X6_run_b55 a0 x1 Q σ0 L12 σ s0 → Wc X σ s.heap H locs → Kp ws_X6_run σ0 σ → tg σ a0 = 8 → (0 ≤ s0 ∧ s0 ≤ 1) → lv_has ls 3 [(0, jR X a0), (1, jI x1)] → W p l e (zrm 3 0 0) s m args below meth c H locs 0 0 (MQT below (ZQ X (qV (fun σ' => Kp ws_X6_run σ0 σ' ∧ Q σ')) (fun _ _ => False)) args s 0 0 (zA X)) (F0 m 55 ls [jI s0]) := by
  intro σ s0 H locs ls h hw hk ht0 hs0 hl
  refine lv_istore_n (pc := 55) (lv' := [(2, jI s0), (0, jR X a0), (1, jI x1)]) K.x K.b dX6_run_55 rfl hl (by decide) rfl (fun ls hl => ?_)
  refine z_aload_n (pc := 56) K dX6_run_56 rfl (lv_at hl 1 rfl) ?_
  refine z_get (pc := 57) (t := 8) (k := 1) K hw (ob (t := 8) ht0) zq8 (by decide) q382 (fun _ h => h) dX6_run_57 (zval_i kf_8_1) ?_
  refine z_aload_n (pc := 60) K dX6_run_60 rfl (lv_at hl 1 rfl) ?_
  refine z_get (pc := 61) (t := 8) (k := 2) K hw (ob (t := 8) ht0) zq8 (by decide) q385 (fun _ h => h) dX6_run_61 (zval_i kf_8_2) ?_
  refine z_isub (pc := 64) K dX6_run_64 ?_
  refine z_bipush (pc := 65) K dX6_run_65 (by decide) ?_
  obtain ⟨hr2, h⟩ := h
  refine z_icmp_ge (pc := 67) (tgt := 87) K hr2 ⟨by decide, by decide⟩ dX6_run_67 (by decide) (fun hc1 => ?_) (fun hc1 => ?_)
  · have h := ite_t h hc1
    refine z_aload_n (pc := 70) K dX6_run_70 rfl (lv_at hl 1 rfl) ?_
    refine z_aload_n (pc := 71) K dX6_run_71 rfl (lv_at hl 1 rfl) ?_
    refine z_get (pc := 72) (t := 8) (k := 6) K hw (ob (t := 8) ht0) zq8 (by decide) q401 (fun _ h => h) dX6_run_72 (zval_l kf_8_6) ?_
    refine z_bipush (pc := 75) K dX6_run_75 (by decide) ?_
    refine z_lshl (pc := 77) K dX6_run_77 ?_
    refine z_aload_n (pc := 78) K dX6_run_78 rfl (lv_at hl 1 rfl) ?_
    refine zr_i (pc := 79) (maxL := 1) K hw (met_X6_peek_8 X l σ a0 ht0 _ h) (i_VP (n := 0) (t := 8) (As := []) K hw (ob ht0) zq8 (by decide) q673 q675 q674 q2025 (sg_of K q676) rfl rfl dX6_run_79) (locw K q676 q97) ⟨by decide, by decide⟩ hl.1 dX6_run_79 (Nat.le_of_ble_eq_true rfl) ⟨Nat.le_refl _, Nat.le_refl _⟩ (fun r3 _ _ hr4 h hw7 => ?_)
    refine z_i2l (pc := 82) K hr4 dX6_run_82 ?_
    refine z_lor (pc := 83) K dX6_run_83 ?_
    refine z_putl (pc := 84) (t := 8) 6 K hw7 (ob ht0) zq8 (by decide) kf_8_6 zt_8_6 (rngL_toInt _) q401 (fun _ h => h) rfl dX6_run_84 (fun _ _ hw8 => ?_)
    obtain ⟨σ9, e10⟩ : ∃ z, z = st σ a0 6 0 (zlor (zlshl (σ a0 6 0) 8) r3) := ⟨_, rfl⟩
    have h := h σ9 e10
    have hw8 := wc_e e10 hw8
    have hk11 := kp_e e10 hk wo_X6_run (by decide) ht0 (t := 8) (by decide)
    have hg12 : tg σ9 a0 = 8 := (tg_e e10 (by decide)).trans ht0
    exact wk_X6_run_b87_8 a0 x1 Q σ0 K hx1 L12 hL12 σ9 s0 _ _ _ h hw8 hk11 hg12 hs0 (lv_sub hl [1, 2, 0] rfl)
  · have h := ite_f h hc1
    exact wk_X6_run_b87_8 a0 x1 Q σ0 K hx1 L12 hL12 σ s0 _ _ _ h hw hk ht0 hs0 (lv_sub hl [1, 2, 0] rfl)
set_option maxHeartbeats 4000000 in
theorem wk_X6_run_b54_8 {X : Cxt} {p : Program} {l : Launch} {e : Env} {s : State} {m : MethodId} {args : Array Value} {below : List Frame} {meth : Method} {c : Code} (a0 : Int) (x1 : Int) (Q : St → Prop) (σ0 : St) (K : MCx X p s m args meth c cX6_run 3 "CombTable$Reader" (none)) (hx1 : 0 ≤ x1 ∧ x1 ≤ 1) (L12 : St → Int → Prop) (hL12 : ∀ (σ : St) (v2 : Int) (H : Heap) (locs : List Loc) (ls : Array Slot), L12 σ v2 → Wc X σ s.heap H locs → Kp ws_X6_run σ0 σ → tg σ a0 = 8 → (0 ≤ v2 ∧ v2 ≤ 1) → lv_has ls 3 [(0, jR X a0), (1, jI x1), (2, jI v2)] → W p l e (zrm 3 0 0) s m args below meth c H locs 0 0 (MQT below (ZQ X (qV (fun σ' => Kp ws_X6_run σ0 σ' ∧ Q σ')) (fun _ _ => False)) args s 0 0 (zA X)) (F0 m 12 ls [])) : ∀ (σ : St) (H : Heap) (locs : List Loc) (ls : Array Slot), wp_X6_run_b54 a0 x1 Q σ0 L12 σ → Wc X σ s.heap H locs → Kp ws_X6_run σ0 σ → tg σ a0 = 8 → lv_has ls 3 [(0, jR X a0), (1, jI x1)] → W p l e (zrm 3 0 0) s m args below meth c H locs 0 0 (MQT below (ZQ X (qV (fun σ' => Kp ws_X6_run σ0 σ' ∧ Q σ')) (fun _ _ => False)) args s 0 0 (zA X)) (F0 m 54 ls []) := by
  intro σ H locs ls h hw hk ht0 hl
  refine z_iconst (pc := 54) K dX6_run_54 ?_
  exact wk_X6_run_b55_8 a0 x1 Q σ0 K hx1 L12 hL12 σ 0 _ _ _ h hw hk ht0 ⟨by decide, by decide⟩ (lv_sub hl [0, 1] rfl)
set_option maxHeartbeats 4000000 in
theorem wk_X6_run_b34_8 {X : Cxt} {p : Program} {l : Launch} {e : Env} {s : State} {m : MethodId} {args : Array Value} {below : List Frame} {meth : Method} {c : Code} (a0 : Int) (x1 : Int) (Q : St → Prop) (σ0 : St) (K : MCx X p s m args meth c cX6_run 3 "CombTable$Reader" (none)) (hx1 : 0 ≤ x1 ∧ x1 ≤ 1) (L12 : St → Int → Prop) (hL12 : ∀ (σ : St) (v2 : Int) (H : Heap) (locs : List Loc) (ls : Array Slot), L12 σ v2 → Wc X σ s.heap H locs → Kp ws_X6_run σ0 σ → tg σ a0 = 8 → (0 ≤ v2 ∧ v2 ≤ 1) → lv_has ls 3 [(0, jR X a0), (1, jI x1), (2, jI v2)] → W p l e (zrm 3 0 0) s m args below meth c H locs 0 0 (MQT below (ZQ X (qV (fun σ' => Kp ws_X6_run σ0 σ' ∧ Q σ')) (fun _ _ => False)) args s 0 0 (zA X)) (F0 m 12 ls [])) : ∀ (σ : St) (v2 : Int) (H : Heap) (locs : List Loc) (ls : Array Slot), wp_X6_run_b34 a0 x1 Q σ0 L12 σ v2 → Wc X σ s.heap H locs → Kp ws_X6_run σ0 σ → tg σ a0 = 8 → (0 ≤ v2 ∧ v2 ≤ 1) → lv_has ls 3 [(0, jR X a0), (1, jI x1), (2, jI v2)] → W p l e (zrm 3 0 0) s m args below meth c H locs 0 0 (MQT below (ZQ X (qV (fun σ' => Kp ws_X6_run σ0 σ' ∧ Q σ')) (fun _ _ => False)) args s 0 0 (zA X)) (F0 m 34 ls []) := by
  intro σ v2 H locs ls h hw hk ht0 hv2 hl
  refine lv_iload_n (pc := 34) K.x K.b dX6_run_34 rfl (lv_at hl 2 rfl) ?_
  refine z_if_eq (pc := 35) (tgt := 54) K (b01r hv2) dX6_run_35 (by decide) (fun hc1 => ?_) (fun hc1 => ?_)
  · have h := ite_t h hc1
    exact wk_X6_run_b54_8 a0 x1 Q σ0 K hx1 L12 hL12 σ _ _ _ h hw hk ht0 (lv_sub hl [0, 1] rfl)
  · have h := ite_f h hc1
    refine z_aload_n (pc := 38) K dX6_run_38 rfl (lv_at hl 0 rfl) ?_
    refine z_aload_n (pc := 39) K dX6_run_39 rfl (lv_at hl 0 rfl) ?_
    refine zr_i (pc := 40) (maxL := 1) K hw (met_X6_peek_8 X l σ a0 ht0 _ h) (i_VP (n := 0) (t := 8) (As := []) K hw (ob ht0) zq8 (by decide) q673 q675 q674 q2025 (sg_of K q676) rfl rfl dX6_run_40) (locw K q676 q97) ⟨by decide, by decide⟩ hl.1 dX6_run_40 (Nat.le_of_ble_eq_true rfl) ⟨Nat.le_refl _, Nat.le_refl _⟩ (fun r2 _ _ hr3 h hw6 => ?_)
    refine zr_z (pc := 43) (maxL := 2) K hw6 (met_X6_isLetter_8 X l σ a0 r2 ht0 hr3 _ h) (i_VP (n := 1) (t := 8) (As := [jI r2]) K hw6 (ob ht0) zq8 (by decide) q677 q679 q678 q2026 (sg_of K q680) rfl rfl dX6_run_43) (locw K q680 q97) ⟨by decide, by decide⟩ hl.1 dX6_run_43 (Nat.le_of_ble_eq_true rfl) ⟨Nat.le_refl _, Nat.le_refl _⟩ (fun r7 _ _ hr8 h hw11 => ?_)
    refine lv_iload_n (pc := 46) K.x K.b dX6_run_46 rfl (lv_at hl 1 rfl) ?_
    refine z_icmp_ne (pc := 47) (tgt := 54) K (b01r hr8) (b01r hx1) dX6_run_47 (by decide) (fun hc12 => ?_) (fun hc12 => ?_)
    · have h := ite_t h hc12
      refine z_iconst (pc := 50) K dX6_run_50 ?_
      refine z_goto (pc := 51) (tgt := 55) K dX6_run_51 (by decide) ?_
      exact wk_X6_run_b55_8 a0 x1 Q σ0 K hx1 L12 hL12 σ 1 _ _ _ h hw11 hk ht0 ⟨by decide, by decide⟩ (lv_sub hl [0, 1] rfl)
    · have h := ite_f h hc12
      exact wk_X6_run_b54_8 a0 x1 Q σ0 K hx1 L12 hL12 σ _ _ _ h hw11 hk ht0 (lv_sub hl [0, 1] rfl)
set_option maxHeartbeats 4000000 in
theorem wk_X6_run_12_8 {X : Cxt} {p : Program} {l : Launch} {e : Env} {s : State} {m : MethodId} {args : Array Value} {below : List Frame} {meth : Method} {c : Code} (a0 : Int) (x1 : Int) (Q : St → Prop) (σ0 : St) (K : MCx X p s m args meth c cX6_run 3 "CombTable$Reader" (none)) (hx1 : 0 ≤ x1 ∧ x1 ≤ 1) : ∀ (n : Nat), ∀ (σ : St) (v2 : Int) (H : Heap) (locs : List Loc) (ls : Array Slot), lp_X6_run_12 a0 x1 Q σ0 n σ v2 → Wc X σ s.heap H locs → Kp ws_X6_run σ0 σ → tg σ a0 = 8 → (0 ≤ v2 ∧ v2 ≤ 1) → lv_has ls 3 [(0, jR X a0), (1, jI x1), (2, jI v2)] → W p l e (zrm 3 0 0) s m args below meth c H locs 0 0 (MQT below (ZQ X (qV (fun σ' => Kp ws_X6_run σ0 σ' ∧ Q σ')) (fun _ _ => False)) args s 0 0 (zA X)) (F0 m 12 ls []) := by
  intro n
  induction n with
  | zero => intro σ v2 H locs ls h; exact h.elim
  | succ n ih =>
    intro σ v2 H locs ls h hw hk ht0 hv2 hl
    have h := h hk
    refine z_aload_n (pc := 12) K dX6_run_12 rfl (lv_at hl 0 rfl) ?_
    refine z_aload_n (pc := 13) K dX6_run_13 rfl (lv_at hl 0 rfl) ?_
    refine zr_i (pc := 14) (maxL := 1) K hw (met_X6_peek_8 X l σ a0 ht0 _ h) (i_VP (n := 0) (t := 8) (As := []) K hw (ob ht0) zq8 (by decide) q673 q675 q674 q2025 (sg_of K q676) rfl rfl dX6_run_14) (locw K q676 q97) ⟨by decide, by decide⟩ hl.1 dX6_run_14 (Nat.le_of_ble_eq_true rfl) ⟨Nat.le_refl _, Nat.le_refl _⟩ (fun r1 _ _ hr2 h hw5 => ?_)
    refine zr_z (pc := 17) (maxL := 2) K hw5 (met_X6_isLetter_8 X l σ a0 r1 ht0 hr2 _ h) (i_VP (n := 1) (t := 8) (As := [jI r1]) K hw5 (ob ht0) zq8 (by decide) q677 q679 q678 q2026 (sg_of K q680) rfl rfl dX6_run_17) (locw K q680 q97) ⟨by decide, by decide⟩ hl.1 dX6_run_17 (Nat.le_of_ble_eq_true rfl) ⟨Nat.le_refl _, Nat.le_refl _⟩ (fun r6 _ _ hr7 h hw10 => ?_)
    refine z_if_ne (pc := 20) (tgt := 34) K (b01r hr7) dX6_run_20 (by decide) (fun hc11 => ?_) (fun hc11 => ?_)
    · have h := ite_t h hc11
      refine z_aload_n (pc := 23) K dX6_run_23 rfl (lv_at hl 0 rfl) ?_
      refine z_aload_n (pc := 24) K dX6_run_24 rfl (lv_at hl 0 rfl) ?_
      refine zr_i (pc := 25) (maxL := 1) K hw10 (met_X6_peek_8 X l σ a0 ht0 _ h) (i_VP (n := 0) (t := 8) (As := []) K hw10 (ob ht0) zq8 (by decide) q673 q675 q674 q2025 (sg_of K q676) rfl rfl dX6_run_25) (locw K q676 q97) ⟨by decide, by decide⟩ hl.1 dX6_run_25 (Nat.le_of_ble_eq_true rfl) ⟨Nat.le_refl _, Nat.le_refl _⟩ (fun r12 _ _ hr13 h hw16 => ?_)
      refine zr_z (pc := 28) (maxL := 2) K hw16 (met_X6_isDigit_8 X l σ a0 r12 ht0 hr13 _ h) (i_VP (n := 1) (t := 8) (As := [jI r12]) K hw16 (ob ht0) zq8 (by decide) q684 q686 q685 q2027 (sg_of K q687) rfl rfl dX6_run_28) (locw K q687 q97) ⟨by decide, by decide⟩ hl.1 dX6_run_28 (Nat.le_of_ble_eq_true rfl) ⟨Nat.le_refl _, Nat.le_refl _⟩ (fun r17 _ _ hr18 h hw21 => ?_)
      refine z_if_eq (pc := 31) (tgt := 132) K (b01r hr18) dX6_run_31 (by decide) (fun hc22 => ?_) (fun hc22 => ?_)
      · have h := ite_t h hc22
        refine z_aload_n (pc := 132) K dX6_run_132 rfl (lv_at hl 0 rfl) ?_
        refine z_aload_n (pc := 133) K dX6_run_133 rfl (lv_at hl 0 rfl) ?_
        refine z_get (pc := 134) (t := 8) (k := 1) K hw21 (ob (t := 8) ht0) zq8 (by decide) q382 (fun _ h => h) dX6_run_134 (zval_i kf_8_1) ?_
        refine z_aload_n (pc := 137) K dX6_run_137 rfl (lv_at hl 0 rfl) ?_
        refine z_get (pc := 138) (t := 8) (k := 2) K hw21 (ob (t := 8) ht0) zq8 (by decide) q385 (fun _ h => h) dX6_run_138 (zval_i kf_8_2) ?_
        refine z_isub (pc := 141) K dX6_run_141 ?_
        obtain ⟨hr23, h⟩ := h
        refine z_puti (pc := 142) (t := 8) 5 K hw21 (ob ht0) zq8 (by decide) kf_8_5 zt_8_5 hr23 q398 (fun _ h => h) rfl dX6_run_142 (fun _ _ hw24 => ?_)
        obtain ⟨σ25, e26⟩ : ∃ z, z = st σ a0 5 0 ((σ a0 1 0) - (σ a0 2 0)) := ⟨_, rfl⟩
        have h := h σ25 e26
        have hw24 := wc_e e26 hw24
        have hk27 := kp_e e26 hk wo_X6_run (by decide) ht0 (t := 8) (by decide)
        have hg28 : tg σ25 a0 = 8 := (tg_e e26 (by decide)).trans ht0
        refine z_aload_n (pc := 145) K dX6_run_145 rfl (lv_at hl 0 rfl) ?_
        refine lv_iload_n (pc := 146) K.x K.b dX6_run_146 rfl (lv_at hl 2 rfl) ?_
        refine z_if_eq (pc := 147) (tgt := 167) K (b01r hv2) dX6_run_147 (by decide) (fun hc29 => ?_) (fun hc29 => ?_)
        · have h := ite_t h hc29
          exact wk_X6_run_b167_8 a0 x1 Q σ0 K hx1 σ25 _ _ _ h hw24 hk27 hg28 (lv_sub hl [] rfl)
        · have h := ite_f h hc29
          refine z_aload_n (pc := 150) K dX6_run_150 rfl (lv_at hl 0 rfl) ?_
          refine z_get (pc := 151) (t := 8) (k := 5) K hw24 (ob (t := 8) hg28) zq8 (by decide) q398 (fun _ h => h) dX6_run_151 (zval_i kf_8_5) ?_
          refine lv_iload_n (pc := 154) K.x K.b dX6_run_154 rfl (lv_at hl 1 rfl) ?_
          refine z_if_eq (pc := 155) (tgt := 163) K (b01r hx1) dX6_run_155 (by decide) (fun hc30 => ?_) (fun hc30 => ?_)
          · have h := ite_t h hc30
            refine z_iconst (pc := 163) K dX6_run_163 ?_
            exact wk_X6_run_b164_8 a0 x1 Q σ0 K hx1 σ25 (σ25 a0 5 0) 3 _ _ _ h hw24 hk27 hg28 (z_rI hw24 (ob (t := 8) hg28) kf_8_5) ⟨by decide, by decide⟩ (lv_sub hl [1] rfl)
          · have h := ite_f h hc30
            refine z_bipush (pc := 158) K dX6_run_158 (by decide) ?_
            refine z_goto (pc := 160) (tgt := 164) K dX6_run_160 (by decide) ?_
            exact wk_X6_run_b164_8 a0 x1 Q σ0 K hx1 σ25 (σ25 a0 5 0) 7 _ _ _ h hw24 hk27 hg28 (z_rI hw24 (ob (t := 8) hg28) kf_8_5) ⟨by decide, by decide⟩ (lv_sub hl [1] rfl)
      · have h := ite_f h hc22
        exact wk_X6_run_b34_8 a0 x1 Q σ0 K hx1 (lp_X6_run_12 a0 x1 Q σ0 n) ih σ v2 _ _ _ h hw21 hk ht0 hv2 (lv_sub hl [0, 1, 2] rfl)
    · have h := ite_f h hc11
      exact wk_X6_run_b34_8 a0 x1 Q σ0 K hx1 (lp_X6_run_12 a0 x1 Q σ0 n) ih σ v2 _ _ _ h hw10 hk ht0 hv2 (lv_sub hl [0, 1, 2] rfl)
set_option maxHeartbeats 4000000 in
theorem met_X6_run_8 (X : Cxt) (l : Launch) (σ : St) (a0 : Int) (x1 : Int) (ht0 : tg σ a0 = 8) (hx1 : 0 ≤ x1 ∧ x1 ≤ 1) (Q : St → Prop) (h : wp_X6_run σ a0 x1 Q) : MetT l yX6_run (ws_ yX6_run cX6_run 3 (none)) (zrm 3 0 0) (ZP X σ [jR X a0, jI x1]) (ZQ X (qV (fun σ' => Kp ws_X6_run σ σ' ∧ Q σ')) (fun _ _ => False)) 0 0 (zA X) := by
  refine z_start (own := "CombTable$Reader") (lv := [(0, jR X a0), (1, jI x1)]) (by decide) rfl (by simp [lv_args, jR_cat, jI_cat, jL_cat]) (by simp [lg_sl, jR_cat, jI_cat, jL_cat]) (fun p e s m below meth c ls K _ _ hw hl => ?_)
  have hk : Kp ws_X6_run σ σ := kp_rf σ
  refine z_iconst (pc := 0) K dX6_run_0 ?_
  refine lv_istore_n (pc := 1) (lv' := [(2, jI 1), (0, jR X a0), (1, jI x1)]) K.x K.b dX6_run_1 rfl hl (by decide) rfl (fun ls hl => ?_)
  refine z_aload_n (pc := 2) K dX6_run_2 rfl (lv_at hl 1 rfl) ?_
  refine z_iconst (pc := 3) K dX6_run_3 ?_
  refine z_puti (pc := 4) (t := 8) 4 K hw (ob ht0) zq8 (by decide) kf_8_4 zt_8_4 ⟨by decide, by decide⟩ q397 (fun _ h => h) rfl dX6_run_4 (fun _ _ hw1 => ?_)
  obtain ⟨σ2, e3⟩ : ∃ z, z = st σ a0 4 0 0 := ⟨_, rfl⟩
  have h := h σ2 e3
  have hw1 := wc_e e3 hw1
  have hk4 := kp_e e3 hk wo_X6_run (by decide) ht0 (t := 8) (by decide)
  have hg5 : tg σ2 a0 = 8 := (tg_e e3 (by decide)).trans ht0
  refine z_aload_n (pc := 7) K dX6_run_7 rfl (lv_at hl 1 rfl) ?_
  refine z_lconst (pc := 8) (z := 0) K dX6_run_8 (by decide) ?_
  refine z_putl (pc := 9) (t := 8) 6 K hw1 (ob hg5) zq8 (by decide) kf_8_6 zt_8_6 ⟨by decide, by decide⟩ q401 (fun _ h => h) rfl dX6_run_9 (fun _ _ hw6 => ?_)
  obtain ⟨σ7, e8⟩ : ∃ z, z = st σ2 a0 6 0 0 := ⟨_, rfl⟩
  have h := h σ7 e8
  have hw6 := wc_e e8 hw6
  have hk9 := kp_e e8 hk4 wo_X6_run (by decide) hg5 (t := 8) (by decide)
  have hg10 : tg σ7 a0 = 8 := (tg_e e8 (by decide)).trans hg5
  obtain ⟨nf11, h⟩ := h
  exact wk_X6_run_12_8 a0 x1 Q σ K hx1 nf11 σ7 1 _ _ _ h hw6 hk9 hg10 ⟨by decide, by decide⟩ (lv_sub hl [1, 2, 0] rfl)
set_option maxHeartbeats 4000000 in
theorem wk_X6_run_b180_9 {X : Cxt} {p : Program} {l : Launch} {e : Env} {s : State} {m : MethodId} {args : Array Value} {below : List Frame} {meth : Method} {c : Code} (a0 : Int) (x1 : Int) (Q : St → Prop) (σ0 : St) (K : MCx X p s m args meth c cX6_run 3 "CombTable$Reader" (none)) (hx1 : 0 ≤ x1 ∧ x1 ≤ 1) : ∀ (σ : St) (s1 : Int) (H : Heap) (locs : List Loc) (ls : Array Slot), wp_X6_run_b180 a0 x1 Q σ0 σ s1 → Wc X σ s.heap H locs → Kp ws_X6_run σ0 σ → tg σ a0 = 9 → rng s1 → lv_has ls 3 [] → W p l e (zrm 3 0 0) s m args below meth c H locs 0 0 (MQT below (ZQ X (qV (fun σ' => Kp ws_X6_run σ0 σ' ∧ Q σ')) (fun _ _ => False)) args s 0 0 (zA X)) (F0 m 180 ls [jI s1, jR X a0]) := by
  intro σ s1 H locs ls h hw hk hts0 hs1 hl
  refine z_puti (pc := 180) (t := 9) 3 K hw (ob hts0) zq9 (by decide) kf_9_3 zt_9_3 hs1 q394 (fun _ h => h) rfl dX6_run_180 (fun _ _ hw1 => ?_)
  obtain ⟨σ2, e3⟩ : ∃ z, z = st σ a0 3 0 s1 := ⟨_, rfl⟩
  have h := h σ2 e3
  have hw1 := wc_e e3 hw1
  have hk4 := kp_e e3 hk wo_X6_run (by decide) hts0 (t := 9) (by decide)
  exact z_vret (pc := 183) K hw1 ⟨hk4, h⟩ dX6_run_183
set_option maxHeartbeats 4000000 in
theorem wk_X6_run_b167_9 {X : Cxt} {p : Program} {l : Launch} {e : Env} {s : State} {m : MethodId} {args : Array Value} {below : List Frame} {meth : Method} {c : Code} (a0 : Int) (x1 : Int) (Q : St → Prop) (σ0 : St) (K : MCx X p s m args meth c cX6_run 3 "CombTable$Reader" (none)) (hx1 : 0 ≤ x1 ∧ x1 ≤ 1) : ∀ (σ : St) (H : Heap) (locs : List Loc) (ls : Array Slot), wp_X6_run_b167 a0 x1 Q σ0 σ → Wc X σ s.heap H locs → Kp ws_X6_run σ0 σ → tg σ a0 = 9 → lv_has ls 3 [] → W p l e (zrm 3 0 0) s m args below meth c H locs 0 0 (MQT below (ZQ X (qV (fun σ' => Kp ws_X6_run σ0 σ' ∧ Q σ')) (fun _ _ => False)) args s 0 0 (zA X)) (F0 m 167 ls [jR X a0]) := by
  intro σ H locs ls h hw hk hts0 hl
  refine z_iconst (pc := 167) K dX6_run_167 ?_
  refine z_goto (pc := 168) (tgt := 180) K dX6_run_168 (by decide) ?_
  exact wk_X6_run_b180_9 a0 x1 Q σ0 K hx1 σ 4 _ _ _ h hw hk hts0 ⟨by decide, by decide⟩ (lv_sub hl [] rfl)
set_option maxHeartbeats 4000000 in
theorem wk_X6_run_b164_9 {X : Cxt} {p : Program} {l : Launch} {e : Env} {s : State} {m : MethodId} {args : Array Value} {below : List Frame} {meth : Method} {c : Code} (a0 : Int) (x1 : Int) (Q : St → Prop) (σ0 : St) (K : MCx X p s m args meth c cX6_run 3 "CombTable$Reader" (none)) (hx1 : 0 ≤ x1 ∧ x1 ≤ 1) : ∀ (σ : St) (s1 : Int) (s2 : Int) (H : Heap) (locs : List Loc) (ls : Array Slot), wp_X6_run_b164 a0 x1 Q σ0 σ s1 s2 → Wc X σ s.heap H locs → Kp ws_X6_run σ0 σ → tg σ a0 = 9 → rng s1 → rng s2 → lv_has ls 3 [(1, jI x1)] → W p l e (zrm 3 0 0) s m args below meth c H locs 0 0 (MQT below (ZQ X (qV (fun σ' => Kp ws_X6_run σ0 σ' ∧ Q σ')) (fun _ _ => False)) args s 0 0 (zA X)) (F0 m 164 ls [jI s2, jI s1, jR X a0]) := by
  intro σ s1 s2 H locs ls h hw hk hts0 hs1 hs2 hl
  refine z_icmp_le (pc := 164) (tgt := 171) K hs1 hs2 dX6_run_164 (by decide) (fun hc1 => ?_) (fun hc1 => ?_)
  · have h := ite_t h hc1
    exact wk_X6_run_b167_9 a0 x1 Q σ0 K hx1 σ _ _ _ h hw hk hts0 (lv_sub hl [] rfl)
  · have h := ite_f h hc1
    refine lv_iload_n (pc := 171) K.x K.b dX6_run_171 rfl (lv_at hl 0 rfl) ?_
    refine z_if_eq (pc := 172) (tgt := 179) K (b01r hx1) dX6_run_172 (by decide) (fun hc2 => ?_) (fun hc2 => ?_)
    · have h := ite_t h hc2
      refine z_iconst (pc := 179) K dX6_run_179 ?_
      exact wk_X6_run_b180_9 a0 x1 Q σ0 K hx1 σ 2 _ _ _ h hw hk hts0 ⟨by decide, by decide⟩ (lv_sub hl [] rfl)
    · have h := ite_f h hc2
      refine z_iconst (pc := 175) K dX6_run_175 ?_
      refine z_goto (pc := 176) (tgt := 180) K dX6_run_176 (by decide) ?_
      exact wk_X6_run_b180_9 a0 x1 Q σ0 K hx1 σ 1 _ _ _ h hw hk hts0 ⟨by decide, by decide⟩ (lv_sub hl [] rfl)
set_option maxHeartbeats 4000000 in
theorem wk_X6_run_b119_9 {X : Cxt} {p : Program} {l : Launch} {e : Env} {s : State} {m : MethodId} {args : Array Value} {below : List Frame} {meth : Method} {c : Code} (a0 : Int) (x1 : Int) (Q : St → Prop) (σ0 : St) (K : MCx X p s m args meth c cX6_run 3 "CombTable$Reader" (none)) (hx1 : 0 ≤ x1 ∧ x1 ≤ 1) (L12 : St → Int → Prop) (hL12 : ∀ (σ : St) (v2 : Int) (H : Heap) (locs : List Loc) (ls : Array Slot), L12 σ v2 → Wc X σ s.heap H locs → Kp ws_X6_run σ0 σ → tg σ a0 = 9 → (0 ≤ v2 ∧ v2 ≤ 1) → lv_has ls 3 [(0, jR X a0), (1, jI x1), (2, jI v2)] → W p l e (zrm 3 0 0) s m args below meth c H locs 0 0 (MQT below (ZQ X (qV (fun σ' => Kp ws_X6_run σ0 σ' ∧ Q σ')) (fun _ _ => False)) args s 0 0 (zA X)) (F0 m 12 ls [])) : ∀ (σ : St) (v2 : Int) (H : Heap) (locs : List Loc) (ls : Array Slot), wp_X6_run_b119 a0 x1 Q σ0 L12 σ v2 → Wc X σ s.heap H locs → Kp ws_X6_run σ0 σ → tg σ a0 = 9 → (0 ≤ v2 ∧ v2 ≤ 1) → lv_has ls 3 [(0, jR X a0), (1, jI x1), (2, jI v2)] → W p l e (zrm 3 0 0) s m args below meth c H locs 0 0 (MQT below (ZQ X (qV (fun σ' => Kp ws_X6_run σ0 σ' ∧ Q σ')) (fun _ _ => False)) args s 0 0 (zA X)) (F0 m 119 ls []) := by
  intro σ v2 H locs ls h hw hk ht0 hv2 hl
  refine z_aload_n (pc := 119) K dX6_run_119 rfl (lv_at hl 0 rfl) ?_
  refine lv_dup (pc := 120) K.x K.b dX6_run_120 (jR_cat _ _) ?_
  refine z_get (pc := 121) (t := 9) (k := 1) K hw (ob (t := 9) ht0) zq9 (by decide) q382 (fun _ h => h) dX6_run_121 (zval_i kf_9_1) ?_
  refine z_iconst (pc := 124) K dX6_run_124 ?_
  refine z_iadd (pc := 125) K dX6_run_125 ?_
  obtain ⟨hr1, h⟩ := h
  refine z_puti (pc := 126) (t := 9) 1 K hw (ob ht0) zq9 (by decide) kf_9_1 zt_9_1 hr1 q382 (fun _ h => h) rfl dX6_run_126 (fun _ _ hw2 => ?_)
  obtain ⟨σ3, e4⟩ : ∃ z, z = st σ a0 1 0 ((σ a0 1 0) + 1) := ⟨_, rfl⟩
  have h := h σ3 e4
  have hw2 := wc_e e4 hw2
  have hk5 := kp_e e4 hk wo_X6_run (by decide) ht0 (t := 9) (by decide)
  have hg6 : tg σ3 a0 = 9 := (tg_e e4 (by decide)).trans ht0
  refine z_goto (pc := 129) (tgt := 12) K dX6_run_129 (by decide) ?_
  exact hL12 σ3 v2 _ _ _ h hw2 hk5 hg6 hv2 (lv_sub hl [0, 1, 2] rfl)
set_option maxHeartbeats 4000000 in
theorem wk_X6_run_b87_9 {X : Cxt} {p : Program} {l : Launch} {e : Env} {s : State} {m : MethodId} {args : Array Value} {below : List Frame} {meth : Method} {c : Code} (a0 : Int) (x1 : Int) (Q : St → Prop) (σ0 : St) (K : MCx X p s m args meth c cX6_run 3 "CombTable$Reader" (none)) (hx1 : 0 ≤ x1 ∧ x1 ≤ 1) (L12 : St → Int → Prop) (hL12 : ∀ (σ : St) (v2 : Int) (H : Heap) (locs : List Loc) (ls : Array Slot), L12 σ v2 → Wc X σ s.heap H locs → Kp ws_X6_run σ0 σ → tg σ a0 = 9 → (0 ≤ v2 ∧ v2 ≤ 1) → lv_has ls 3 [(0, jR X a0), (1, jI x1), (2, jI v2)] → W p l e (zrm 3 0 0) s m args below meth c H locs 0 0 (MQT below (ZQ X (qV (fun σ' => Kp ws_X6_run σ0 σ' ∧ Q σ')) (fun _ _ => False)) args s 0 0 (zA X)) (F0 m 12 ls [])) : ∀ (σ : St) (v2 : Int) (H : Heap) (locs : List Loc) (ls : Array Slot), wp_X6_run_b87 a0 x1 Q σ0 L12 σ v2 → Wc X σ s.heap H locs → Kp ws_X6_run σ0 σ → tg σ a0 = 9 → (0 ≤ v2 ∧ v2 ≤ 1) → lv_has ls 3 [(0, jR X a0), (1, jI x1), (2, jI v2)] → W p l e (zrm 3 0 0) s m args below meth c H locs 0 0 (MQT below (ZQ X (qV (fun σ' => Kp ws_X6_run σ0 σ' ∧ Q σ')) (fun _ _ => False)) args s 0 0 (zA X)) (F0 m 87 ls []) := by
  intro σ v2 H locs ls h hw hk ht0 hv2 hl
  refine z_aload_n (pc := 87) K dX6_run_87 rfl (lv_at hl 0 rfl) ?_
  refine z_get (pc := 88) (t := 9) (k := 1) K hw (ob (t := 9) ht0) zq9 (by decide) q382 (fun _ h => h) dX6_run_88 (zval_i kf_9_1) ?_
  refine z_aload_n (pc := 91) K dX6_run_91 rfl (lv_at hl 0 rfl) ?_
  refine z_get (pc := 92) (t := 9) (k := 2) K hw (ob (t := 9) ht0) zq9 (by decide) q385 (fun _ h => h) dX6_run_92 (zval_i kf_9_2) ?_
  refine z_isub (pc := 95) K dX6_run_95 ?_
  refine z_iconst (pc := 96) K dX6_run_96 ?_
  obtain ⟨hr2, h⟩ := h
  refine z_icmp_ge (pc := 97) (tgt := 119) K hr2 ⟨by decide, by decide⟩ dX6_run_97 (by decide) (fun hc1 => ?_) (fun hc1 => ?_)
  · have h := ite_t h hc1
    refine z_aload_n (pc := 100) K dX6_run_100 rfl (lv_at hl 0 rfl) ?_
    refine z_bipush (pc := 101) K dX6_run_101 (by decide) ?_
    refine z_aload_n (pc := 103) K dX6_run_103 rfl (lv_at hl 0 rfl) ?_
    refine z_get (pc := 104) (t := 9) (k := 4) K hw (ob (t := 9) ht0) zq9 (by decide) q397 (fun _ h => h) dX6_run_104 (zval_i kf_9_4) ?_
    refine z_imul (pc := 107) K dX6_run_107 ?_
    refine z_aload_n (pc := 108) K dX6_run_108 rfl (lv_at hl 0 rfl) ?_
    refine zr_i (pc := 109) (maxL := 1) K hw (met_X6_peek_9 X l σ a0 ht0 _ h) (i_VP (n := 0) (t := 9) (As := []) K hw (ob ht0) zq9 (by decide) q673 q675 q674 q2025 (sg_of K q676) rfl rfl dX6_run_109) (locw K q676 q97) ⟨by decide, by decide⟩ hl.1 dX6_run_109 (Nat.le_of_ble_eq_true rfl) ⟨Nat.le_refl _, Nat.le_refl _⟩ (fun r3 _ _ hr4 h hw7 => ?_)
    refine z_iadd (pc := 112) K dX6_run_112 ?_
    refine z_bipush (pc := 113) K dX6_run_113 (by decide) ?_
    refine z_isub (pc := 115) K dX6_run_115 ?_
    obtain ⟨hr8, h⟩ := h
    refine z_puti (pc := 116) (t := 9) 4 K hw7 (ob ht0) zq9 (by decide) kf_9_4 zt_9_4 hr8 q397 (fun _ h => h) rfl dX6_run_116 (fun _ _ hw9 => ?_)
    obtain ⟨σ10, e11⟩ : ∃ z, z = st σ a0 4 0 (((10 * (σ a0 4 0)) + r3) - 48) := ⟨_, rfl⟩
    have h := h σ10 e11
    have hw9 := wc_e e11 hw9
    have hk12 := kp_e e11 hk wo_X6_run (by decide) ht0 (t := 9) (by decide)
    have hg13 : tg σ10 a0 = 9 := (tg_e e11 (by decide)).trans ht0
    exact wk_X6_run_b119_9 a0 x1 Q σ0 K hx1 L12 hL12 σ10 v2 _ _ _ h hw9 hk12 hg13 hv2 (lv_sub hl [0, 1, 2] rfl)
  · have h := ite_f h hc1
    exact wk_X6_run_b119_9 a0 x1 Q σ0 K hx1 L12 hL12 σ v2 _ _ _ h hw hk ht0 hv2 (lv_sub hl [0, 1, 2] rfl)
set_option maxHeartbeats 4000000 in
theorem wk_X6_run_b55_9 {X : Cxt} {p : Program} {l : Launch} {e : Env} {s : State} {m : MethodId} {args : Array Value} {below : List Frame} {meth : Method} {c : Code} (a0 : Int) (x1 : Int) (Q : St → Prop) (σ0 : St) (K : MCx X p s m args meth c cX6_run 3 "CombTable$Reader" (none)) (hx1 : 0 ≤ x1 ∧ x1 ≤ 1) (L12 : St → Int → Prop) (hL12 : ∀ (σ : St) (v2 : Int) (H : Heap) (locs : List Loc) (ls : Array Slot), L12 σ v2 → Wc X σ s.heap H locs → Kp ws_X6_run σ0 σ → tg σ a0 = 9 → (0 ≤ v2 ∧ v2 ≤ 1) → lv_has ls 3 [(0, jR X a0), (1, jI x1), (2, jI v2)] → W p l e (zrm 3 0 0) s m args below meth c H locs 0 0 (MQT below (ZQ X (qV (fun σ' => Kp ws_X6_run σ0 σ' ∧ Q σ')) (fun _ _ => False)) args s 0 0 (zA X)) (F0 m 12 ls [])) : ∀ (σ : St) (s0 : Int) (H : Heap) (locs : List Loc) (ls : Array Slot), wp_X6_run_b55 a0 x1 Q σ0 L12 σ s0 → Wc X σ s.heap H locs → Kp ws_X6_run σ0 σ → tg σ a0 = 9 → (0 ≤ s0 ∧ s0 ≤ 1) → lv_has ls 3 [(0, jR X a0), (1, jI x1)] → W p l e (zrm 3 0 0) s m args below meth c H locs 0 0 (MQT below (ZQ X (qV (fun σ' => Kp ws_X6_run σ0 σ' ∧ Q σ')) (fun _ _ => False)) args s 0 0 (zA X)) (F0 m 55 ls [jI s0]) := by
  intro σ s0 H locs ls h hw hk ht0 hs0 hl
  refine lv_istore_n (pc := 55) (lv' := [(2, jI s0), (0, jR X a0), (1, jI x1)]) K.x K.b dX6_run_55 rfl hl (by decide) rfl (fun ls hl => ?_)
  refine z_aload_n (pc := 56) K dX6_run_56 rfl (lv_at hl 1 rfl) ?_
  refine z_get (pc := 57) (t := 9) (k := 1) K hw (ob (t := 9) ht0) zq9 (by decide) q382 (fun _ h => h) dX6_run_57 (zval_i kf_9_1) ?_
  refine z_aload_n (pc := 60) K dX6_run_60 rfl (lv_at hl 1 rfl) ?_
  refine z_get (pc := 61) (t := 9) (k := 2) K hw (ob (t := 9) ht0) zq9 (by decide) q385 (fun _ h => h) dX6_run_61 (zval_i kf_9_2) ?_
  refine z_isub (pc := 64) K dX6_run_64 ?_
  refine z_bipush (pc := 65) K dX6_run_65 (by decide) ?_
  obtain ⟨hr2, h⟩ := h
  refine z_icmp_ge (pc := 67) (tgt := 87) K hr2 ⟨by decide, by decide⟩ dX6_run_67 (by decide) (fun hc1 => ?_) (fun hc1 => ?_)
  · have h := ite_t h hc1
    refine z_aload_n (pc := 70) K dX6_run_70 rfl (lv_at hl 1 rfl) ?_
    refine z_aload_n (pc := 71) K dX6_run_71 rfl (lv_at hl 1 rfl) ?_
    refine z_get (pc := 72) (t := 9) (k := 6) K hw (ob (t := 9) ht0) zq9 (by decide) q401 (fun _ h => h) dX6_run_72 (zval_l kf_9_6) ?_
    refine z_bipush (pc := 75) K dX6_run_75 (by decide) ?_
    refine z_lshl (pc := 77) K dX6_run_77 ?_
    refine z_aload_n (pc := 78) K dX6_run_78 rfl (lv_at hl 1 rfl) ?_
    refine zr_i (pc := 79) (maxL := 1) K hw (met_X6_peek_9 X l σ a0 ht0 _ h) (i_VP (n := 0) (t := 9) (As := []) K hw (ob ht0) zq9 (by decide) q673 q675 q674 q2025 (sg_of K q676) rfl rfl dX6_run_79) (locw K q676 q97) ⟨by decide, by decide⟩ hl.1 dX6_run_79 (Nat.le_of_ble_eq_true rfl) ⟨Nat.le_refl _, Nat.le_refl _⟩ (fun r3 _ _ hr4 h hw7 => ?_)
    refine z_i2l (pc := 82) K hr4 dX6_run_82 ?_
    refine z_lor (pc := 83) K dX6_run_83 ?_
    refine z_putl (pc := 84) (t := 9) 6 K hw7 (ob ht0) zq9 (by decide) kf_9_6 zt_9_6 (rngL_toInt _) q401 (fun _ h => h) rfl dX6_run_84 (fun _ _ hw8 => ?_)
    obtain ⟨σ9, e10⟩ : ∃ z, z = st σ a0 6 0 (zlor (zlshl (σ a0 6 0) 8) r3) := ⟨_, rfl⟩
    have h := h σ9 e10
    have hw8 := wc_e e10 hw8
    have hk11 := kp_e e10 hk wo_X6_run (by decide) ht0 (t := 9) (by decide)
    have hg12 : tg σ9 a0 = 9 := (tg_e e10 (by decide)).trans ht0
    exact wk_X6_run_b87_9 a0 x1 Q σ0 K hx1 L12 hL12 σ9 s0 _ _ _ h hw8 hk11 hg12 hs0 (lv_sub hl [1, 2, 0] rfl)
  · have h := ite_f h hc1
    exact wk_X6_run_b87_9 a0 x1 Q σ0 K hx1 L12 hL12 σ s0 _ _ _ h hw hk ht0 hs0 (lv_sub hl [1, 2, 0] rfl)
set_option maxHeartbeats 4000000 in
theorem wk_X6_run_b54_9 {X : Cxt} {p : Program} {l : Launch} {e : Env} {s : State} {m : MethodId} {args : Array Value} {below : List Frame} {meth : Method} {c : Code} (a0 : Int) (x1 : Int) (Q : St → Prop) (σ0 : St) (K : MCx X p s m args meth c cX6_run 3 "CombTable$Reader" (none)) (hx1 : 0 ≤ x1 ∧ x1 ≤ 1) (L12 : St → Int → Prop) (hL12 : ∀ (σ : St) (v2 : Int) (H : Heap) (locs : List Loc) (ls : Array Slot), L12 σ v2 → Wc X σ s.heap H locs → Kp ws_X6_run σ0 σ → tg σ a0 = 9 → (0 ≤ v2 ∧ v2 ≤ 1) → lv_has ls 3 [(0, jR X a0), (1, jI x1), (2, jI v2)] → W p l e (zrm 3 0 0) s m args below meth c H locs 0 0 (MQT below (ZQ X (qV (fun σ' => Kp ws_X6_run σ0 σ' ∧ Q σ')) (fun _ _ => False)) args s 0 0 (zA X)) (F0 m 12 ls [])) : ∀ (σ : St) (H : Heap) (locs : List Loc) (ls : Array Slot), wp_X6_run_b54 a0 x1 Q σ0 L12 σ → Wc X σ s.heap H locs → Kp ws_X6_run σ0 σ → tg σ a0 = 9 → lv_has ls 3 [(0, jR X a0), (1, jI x1)] → W p l e (zrm 3 0 0) s m args below meth c H locs 0 0 (MQT below (ZQ X (qV (fun σ' => Kp ws_X6_run σ0 σ' ∧ Q σ')) (fun _ _ => False)) args s 0 0 (zA X)) (F0 m 54 ls []) := by
  intro σ H locs ls h hw hk ht0 hl
  refine z_iconst (pc := 54) K dX6_run_54 ?_
  exact wk_X6_run_b55_9 a0 x1 Q σ0 K hx1 L12 hL12 σ 0 _ _ _ h hw hk ht0 ⟨by decide, by decide⟩ (lv_sub hl [0, 1] rfl)
set_option maxHeartbeats 4000000 in
theorem wk_X6_run_b34_9 {X : Cxt} {p : Program} {l : Launch} {e : Env} {s : State} {m : MethodId} {args : Array Value} {below : List Frame} {meth : Method} {c : Code} (a0 : Int) (x1 : Int) (Q : St → Prop) (σ0 : St) (K : MCx X p s m args meth c cX6_run 3 "CombTable$Reader" (none)) (hx1 : 0 ≤ x1 ∧ x1 ≤ 1) (L12 : St → Int → Prop) (hL12 : ∀ (σ : St) (v2 : Int) (H : Heap) (locs : List Loc) (ls : Array Slot), L12 σ v2 → Wc X σ s.heap H locs → Kp ws_X6_run σ0 σ → tg σ a0 = 9 → (0 ≤ v2 ∧ v2 ≤ 1) → lv_has ls 3 [(0, jR X a0), (1, jI x1), (2, jI v2)] → W p l e (zrm 3 0 0) s m args below meth c H locs 0 0 (MQT below (ZQ X (qV (fun σ' => Kp ws_X6_run σ0 σ' ∧ Q σ')) (fun _ _ => False)) args s 0 0 (zA X)) (F0 m 12 ls [])) : ∀ (σ : St) (v2 : Int) (H : Heap) (locs : List Loc) (ls : Array Slot), wp_X6_run_b34 a0 x1 Q σ0 L12 σ v2 → Wc X σ s.heap H locs → Kp ws_X6_run σ0 σ → tg σ a0 = 9 → (0 ≤ v2 ∧ v2 ≤ 1) → lv_has ls 3 [(0, jR X a0), (1, jI x1), (2, jI v2)] → W p l e (zrm 3 0 0) s m args below meth c H locs 0 0 (MQT below (ZQ X (qV (fun σ' => Kp ws_X6_run σ0 σ' ∧ Q σ')) (fun _ _ => False)) args s 0 0 (zA X)) (F0 m 34 ls []) := by
  intro σ v2 H locs ls h hw hk ht0 hv2 hl
  refine lv_iload_n (pc := 34) K.x K.b dX6_run_34 rfl (lv_at hl 2 rfl) ?_
  refine z_if_eq (pc := 35) (tgt := 54) K (b01r hv2) dX6_run_35 (by decide) (fun hc1 => ?_) (fun hc1 => ?_)
  · have h := ite_t h hc1
    exact wk_X6_run_b54_9 a0 x1 Q σ0 K hx1 L12 hL12 σ _ _ _ h hw hk ht0 (lv_sub hl [0, 1] rfl)
  · have h := ite_f h hc1
    refine z_aload_n (pc := 38) K dX6_run_38 rfl (lv_at hl 0 rfl) ?_
    refine z_aload_n (pc := 39) K dX6_run_39 rfl (lv_at hl 0 rfl) ?_
    refine zr_i (pc := 40) (maxL := 1) K hw (met_X6_peek_9 X l σ a0 ht0 _ h) (i_VP (n := 0) (t := 9) (As := []) K hw (ob ht0) zq9 (by decide) q673 q675 q674 q2025 (sg_of K q676) rfl rfl dX6_run_40) (locw K q676 q97) ⟨by decide, by decide⟩ hl.1 dX6_run_40 (Nat.le_of_ble_eq_true rfl) ⟨Nat.le_refl _, Nat.le_refl _⟩ (fun r2 _ _ hr3 h hw6 => ?_)
    refine zr_z (pc := 43) (maxL := 2) K hw6 (met_X6_isLetter_9 X l σ a0 r2 ht0 hr3 _ h) (i_VP (n := 1) (t := 9) (As := [jI r2]) K hw6 (ob ht0) zq9 (by decide) q677 q679 q678 q2026 (sg_of K q680) rfl rfl dX6_run_43) (locw K q680 q97) ⟨by decide, by decide⟩ hl.1 dX6_run_43 (Nat.le_of_ble_eq_true rfl) ⟨Nat.le_refl _, Nat.le_refl _⟩ (fun r7 _ _ hr8 h hw11 => ?_)
    refine lv_iload_n (pc := 46) K.x K.b dX6_run_46 rfl (lv_at hl 1 rfl) ?_
    refine z_icmp_ne (pc := 47) (tgt := 54) K (b01r hr8) (b01r hx1) dX6_run_47 (by decide) (fun hc12 => ?_) (fun hc12 => ?_)
    · have h := ite_t h hc12
      refine z_iconst (pc := 50) K dX6_run_50 ?_
      refine z_goto (pc := 51) (tgt := 55) K dX6_run_51 (by decide) ?_
      exact wk_X6_run_b55_9 a0 x1 Q σ0 K hx1 L12 hL12 σ 1 _ _ _ h hw11 hk ht0 ⟨by decide, by decide⟩ (lv_sub hl [0, 1] rfl)
    · have h := ite_f h hc12
      exact wk_X6_run_b54_9 a0 x1 Q σ0 K hx1 L12 hL12 σ _ _ _ h hw11 hk ht0 (lv_sub hl [0, 1] rfl)
set_option maxHeartbeats 4000000 in
theorem wk_X6_run_12_9 {X : Cxt} {p : Program} {l : Launch} {e : Env} {s : State} {m : MethodId} {args : Array Value} {below : List Frame} {meth : Method} {c : Code} (a0 : Int) (x1 : Int) (Q : St → Prop) (σ0 : St) (K : MCx X p s m args meth c cX6_run 3 "CombTable$Reader" (none)) (hx1 : 0 ≤ x1 ∧ x1 ≤ 1) : ∀ (n : Nat), ∀ (σ : St) (v2 : Int) (H : Heap) (locs : List Loc) (ls : Array Slot), lp_X6_run_12 a0 x1 Q σ0 n σ v2 → Wc X σ s.heap H locs → Kp ws_X6_run σ0 σ → tg σ a0 = 9 → (0 ≤ v2 ∧ v2 ≤ 1) → lv_has ls 3 [(0, jR X a0), (1, jI x1), (2, jI v2)] → W p l e (zrm 3 0 0) s m args below meth c H locs 0 0 (MQT below (ZQ X (qV (fun σ' => Kp ws_X6_run σ0 σ' ∧ Q σ')) (fun _ _ => False)) args s 0 0 (zA X)) (F0 m 12 ls []) := by
  intro n
  induction n with
  | zero => intro σ v2 H locs ls h; exact h.elim
  | succ n ih =>
    intro σ v2 H locs ls h hw hk ht0 hv2 hl
    have h := h hk
    refine z_aload_n (pc := 12) K dX6_run_12 rfl (lv_at hl 0 rfl) ?_
    refine z_aload_n (pc := 13) K dX6_run_13 rfl (lv_at hl 0 rfl) ?_
    refine zr_i (pc := 14) (maxL := 1) K hw (met_X6_peek_9 X l σ a0 ht0 _ h) (i_VP (n := 0) (t := 9) (As := []) K hw (ob ht0) zq9 (by decide) q673 q675 q674 q2025 (sg_of K q676) rfl rfl dX6_run_14) (locw K q676 q97) ⟨by decide, by decide⟩ hl.1 dX6_run_14 (Nat.le_of_ble_eq_true rfl) ⟨Nat.le_refl _, Nat.le_refl _⟩ (fun r1 _ _ hr2 h hw5 => ?_)
    refine zr_z (pc := 17) (maxL := 2) K hw5 (met_X6_isLetter_9 X l σ a0 r1 ht0 hr2 _ h) (i_VP (n := 1) (t := 9) (As := [jI r1]) K hw5 (ob ht0) zq9 (by decide) q677 q679 q678 q2026 (sg_of K q680) rfl rfl dX6_run_17) (locw K q680 q97) ⟨by decide, by decide⟩ hl.1 dX6_run_17 (Nat.le_of_ble_eq_true rfl) ⟨Nat.le_refl _, Nat.le_refl _⟩ (fun r6 _ _ hr7 h hw10 => ?_)
    refine z_if_ne (pc := 20) (tgt := 34) K (b01r hr7) dX6_run_20 (by decide) (fun hc11 => ?_) (fun hc11 => ?_)
    · have h := ite_t h hc11
      refine z_aload_n (pc := 23) K dX6_run_23 rfl (lv_at hl 0 rfl) ?_
      refine z_aload_n (pc := 24) K dX6_run_24 rfl (lv_at hl 0 rfl) ?_
      refine zr_i (pc := 25) (maxL := 1) K hw10 (met_X6_peek_9 X l σ a0 ht0 _ h) (i_VP (n := 0) (t := 9) (As := []) K hw10 (ob ht0) zq9 (by decide) q673 q675 q674 q2025 (sg_of K q676) rfl rfl dX6_run_25) (locw K q676 q97) ⟨by decide, by decide⟩ hl.1 dX6_run_25 (Nat.le_of_ble_eq_true rfl) ⟨Nat.le_refl _, Nat.le_refl _⟩ (fun r12 _ _ hr13 h hw16 => ?_)
      refine zr_z (pc := 28) (maxL := 2) K hw16 (met_X6_isDigit_9 X l σ a0 r12 ht0 hr13 _ h) (i_VP (n := 1) (t := 9) (As := [jI r12]) K hw16 (ob ht0) zq9 (by decide) q684 q686 q685 q2027 (sg_of K q687) rfl rfl dX6_run_28) (locw K q687 q97) ⟨by decide, by decide⟩ hl.1 dX6_run_28 (Nat.le_of_ble_eq_true rfl) ⟨Nat.le_refl _, Nat.le_refl _⟩ (fun r17 _ _ hr18 h hw21 => ?_)
      refine z_if_eq (pc := 31) (tgt := 132) K (b01r hr18) dX6_run_31 (by decide) (fun hc22 => ?_) (fun hc22 => ?_)
      · have h := ite_t h hc22
        refine z_aload_n (pc := 132) K dX6_run_132 rfl (lv_at hl 0 rfl) ?_
        refine z_aload_n (pc := 133) K dX6_run_133 rfl (lv_at hl 0 rfl) ?_
        refine z_get (pc := 134) (t := 9) (k := 1) K hw21 (ob (t := 9) ht0) zq9 (by decide) q382 (fun _ h => h) dX6_run_134 (zval_i kf_9_1) ?_
        refine z_aload_n (pc := 137) K dX6_run_137 rfl (lv_at hl 0 rfl) ?_
        refine z_get (pc := 138) (t := 9) (k := 2) K hw21 (ob (t := 9) ht0) zq9 (by decide) q385 (fun _ h => h) dX6_run_138 (zval_i kf_9_2) ?_
        refine z_isub (pc := 141) K dX6_run_141 ?_
        obtain ⟨hr23, h⟩ := h
        refine z_puti (pc := 142) (t := 9) 5 K hw21 (ob ht0) zq9 (by decide) kf_9_5 zt_9_5 hr23 q398 (fun _ h => h) rfl dX6_run_142 (fun _ _ hw24 => ?_)
        obtain ⟨σ25, e26⟩ : ∃ z, z = st σ a0 5 0 ((σ a0 1 0) - (σ a0 2 0)) := ⟨_, rfl⟩
        have h := h σ25 e26
        have hw24 := wc_e e26 hw24
        have hk27 := kp_e e26 hk wo_X6_run (by decide) ht0 (t := 9) (by decide)
        have hg28 : tg σ25 a0 = 9 := (tg_e e26 (by decide)).trans ht0
        refine z_aload_n (pc := 145) K dX6_run_145 rfl (lv_at hl 0 rfl) ?_
        refine lv_iload_n (pc := 146) K.x K.b dX6_run_146 rfl (lv_at hl 2 rfl) ?_
        refine z_if_eq (pc := 147) (tgt := 167) K (b01r hv2) dX6_run_147 (by decide) (fun hc29 => ?_) (fun hc29 => ?_)
        · have h := ite_t h hc29
          exact wk_X6_run_b167_9 a0 x1 Q σ0 K hx1 σ25 _ _ _ h hw24 hk27 hg28 (lv_sub hl [] rfl)
        · have h := ite_f h hc29
          refine z_aload_n (pc := 150) K dX6_run_150 rfl (lv_at hl 0 rfl) ?_
          refine z_get (pc := 151) (t := 9) (k := 5) K hw24 (ob (t := 9) hg28) zq9 (by decide) q398 (fun _ h => h) dX6_run_151 (zval_i kf_9_5) ?_
          refine lv_iload_n (pc := 154) K.x K.b dX6_run_154 rfl (lv_at hl 1 rfl) ?_
          refine z_if_eq (pc := 155) (tgt := 163) K (b01r hx1) dX6_run_155 (by decide) (fun hc30 => ?_) (fun hc30 => ?_)
          · have h := ite_t h hc30
            refine z_iconst (pc := 163) K dX6_run_163 ?_
            exact wk_X6_run_b164_9 a0 x1 Q σ0 K hx1 σ25 (σ25 a0 5 0) 3 _ _ _ h hw24 hk27 hg28 (z_rI hw24 (ob (t := 9) hg28) kf_9_5) ⟨by decide, by decide⟩ (lv_sub hl [1] rfl)
          · have h := ite_f h hc30
            refine z_bipush (pc := 158) K dX6_run_158 (by decide) ?_
            refine z_goto (pc := 160) (tgt := 164) K dX6_run_160 (by decide) ?_
            exact wk_X6_run_b164_9 a0 x1 Q σ0 K hx1 σ25 (σ25 a0 5 0) 7 _ _ _ h hw24 hk27 hg28 (z_rI hw24 (ob (t := 9) hg28) kf_9_5) ⟨by decide, by decide⟩ (lv_sub hl [1] rfl)
      · have h := ite_f h hc22
        exact wk_X6_run_b34_9 a0 x1 Q σ0 K hx1 (lp_X6_run_12 a0 x1 Q σ0 n) ih σ v2 _ _ _ h hw21 hk ht0 hv2 (lv_sub hl [0, 1, 2] rfl)
    · have h := ite_f h hc11
      exact wk_X6_run_b34_9 a0 x1 Q σ0 K hx1 (lp_X6_run_12 a0 x1 Q σ0 n) ih σ v2 _ _ _ h hw10 hk ht0 hv2 (lv_sub hl [0, 1, 2] rfl)
set_option maxHeartbeats 4000000 in
theorem met_X6_run_9 (X : Cxt) (l : Launch) (σ : St) (a0 : Int) (x1 : Int) (ht0 : tg σ a0 = 9) (hx1 : 0 ≤ x1 ∧ x1 ≤ 1) (Q : St → Prop) (h : wp_X6_run σ a0 x1 Q) : MetT l yX6_run (ws_ yX6_run cX6_run 3 (none)) (zrm 3 0 0) (ZP X σ [jR X a0, jI x1]) (ZQ X (qV (fun σ' => Kp ws_X6_run σ σ' ∧ Q σ')) (fun _ _ => False)) 0 0 (zA X) := by
  refine z_start (own := "CombTable$Reader") (lv := [(0, jR X a0), (1, jI x1)]) (by decide) rfl (by simp [lv_args, jR_cat, jI_cat, jL_cat]) (by simp [lg_sl, jR_cat, jI_cat, jL_cat]) (fun p e s m below meth c ls K _ _ hw hl => ?_)
  have hk : Kp ws_X6_run σ σ := kp_rf σ
  refine z_iconst (pc := 0) K dX6_run_0 ?_
  refine lv_istore_n (pc := 1) (lv' := [(2, jI 1), (0, jR X a0), (1, jI x1)]) K.x K.b dX6_run_1 rfl hl (by decide) rfl (fun ls hl => ?_)
  refine z_aload_n (pc := 2) K dX6_run_2 rfl (lv_at hl 1 rfl) ?_
  refine z_iconst (pc := 3) K dX6_run_3 ?_
  refine z_puti (pc := 4) (t := 9) 4 K hw (ob ht0) zq9 (by decide) kf_9_4 zt_9_4 ⟨by decide, by decide⟩ q397 (fun _ h => h) rfl dX6_run_4 (fun _ _ hw1 => ?_)
  obtain ⟨σ2, e3⟩ : ∃ z, z = st σ a0 4 0 0 := ⟨_, rfl⟩
  have h := h σ2 e3
  have hw1 := wc_e e3 hw1
  have hk4 := kp_e e3 hk wo_X6_run (by decide) ht0 (t := 9) (by decide)
  have hg5 : tg σ2 a0 = 9 := (tg_e e3 (by decide)).trans ht0
  refine z_aload_n (pc := 7) K dX6_run_7 rfl (lv_at hl 1 rfl) ?_
  refine z_lconst (pc := 8) (z := 0) K dX6_run_8 (by decide) ?_
  refine z_putl (pc := 9) (t := 9) 6 K hw1 (ob hg5) zq9 (by decide) kf_9_6 zt_9_6 ⟨by decide, by decide⟩ q401 (fun _ h => h) rfl dX6_run_9 (fun _ _ hw6 => ?_)
  obtain ⟨σ7, e8⟩ : ∃ z, z = st σ2 a0 6 0 0 := ⟨_, rfl⟩
  have h := h σ7 e8
  have hw6 := wc_e e8 hw6
  have hk9 := kp_e e8 hk4 wo_X6_run (by decide) hg5 (t := 9) (by decide)
  have hg10 : tg σ7 a0 = 9 := (tg_e e8 (by decide)).trans hg5
  obtain ⟨nf11, h⟩ := h
  exact wk_X6_run_12_9 a0 x1 Q σ K hx1 nf11 σ7 1 _ _ _ h hw6 hk9 hg10 ⟨by decide, by decide⟩ (lv_sub hl [1, 2, 0] rfl)
def ws_X6_next : List (Int × Nat) := [(6, 1), (6, 2), (6, 3), (6, 4), (6, 5), (6, 6), (7, 1), (7, 2), (7, 3), (7, 4), (7, 5), (7, 6), (8, 1), (8, 2), (8, 3), (8, 4), (8, 5), (8, 6), (9, 1), (9, 2), (9, 3), (9, 4), (9, 5), (9, 6)]
theorem wo_X6_next : wsOk ws_X6_next = true := rfl
def wp_X6_next_b158 (a0 : Int) (Q : St → Prop) (σ0 : St) (σ : St) (v1 : Int) (s1 : Int) : Prop :=
  ∀ σ2 : St, σ2 = st σ a0 3 0 s1 → ∀ σ7 : St, σ7 = st σ2 a0 4 0 v1 → rng ((σ7 a0 1 0) + 1) ∧ ∀ σ13 : St, σ13 = st σ7 a0 1 0 ((σ7 a0 1 0) + 1) → Q σ13
def wp_X6_next_b153 (a0 : Int) (Q : St → Prop) (σ0 : St) (σ : St) (v1 : Int) : Prop :=
  (wp_X6_next_b158 a0 Q σ0 σ v1 3)
def wp_X6_next_b111 (a0 : Int) (Q : St → Prop) (σ0 : St) (σ : St) (v1 : Int) : Prop :=
  wp_X6_isLetter σ a0 v1 (fun r1 => wp_X6_run σ a0 r1 (fun σ9 => Kp ws_X6_run σ σ9 → Q σ9))
def wp_X6_next_b78 (a0 : Int) (Q : St → Prop) (σ0 : St) (σ : St) : Prop :=
  wp_X6_peek σ a0 (fun r1 => (if r1 < 0 then
    ∀ σ8 : St, σ8 = st σ a0 3 0 0 → Q σ8
    else
    wp_X6_isLetter σ a0 r1 (fun r12 => (if r12 = 0 then
      wp_X6_isDigit σ a0 r1 (fun r18 => (if r18 = 0 then
        (if r1 = 59 then
          (wp_X6_next_b153 a0 Q σ0 σ r1)
          else
          (if r1 = 40 then
            (wp_X6_next_b153 a0 Q σ0 σ r1)
            else
            (if r1 = 41 then
              (wp_X6_next_b153 a0 Q σ0 σ r1)
              else
              wp_X1_isIn σ r1 60 62 (fun r27 => (if r27 = 0 then
                (wp_X6_next_b158 a0 Q σ0 σ r1 4)
                else
                (wp_X6_next_b153 a0 Q σ0 σ r1))))))
        else
        (wp_X6_next_b111 a0 Q σ0 σ r1)))
      else
      (wp_X6_next_b111 a0 Q σ0 σ r1)))))
def wp_X6_next_b18 (a0 : Int) (Q : St → Prop) (σ0 : St) (L0 : St → Prop) (σ : St) : Prop :=
  rng ((σ a0 1 0) + 1) ∧ ∀ σ3 : St, σ3 = st σ a0 1 0 ((σ a0 1 0) + 1) → (L0 σ3)
def lp_X6_next_0 (a0 : Int) (Q : St → Prop) (σ0 : St) : Nat → St → Prop
  | 0 => fun _ => False
  | n + 1 => fun σ  => 
    Kp ws_X6_next σ0 σ → wp_X6_peek σ a0 (fun r1 => (if r1 = 32 then
      (wp_X6_next_b18 a0 Q σ0 (lp_X6_next_0 a0 Q σ0 n) σ)
      else
      wp_X6_peek σ a0 (fun r7 => (if r7 = 10 then
        (wp_X6_next_b18 a0 Q σ0 (lp_X6_next_0 a0 Q σ0 n) σ)
        else
        ∀ σ14 : St, σ14 = st σ a0 2 0 (σ a0 1 0) → (if σ14 a0 0 0 < σ14 (σ14 a0 7 0) 2 0 then
          (if σ14 a0 0 0 ≤ σ14 a0 1 0 then
            ∀ σ22 : St, σ22 = st σ14 a0 2 0 (σ14 a0 0 0) → ∀ σ27 : St, σ27 = st σ22 a0 3 0 4 → Q σ27
            else
            (wp_X6_next_b78 a0 Q σ0 σ14))
          else
          (wp_X6_next_b78 a0 Q σ0 σ14))))))
def wp_X6_next (σ : St) (a0 : Int) (Q : St → Prop) : Prop :=
  (∃ kk, lp_X6_next_0 a0 Q σ kk σ)
set_option maxHeartbeats 4000000 in
theorem wk_X6_next_b158_6 {X : Cxt} {p : Program} {l : Launch} {e : Env} {s : State} {m : MethodId} {args : Array Value} {below : List Frame} {meth : Method} {c : Code} (a0 : Int) (Q : St → Prop) (σ0 : St) (K : MCx X p s m args meth c cX6_next 2 "CombTable$Reader" (none)) : ∀ (σ : St) (v1 : Int) (s1 : Int) (H : Heap) (locs : List Loc) (ls : Array Slot), wp_X6_next_b158 a0 Q σ0 σ v1 s1 → Wc X σ s.heap H locs → Kp ws_X6_next σ0 σ → tg σ a0 = 6 → rng v1 → rng s1 → lv_has ls 2 [(0, jR X a0), (1, jI v1)] → W p l e (zrm 4 0 0) s m args below meth c H locs 0 0 (MQT below (ZQ X (qV (fun σ' => Kp ws_X6_next σ0 σ' ∧ Q σ')) (fun _ _ => False)) args s 0 0 (zA X)) (F0 m 158 ls [jI s1, jR X a0]) := by
  intro σ v1 s1 H locs ls h hw hk ht0 hv1 hs1 hl
  refine z_puti (pc := 158) (t := 6) 3 K hw (ob ht0) zq6 (by decide) kf_6_3 zt_6_3 hs1 q394 (fun _ h => h) rfl dX6_next_158 (fun _ _ hw1 => ?_)
  obtain ⟨σ2, e3⟩ : ∃ z, z = st σ a0 3 0 s1 := ⟨_, rfl⟩
  have h := h σ2 e3
  have hw1 := wc_e e3 hw1
  have hk4 := kp_e e3 hk wo_X6_next (by decide) ht0 (t := 6) (by decide)
  have hg5 : tg σ2 a0 = 6 := (tg_e e3 (by decide)).trans ht0
  refine z_aload_n (pc := 161) K dX6_next_161 rfl (lv_at hl 0 rfl) ?_
  refine lv_iload_n (pc := 162) K.x K.b dX6_next_162 rfl (lv_at hl 1 rfl) ?_
  refine z_puti (pc := 163) (t := 6) 4 K hw1 (ob hg5) zq6 (by decide) kf_6_4 zt_6_4 hv1 q397 (fun _ h => h) rfl dX6_next_163 (fun _ _ hw6 => ?_)
  obtain ⟨σ7, e8⟩ : ∃ z, z = st σ2 a0 4 0 v1 := ⟨_, rfl⟩
  have h := h σ7 e8
  have hw6 := wc_e e8 hw6
  have hk9 := kp_e e8 hk4 wo_X6_next (by decide) hg5 (t := 6) (by decide)
  have hg10 : tg σ7 a0 = 6 := (tg_e e8 (by decide)).trans hg5
  refine z_aload_n (pc := 166) K dX6_next_166 rfl (lv_at hl 0 rfl) ?_
  refine lv_dup (pc := 167) K.x K.b dX6_next_167 (jR_cat _ _) ?_
  refine z_get (pc := 168) (t := 6) (k := 1) K hw6 (ob (t := 6) hg10) zq6 (by decide) q382 (fun _ h => h) dX6_next_168 (zval_i kf_6_1) ?_
  refine z_iconst (pc := 171) K dX6_next_171 ?_
  refine z_iadd (pc := 172) K dX6_next_172 ?_
  obtain ⟨hr11, h⟩ := h
  refine z_puti (pc := 173) (t := 6) 1 K hw6 (ob hg10) zq6 (by decide) kf_6_1 zt_6_1 hr11 q382 (fun _ h => h) rfl dX6_next_173 (fun _ _ hw12 => ?_)
  obtain ⟨σ13, e14⟩ : ∃ z, z = st σ7 a0 1 0 ((σ7 a0 1 0) + 1) := ⟨_, rfl⟩
  have h := h σ13 e14
  have hw12 := wc_e e14 hw12
  have hk15 := kp_e e14 hk9 wo_X6_next (by decide) hg10 (t := 6) (by decide)
  have hg16 : tg σ13 a0 = 6 := (tg_e e14 (by decide)).trans hg10
  exact z_vret (pc := 176) K hw12 ⟨hk15, h⟩ dX6_next_176
set_option maxHeartbeats 4000000 in
theorem wk_X6_next_b153_6 {X : Cxt} {p : Program} {l : Launch} {e : Env} {s : State} {m : MethodId} {args : Array Value} {below : List Frame} {meth : Method} {c : Code} (a0 : Int) (Q : St → Prop) (σ0 : St) (K : MCx X p s m args meth c cX6_next 2 "CombTable$Reader" (none)) : ∀ (σ : St) (v1 : Int) (H : Heap) (locs : List Loc) (ls : Array Slot), wp_X6_next_b153 a0 Q σ0 σ v1 → Wc X σ s.heap H locs → Kp ws_X6_next σ0 σ → tg σ a0 = 6 → rng v1 → lv_has ls 2 [(0, jR X a0), (1, jI v1)] → W p l e (zrm 4 0 0) s m args below meth c H locs 0 0 (MQT below (ZQ X (qV (fun σ' => Kp ws_X6_next σ0 σ' ∧ Q σ')) (fun _ _ => False)) args s 0 0 (zA X)) (F0 m 153 ls [jR X a0]) := by
  intro σ v1 H locs ls h hw hk ht0 hv1 hl
  refine z_iconst (pc := 153) K dX6_next_153 ?_
  refine z_goto (pc := 154) (tgt := 158) K dX6_next_154 (by decide) ?_
  exact wk_X6_next_b158_6 a0 Q σ0 K σ v1 3 _ _ _ h hw hk ht0 hv1 ⟨by decide, by decide⟩ (lv_sub hl [0, 1] rfl)
set_option maxHeartbeats 4000000 in
theorem wk_X6_next_b111_6 {X : Cxt} {p : Program} {l : Launch} {e : Env} {s : State} {m : MethodId} {args : Array Value} {below : List Frame} {meth : Method} {c : Code} (a0 : Int) (Q : St → Prop) (σ0 : St) (K : MCx X p s m args meth c cX6_next 2 "CombTable$Reader" (none)) : ∀ (σ : St) (v1 : Int) (H : Heap) (locs : List Loc) (ls : Array Slot), wp_X6_next_b111 a0 Q σ0 σ v1 → Wc X σ s.heap H locs → Kp ws_X6_next σ0 σ → tg σ a0 = 6 → rng v1 → lv_has ls 2 [(0, jR X a0), (1, jI v1)] → W p l e (zrm 4 0 0) s m args below meth c H locs 0 0 (MQT below (ZQ X (qV (fun σ' => Kp ws_X6_next σ0 σ' ∧ Q σ')) (fun _ _ => False)) args s 0 0 (zA X)) (F0 m 111 ls []) := by
  intro σ v1 H locs ls h hw hk ht0 hv1 hl
  refine z_aload_n (pc := 111) K dX6_next_111 rfl (lv_at hl 0 rfl) ?_
  refine z_aload_n (pc := 112) K dX6_next_112 rfl (lv_at hl 0 rfl) ?_
  refine lv_iload_n (pc := 113) K.x K.b dX6_next_113 rfl (lv_at hl 1 rfl) ?_
  refine zr_z (pc := 114) (maxL := 2) K hw (met_X6_isLetter_6 X l σ a0 v1 ht0 hv1 _ h) (i_VP (n := 1) (t := 6) (As := [jI v1]) K hw (ob ht0) zq6 (by decide) q677 q679 q678 q2026 (sg_of K q680) rfl rfl dX6_next_114) (locw K q680 q97) ⟨by decide, by decide⟩ hl.1 dX6_next_114 (Nat.le_of_ble_eq_true rfl) ⟨Nat.le_refl _, Nat.le_refl _⟩ (fun r1 _ _ hr2 h hw5 => ?_)
  refine zc_v (pc := 117) (maxL := 3) K hw5 (met_X6_run_6 X l σ a0 r1 ht0 hr2 _ h) (i_VP (n := 1) (t := 6) (As := [jI r1]) K hw5 (ob ht0) zq6 (by decide) q688 q690 q689 q2028 (sg_of K q691) rfl rfl dX6_next_117) (locw K q691 q97) ⟨by decide, by decide⟩ hl.1 dX6_next_117 (Nat.le_of_ble_eq_true rfl) ⟨Nat.le_refl _, Nat.le_refl _⟩ (fun σ9 _ _ hq8 hw10 => ?_)
  obtain ⟨hk11, h⟩ := hq8
  have h := h hk11
  have hk12 := kp_trans wo_X6_next hk hk11 (fun _ q => q) (by decide)
  have hg13 : tg σ9 a0 = 6 := kp_tg hk11 wo_X6_run ht0 (by decide)
  refine z_goto (pc := 120) (tgt := 176) K dX6_next_120 (by decide) ?_
  exact z_vret (pc := 176) K hw10 ⟨hk12, h⟩ dX6_next_176
set_option maxHeartbeats 4000000 in
theorem wk_X6_next_b78_6 {X : Cxt} {p : Program} {l : Launch} {e : Env} {s : State} {m : MethodId} {args : Array Value} {below : List Frame} {meth : Method} {c : Code} (a0 : Int) (Q : St → Prop) (σ0 : St) (K : MCx X p s m args meth c cX6_next 2 "CombTable$Reader" (none)) : ∀ (σ : St) (H : Heap) (locs : List Loc) (ls : Array Slot), wp_X6_next_b78 a0 Q σ0 σ → Wc X σ s.heap H locs → Kp ws_X6_next σ0 σ → tg σ a0 = 6 → lv_has ls 2 [(0, jR X a0)] → W p l e (zrm 4 0 0) s m args below meth c H locs 0 0 (MQT below (ZQ X (qV (fun σ' => Kp ws_X6_next σ0 σ' ∧ Q σ')) (fun _ _ => False)) args s 0 0 (zA X)) (F0 m 78 ls []) := by
  intro σ H locs ls h hw hk ht0 hl
  refine z_aload_n (pc := 78) K dX6_next_78 rfl (lv_at hl 0 rfl) ?_
  refine zr_i (pc := 79) (maxL := 1) K hw (met_X6_peek_6 X l σ a0 ht0 _ h) (i_VP (n := 0) (t := 6) (As := []) K hw (ob ht0) zq6 (by decide) q673 q675 q674 q2025 (sg_of K q676) rfl rfl dX6_next_79) (locw K q676 q97) ⟨by decide, by decide⟩ hl.1 dX6_next_79 (Nat.le_of_ble_eq_true rfl) ⟨Nat.le_refl _, Nat.le_refl _⟩ (fun r1 _ _ hr2 h hw5 => ?_)
  refine lv_istore_n (pc := 82) (lv' := [(1, jI r1), (0, jR X a0)]) K.x K.b dX6_next_82 rfl hl (by decide) (by simp [jR_cat]) (fun ls hl => ?_)
  refine lv_iload_n (pc := 83) K.x K.b dX6_next_83 rfl (lv_at hl 0 rfl) ?_
  refine z_if_ge (pc := 84) (tgt := 95) K hr2 dX6_next_84 (by decide) (fun hc6 => ?_) (fun hc6 => ?_)
  · have h := ite_t h hc6
    refine z_aload_n (pc := 87) K dX6_next_87 rfl (lv_at hl 1 rfl) ?_
    refine z_iconst (pc := 88) K dX6_next_88 ?_
    refine z_puti (pc := 89) (t := 6) 3 K hw5 (ob ht0) zq6 (by decide) kf_6_3 zt_6_3 ⟨by decide, by decide⟩ q394 (fun _ h => h) rfl dX6_next_89 (fun _ _ hw7 => ?_)
    obtain ⟨σ8, e9⟩ : ∃ z, z = st σ a0 3 0 0 := ⟨_, rfl⟩
    have h := h σ8 e9
    have hw7 := wc_e e9 hw7
    have hk10 := kp_e e9 hk wo_X6_next (by decide) ht0 (t := 6) (by decide)
    have hg11 : tg σ8 a0 = 6 := (tg_e e9 (by decide)).trans ht0
    refine z_goto (pc := 92) (tgt := 176) K dX6_next_92 (by decide) ?_
    exact z_vret (pc := 176) K hw7 ⟨hk10, h⟩ dX6_next_176
  · have h := ite_f h hc6
    refine z_aload_n (pc := 95) K dX6_next_95 rfl (lv_at hl 1 rfl) ?_
    refine lv_iload_n (pc := 96) K.x K.b dX6_next_96 rfl (lv_at hl 0 rfl) ?_
    refine zr_z (pc := 97) (maxL := 2) K hw5 (met_X6_isLetter_6 X l σ a0 r1 ht0 hr2 _ h) (i_VP (n := 1) (t := 6) (As := [jI r1]) K hw5 (ob ht0) zq6 (by decide) q677 q679 q678 q2026 (sg_of K q680) rfl rfl dX6_next_97) (locw K q680 q97) ⟨by decide, by decide⟩ hl.1 dX6_next_97 (Nat.le_of_ble_eq_true rfl) ⟨Nat.le_refl _, Nat.le_refl _⟩ (fun r12 _ _ hr13 h hw16 => ?_)
    refine z_if_ne (pc := 100) (tgt := 111) K (b01r hr13) dX6_next_100 (by decide) (fun hc17 => ?_) (fun hc17 => ?_)
    · have h := ite_t h hc17
      refine z_aload_n (pc := 103) K dX6_next_103 rfl (lv_at hl 1 rfl) ?_
      refine lv_iload_n (pc := 104) K.x K.b dX6_next_104 rfl (lv_at hl 0 rfl) ?_
      refine zr_z (pc := 105) (maxL := 2) K hw16 (met_X6_isDigit_6 X l σ a0 r1 ht0 hr2 _ h) (i_VP (n := 1) (t := 6) (As := [jI r1]) K hw16 (ob ht0) zq6 (by decide) q684 q686 q685 q2027 (sg_of K q687) rfl rfl dX6_next_105) (locw K q687 q97) ⟨by decide, by decide⟩ hl.1 dX6_next_105 (Nat.le_of_ble_eq_true rfl) ⟨Nat.le_refl _, Nat.le_refl _⟩ (fun r18 _ _ hr19 h hw22 => ?_)
      refine z_if_eq (pc := 108) (tgt := 123) K (b01r hr19) dX6_next_108 (by decide) (fun hc23 => ?_) (fun hc23 => ?_)
      · have h := ite_t h hc23
        refine z_aload_n (pc := 123) K dX6_next_123 rfl (lv_at hl 1 rfl) ?_
        refine lv_iload_n (pc := 124) K.x K.b dX6_next_124 rfl (lv_at hl 0 rfl) ?_
        refine z_bipush (pc := 125) K dX6_next_125 (by decide) ?_
        refine z_icmp_eq (pc := 127) (tgt := 153) K hr2 ⟨by decide, by decide⟩ dX6_next_127 (by decide) (fun hc24 => ?_) (fun hc24 => ?_)
        · have h := ite_t h hc24
          exact wk_X6_next_b153_6 a0 Q σ0 K σ r1 _ _ _ h hw22 hk ht0 hr2 (lv_sub hl [1, 0] rfl)
        · have h := ite_f h hc24
          refine lv_iload_n (pc := 130) K.x K.b dX6_next_130 rfl (lv_at hl 0 rfl) ?_
          refine z_bipush (pc := 131) K dX6_next_131 (by decide) ?_
          refine z_icmp_eq (pc := 133) (tgt := 153) K hr2 ⟨by decide, by decide⟩ dX6_next_133 (by decide) (fun hc25 => ?_) (fun hc25 => ?_)
          · have h := ite_t h hc25
            exact wk_X6_next_b153_6 a0 Q σ0 K σ r1 _ _ _ h hw22 hk ht0 hr2 (lv_sub hl [1, 0] rfl)
          · have h := ite_f h hc25
            refine lv_iload_n (pc := 136) K.x K.b dX6_next_136 rfl (lv_at hl 0 rfl) ?_
            refine z_bipush (pc := 137) K dX6_next_137 (by decide) ?_
            refine z_icmp_eq (pc := 139) (tgt := 153) K hr2 ⟨by decide, by decide⟩ dX6_next_139 (by decide) (fun hc26 => ?_) (fun hc26 => ?_)
            · have h := ite_t h hc26
              exact wk_X6_next_b153_6 a0 Q σ0 K σ r1 _ _ _ h hw22 hk ht0 hr2 (lv_sub hl [1, 0] rfl)
            · have h := ite_f h hc26
              refine lv_iload_n (pc := 142) K.x K.b dX6_next_142 rfl (lv_at hl 0 rfl) ?_
              refine z_bipush (pc := 143) K dX6_next_143 (by decide) ?_
              refine z_bipush (pc := 145) K dX6_next_145 (by decide) ?_
              refine zr_z (pc := 147) (maxL := 3) K hw22 (met_X1_isIn X l σ r1 60 62 hr2 ⟨by decide, by decide⟩ ⟨by decide, by decide⟩ _ h) (i_SN (n := 3) (As := [jI r1, jI 60, jI 62]) K (by decide) q681 q682 q90 (sg_of K q683) rfl rfl dX6_next_147) (locw K q683 q90) ⟨by decide, by decide⟩ hl.1 dX6_next_147 (Nat.le_of_ble_eq_true rfl) ⟨Nat.le_refl _, Nat.le_refl _⟩ (fun r27 _ _ hr28 h hw31 => ?_)
              refine z_if_eq (pc := 150) (tgt := 157) K (b01r hr28) dX6_next_150 (by decide) (fun hc32 => ?_) (fun hc32 => ?_)
              · have h := ite_t h hc32
                refine z_iconst (pc := 157) K dX6_next_157 ?_
                exact wk_X6_next_b158_6 a0 Q σ0 K σ r1 4 _ _ _ h hw31 hk ht0 hr2 ⟨by decide, by decide⟩ (lv_sub hl [1, 0] rfl)
              · have h := ite_f h hc32
                exact wk_X6_next_b153_6 a0 Q σ0 K σ r1 _ _ _ h hw31 hk ht0 hr2 (lv_sub hl [1, 0] rfl)
      · have h := ite_f h hc23
        exact wk_X6_next_b111_6 a0 Q σ0 K σ r1 _ _ _ h hw22 hk ht0 hr2 (lv_sub hl [1, 0] rfl)
    · have h := ite_f h hc17
      exact wk_X6_next_b111_6 a0 Q σ0 K σ r1 _ _ _ h hw16 hk ht0 hr2 (lv_sub hl [1, 0] rfl)
set_option maxHeartbeats 4000000 in
theorem wk_X6_next_b18_6 {X : Cxt} {p : Program} {l : Launch} {e : Env} {s : State} {m : MethodId} {args : Array Value} {below : List Frame} {meth : Method} {c : Code} (a0 : Int) (Q : St → Prop) (σ0 : St) (K : MCx X p s m args meth c cX6_next 2 "CombTable$Reader" (none)) (L0 : St → Prop) (hL0 : ∀ (σ : St) (H : Heap) (locs : List Loc) (ls : Array Slot), L0 σ → Wc X σ s.heap H locs → Kp ws_X6_next σ0 σ → tg σ a0 = 6 → lv_has ls 2 [(0, jR X a0)] → W p l e (zrm 4 0 0) s m args below meth c H locs 0 0 (MQT below (ZQ X (qV (fun σ' => Kp ws_X6_next σ0 σ' ∧ Q σ')) (fun _ _ => False)) args s 0 0 (zA X)) (F0 m 0 ls [])) : ∀ (σ : St) (H : Heap) (locs : List Loc) (ls : Array Slot), wp_X6_next_b18 a0 Q σ0 L0 σ → Wc X σ s.heap H locs → Kp ws_X6_next σ0 σ → tg σ a0 = 6 → lv_has ls 2 [(0, jR X a0)] → W p l e (zrm 4 0 0) s m args below meth c H locs 0 0 (MQT below (ZQ X (qV (fun σ' => Kp ws_X6_next σ0 σ' ∧ Q σ')) (fun _ _ => False)) args s 0 0 (zA X)) (F0 m 18 ls []) := by
  intro σ H locs ls h hw hk ht0 hl
  refine z_aload_n (pc := 18) K dX6_next_18 rfl (lv_at hl 0 rfl) ?_
  refine lv_dup (pc := 19) K.x K.b dX6_next_19 (jR_cat _ _) ?_
  refine z_get (pc := 20) (t := 6) (k := 1) K hw (ob (t := 6) ht0) zq6 (by decide) q382 (fun _ h => h) dX6_next_20 (zval_i kf_6_1) ?_
  refine z_iconst (pc := 23) K dX6_next_23 ?_
  refine z_iadd (pc := 24) K dX6_next_24 ?_
  obtain ⟨hr1, h⟩ := h
  refine z_puti (pc := 25) (t := 6) 1 K hw (ob ht0) zq6 (by decide) kf_6_1 zt_6_1 hr1 q382 (fun _ h => h) rfl dX6_next_25 (fun _ _ hw2 => ?_)
  obtain ⟨σ3, e4⟩ : ∃ z, z = st σ a0 1 0 ((σ a0 1 0) + 1) := ⟨_, rfl⟩
  have h := h σ3 e4
  have hw2 := wc_e e4 hw2
  have hk5 := kp_e e4 hk wo_X6_next (by decide) ht0 (t := 6) (by decide)
  have hg6 : tg σ3 a0 = 6 := (tg_e e4 (by decide)).trans ht0
  refine z_goto (pc := 28) (tgt := 0) K dX6_next_28 (by decide) ?_
  exact hL0 σ3 _ _ _ h hw2 hk5 hg6 (lv_sub hl [0] rfl)
set_option maxHeartbeats 4000000 in
theorem wk_X6_next_0_6 {X : Cxt} {p : Program} {l : Launch} {e : Env} {s : State} {m : MethodId} {args : Array Value} {below : List Frame} {meth : Method} {c : Code} (a0 : Int) (Q : St → Prop) (σ0 : St) (K : MCx X p s m args meth c cX6_next 2 "CombTable$Reader" (none)) : ∀ (n : Nat), ∀ (σ : St) (H : Heap) (locs : List Loc) (ls : Array Slot), lp_X6_next_0 a0 Q σ0 n σ → Wc X σ s.heap H locs → Kp ws_X6_next σ0 σ → tg σ a0 = 6 → lv_has ls 2 [(0, jR X a0)] → W p l e (zrm 4 0 0) s m args below meth c H locs 0 0 (MQT below (ZQ X (qV (fun σ' => Kp ws_X6_next σ0 σ' ∧ Q σ')) (fun _ _ => False)) args s 0 0 (zA X)) (F0 m 0 ls []) := by
  intro n
  induction n with
  | zero => intro σ H locs ls h; exact h.elim
  | succ n ih =>
    intro σ H locs ls h hw hk ht0 hl
    have h := h hk
    refine z_aload_n (pc := 0) K dX6_next_0 rfl (lv_at hl 0 rfl) ?_
    refine zr_i (pc := 1) (maxL := 1) K hw (met_X6_peek_6 X l σ a0 ht0 _ h) (i_VP (n := 0) (t := 6) (As := []) K hw (ob ht0) zq6 (by decide) q673 q675 q674 q2025 (sg_of K q676) rfl rfl dX6_next_1) (locw K q676 q97) ⟨by decide, by decide⟩ hl.1 dX6_next_1 (Nat.le_of_ble_eq_true rfl) ⟨Nat.le_refl _, Nat.le_refl _⟩ (fun r1 _ _ hr2 h hw5 => ?_)
    refine z_bipush (pc := 4) K dX6_next_4 (by decide) ?_
    refine z_icmp_eq (pc := 6) (tgt := 18) K hr2 ⟨by decide, by decide⟩ dX6_next_6 (by decide) (fun hc6 => ?_) (fun hc6 => ?_)
    · have h := ite_t h hc6
      exact wk_X6_next_b18_6 a0 Q σ0 K (lp_X6_next_0 a0 Q σ0 n) ih σ _ _ _ h hw5 hk ht0 (lv_sub hl [0] rfl)
    · have h := ite_f h hc6
      refine z_aload_n (pc := 9) K dX6_next_9 rfl (lv_at hl 0 rfl) ?_
      refine zr_i (pc := 10) (maxL := 1) K hw5 (met_X6_peek_6 X l σ a0 ht0 _ h) (i_VP (n := 0) (t := 6) (As := []) K hw5 (ob ht0) zq6 (by decide) q673 q675 q674 q2025 (sg_of K q676) rfl rfl dX6_next_10) (locw K q676 q97) ⟨by decide, by decide⟩ hl.1 dX6_next_10 (Nat.le_of_ble_eq_true rfl) ⟨Nat.le_refl _, Nat.le_refl _⟩ (fun r7 _ _ hr8 h hw11 => ?_)
      refine z_bipush (pc := 13) K dX6_next_13 (by decide) ?_
      refine z_icmp_ne (pc := 15) (tgt := 31) K hr8 ⟨by decide, by decide⟩ dX6_next_15 (by decide) (fun hc12 => ?_) (fun hc12 => ?_)
      · have h := ite_t h hc12
        exact wk_X6_next_b18_6 a0 Q σ0 K (lp_X6_next_0 a0 Q σ0 n) ih σ _ _ _ h hw11 hk ht0 (lv_sub hl [0] rfl)
      · have h := ite_f h hc12
        refine z_aload_n (pc := 31) K dX6_next_31 rfl (lv_at hl 0 rfl) ?_
        refine z_aload_n (pc := 32) K dX6_next_32 rfl (lv_at hl 0 rfl) ?_
        refine z_get (pc := 33) (t := 6) (k := 1) K hw11 (ob (t := 6) ht0) zq6 (by decide) q382 (fun _ h => h) dX6_next_33 (zval_i kf_6_1) ?_
        refine z_puti (pc := 36) (t := 6) 2 K hw11 (ob ht0) zq6 (by decide) kf_6_2 zt_6_2 (z_rI hw11 (ob (t := 6) ht0) kf_6_1) q385 (fun _ h => h) rfl dX6_next_36 (fun _ _ hw13 => ?_)
        obtain ⟨σ14, e15⟩ : ∃ z, z = st σ a0 2 0 (σ a0 1 0) := ⟨_, rfl⟩
        have h := h σ14 e15
        have hw13 := wc_e e15 hw13
        have hk16 := kp_e e15 hk wo_X6_next (by decide) ht0 (t := 6) (by decide)
        have hg17 : tg σ14 a0 = 6 := (tg_e e15 (by decide)).trans ht0
        refine z_aload_n (pc := 39) K dX6_next_39 rfl (lv_at hl 0 rfl) ?_
        refine z_get (pc := 40) (t := 6) (k := 7) K hw13 (ob (t := 6) hg17) zq6 (by decide) q402 (fun _ h => h) dX6_next_40 (zval_r kf_6_7) ?_
        have hg18 : tg σ14 (σ14 a0 7 0) = 1 := (z_tg (t := 6) (r := 1) hw13 hg17 ⟨by decide, by decide⟩ kf_6_7 kn_6_7 kt_6_7 (by decide) (by decide))
        refine z_getN (pc := 43) (t := 1) (k := 2) K hw13 (ob (t := 1) hg18) zq1 (by decide) q512 (fun _ h => h) dX6_next_43 (zval_i kf_1_2) ?_
        refine z_aload_n (pc := 46) K dX6_next_46 rfl (lv_at hl 0 rfl) ?_
        refine z_get (pc := 47) (t := 6) (k := 0) K hw13 (ob (t := 6) hg17) zq6 (by decide) q381 (fun _ h => h) dX6_next_47 (zval_i kf_6_0) ?_
        refine z_icmp_le (pc := 50) (tgt := 78) K (z_rI hw13 (ob (t := 1) hg18) kf_1_2) (z_rI hw13 (ob (t := 6) hg17) kf_6_0) dX6_next_50 (by decide) (fun hc19 => ?_) (fun hc19 => ?_)
        · have h := ite_t h hc19
          refine z_aload_n (pc := 53) K dX6_next_53 rfl (lv_at hl 0 rfl) ?_
          refine z_get (pc := 54) (t := 6) (k := 1) K hw13 (ob (t := 6) hg17) zq6 (by decide) q382 (fun _ h => h) dX6_next_54 (zval_i kf_6_1) ?_
          refine z_aload_n (pc := 57) K dX6_next_57 rfl (lv_at hl 0 rfl) ?_
          refine z_get (pc := 58) (t := 6) (k := 0) K hw13 (ob (t := 6) hg17) zq6 (by decide) q381 (fun _ h => h) dX6_next_58 (zval_i kf_6_0) ?_
          refine z_icmp_lt (pc := 61) (tgt := 78) K (z_rI hw13 (ob (t := 6) hg17) kf_6_1) (z_rI hw13 (ob (t := 6) hg17) kf_6_0) dX6_next_61 (by decide) (fun hc20 => ?_) (fun hc20 => ?_)
          · have h := ite_t h hc20
            refine z_aload_n (pc := 64) K dX6_next_64 rfl (lv_at hl 0 rfl) ?_
            refine z_aload_n (pc := 65) K dX6_next_65 rfl (lv_at hl 0 rfl) ?_
            refine z_get (pc := 66) (t := 6) (k := 0) K hw13 (ob (t := 6) hg17) zq6 (by decide) q381 (fun _ h => h) dX6_next_66 (zval_i kf_6_0) ?_
            refine z_puti (pc := 69) (t := 6) 2 K hw13 (ob hg17) zq6 (by decide) kf_6_2 zt_6_2 (z_rI hw13 (ob (t := 6) hg17) kf_6_0) q385 (fun _ h => h) rfl dX6_next_69 (fun _ _ hw21 => ?_)
            obtain ⟨σ22, e23⟩ : ∃ z, z = st σ14 a0 2 0 (σ14 a0 0 0) := ⟨_, rfl⟩
            have h := h σ22 e23
            have hw21 := wc_e e23 hw21
            have hk24 := kp_e e23 hk16 wo_X6_next (by decide) hg17 (t := 6) (by decide)
            have hg25 : tg σ22 a0 = 6 := (tg_e e23 (by decide)).trans hg17
            refine z_aload_n (pc := 72) K dX6_next_72 rfl (lv_at hl 0 rfl) ?_
            refine z_iconst (pc := 73) K dX6_next_73 ?_
            refine z_puti (pc := 74) (t := 6) 3 K hw21 (ob hg25) zq6 (by decide) kf_6_3 zt_6_3 ⟨by decide, by decide⟩ q394 (fun _ h => h) rfl dX6_next_74 (fun _ _ hw26 => ?_)
            obtain ⟨σ27, e28⟩ : ∃ z, z = st σ22 a0 3 0 4 := ⟨_, rfl⟩
            have h := h σ27 e28
            have hw26 := wc_e e28 hw26
            have hk29 := kp_e e28 hk24 wo_X6_next (by decide) hg25 (t := 6) (by decide)
            have hg30 : tg σ27 a0 = 6 := (tg_e e28 (by decide)).trans hg25
            exact z_vret (pc := 77) K hw26 ⟨hk29, h⟩ dX6_next_77
          · have h := ite_f h hc20
            exact wk_X6_next_b78_6 a0 Q σ0 K σ14 _ _ _ h hw13 hk16 hg17 (lv_sub hl [0] rfl)
        · have h := ite_f h hc19
          exact wk_X6_next_b78_6 a0 Q σ0 K σ14 _ _ _ h hw13 hk16 hg17 (lv_sub hl [0] rfl)
set_option maxHeartbeats 4000000 in
theorem met_X6_next_6 (X : Cxt) (l : Launch) (σ : St) (a0 : Int) (ht0 : tg σ a0 = 6) (Q : St → Prop) (h : wp_X6_next σ a0 Q) : MetT l yX6_next (ws_ yX6_next cX6_next 2 (none)) (zrm 4 0 0) (ZP X σ [jR X a0]) (ZQ X (qV (fun σ' => Kp ws_X6_next σ σ' ∧ Q σ')) (fun _ _ => False)) 0 0 (zA X) := by
  refine z_start (own := "CombTable$Reader") (lv := [(0, jR X a0)]) (by decide) rfl (by simp [lv_args, jR_cat, jI_cat, jL_cat]) (by simp [lg_sl, jR_cat, jI_cat, jL_cat]) (fun p e s m below meth c ls K _ _ hw hl => ?_)
  have hk : Kp ws_X6_next σ σ := kp_rf σ
  obtain ⟨nf1, h⟩ := h
  exact wk_X6_next_0_6 a0 Q σ K nf1 σ _ _ _ h hw hk ht0 (lv_sub hl [0] rfl)
set_option maxHeartbeats 4000000 in
theorem wk_X6_next_b158_7 {X : Cxt} {p : Program} {l : Launch} {e : Env} {s : State} {m : MethodId} {args : Array Value} {below : List Frame} {meth : Method} {c : Code} (a0 : Int) (Q : St → Prop) (σ0 : St) (K : MCx X p s m args meth c cX6_next 2 "CombTable$Reader" (none)) : ∀ (σ : St) (v1 : Int) (s1 : Int) (H : Heap) (locs : List Loc) (ls : Array Slot), wp_X6_next_b158 a0 Q σ0 σ v1 s1 → Wc X σ s.heap H locs → Kp ws_X6_next σ0 σ → tg σ a0 = 7 → rng v1 → rng s1 → lv_has ls 2 [(0, jR X a0), (1, jI v1)] → W p l e (zrm 4 0 0) s m args below meth c H locs 0 0 (MQT below (ZQ X (qV (fun σ' => Kp ws_X6_next σ0 σ' ∧ Q σ')) (fun _ _ => False)) args s 0 0 (zA X)) (F0 m 158 ls [jI s1, jR X a0]) := by
  intro σ v1 s1 H locs ls h hw hk ht0 hv1 hs1 hl
  refine z_puti (pc := 158) (t := 7) 3 K hw (ob ht0) zq7 (by decide) kf_7_3 zt_7_3 hs1 q394 (fun _ h => h) rfl dX6_next_158 (fun _ _ hw1 => ?_)
  obtain ⟨σ2, e3⟩ : ∃ z, z = st σ a0 3 0 s1 := ⟨_, rfl⟩
  have h := h σ2 e3
  have hw1 := wc_e e3 hw1
  have hk4 := kp_e e3 hk wo_X6_next (by decide) ht0 (t := 7) (by decide)
  have hg5 : tg σ2 a0 = 7 := (tg_e e3 (by decide)).trans ht0
  refine z_aload_n (pc := 161) K dX6_next_161 rfl (lv_at hl 0 rfl) ?_
  refine lv_iload_n (pc := 162) K.x K.b dX6_next_162 rfl (lv_at hl 1 rfl) ?_
  refine z_puti (pc := 163) (t := 7) 4 K hw1 (ob hg5) zq7 (by decide) kf_7_4 zt_7_4 hv1 q397 (fun _ h => h) rfl dX6_next_163 (fun _ _ hw6 => ?_)
  obtain ⟨σ7, e8⟩ : ∃ z, z = st σ2 a0 4 0 v1 := ⟨_, rfl⟩
  have h := h σ7 e8
  have hw6 := wc_e e8 hw6
  have hk9 := kp_e e8 hk4 wo_X6_next (by decide) hg5 (t := 7) (by decide)
  have hg10 : tg σ7 a0 = 7 := (tg_e e8 (by decide)).trans hg5
  refine z_aload_n (pc := 166) K dX6_next_166 rfl (lv_at hl 0 rfl) ?_
  refine lv_dup (pc := 167) K.x K.b dX6_next_167 (jR_cat _ _) ?_
  refine z_get (pc := 168) (t := 7) (k := 1) K hw6 (ob (t := 7) hg10) zq7 (by decide) q382 (fun _ h => h) dX6_next_168 (zval_i kf_7_1) ?_
  refine z_iconst (pc := 171) K dX6_next_171 ?_
  refine z_iadd (pc := 172) K dX6_next_172 ?_
  obtain ⟨hr11, h⟩ := h
  refine z_puti (pc := 173) (t := 7) 1 K hw6 (ob hg10) zq7 (by decide) kf_7_1 zt_7_1 hr11 q382 (fun _ h => h) rfl dX6_next_173 (fun _ _ hw12 => ?_)
  obtain ⟨σ13, e14⟩ : ∃ z, z = st σ7 a0 1 0 ((σ7 a0 1 0) + 1) := ⟨_, rfl⟩
  have h := h σ13 e14
  have hw12 := wc_e e14 hw12
  have hk15 := kp_e e14 hk9 wo_X6_next (by decide) hg10 (t := 7) (by decide)
  have hg16 : tg σ13 a0 = 7 := (tg_e e14 (by decide)).trans hg10
  exact z_vret (pc := 176) K hw12 ⟨hk15, h⟩ dX6_next_176
set_option maxHeartbeats 4000000 in
theorem wk_X6_next_b153_7 {X : Cxt} {p : Program} {l : Launch} {e : Env} {s : State} {m : MethodId} {args : Array Value} {below : List Frame} {meth : Method} {c : Code} (a0 : Int) (Q : St → Prop) (σ0 : St) (K : MCx X p s m args meth c cX6_next 2 "CombTable$Reader" (none)) : ∀ (σ : St) (v1 : Int) (H : Heap) (locs : List Loc) (ls : Array Slot), wp_X6_next_b153 a0 Q σ0 σ v1 → Wc X σ s.heap H locs → Kp ws_X6_next σ0 σ → tg σ a0 = 7 → rng v1 → lv_has ls 2 [(0, jR X a0), (1, jI v1)] → W p l e (zrm 4 0 0) s m args below meth c H locs 0 0 (MQT below (ZQ X (qV (fun σ' => Kp ws_X6_next σ0 σ' ∧ Q σ')) (fun _ _ => False)) args s 0 0 (zA X)) (F0 m 153 ls [jR X a0]) := by
  intro σ v1 H locs ls h hw hk ht0 hv1 hl
  refine z_iconst (pc := 153) K dX6_next_153 ?_
  refine z_goto (pc := 154) (tgt := 158) K dX6_next_154 (by decide) ?_
  exact wk_X6_next_b158_7 a0 Q σ0 K σ v1 3 _ _ _ h hw hk ht0 hv1 ⟨by decide, by decide⟩ (lv_sub hl [0, 1] rfl)
set_option maxHeartbeats 4000000 in
theorem wk_X6_next_b111_7 {X : Cxt} {p : Program} {l : Launch} {e : Env} {s : State} {m : MethodId} {args : Array Value} {below : List Frame} {meth : Method} {c : Code} (a0 : Int) (Q : St → Prop) (σ0 : St) (K : MCx X p s m args meth c cX6_next 2 "CombTable$Reader" (none)) : ∀ (σ : St) (v1 : Int) (H : Heap) (locs : List Loc) (ls : Array Slot), wp_X6_next_b111 a0 Q σ0 σ v1 → Wc X σ s.heap H locs → Kp ws_X6_next σ0 σ → tg σ a0 = 7 → rng v1 → lv_has ls 2 [(0, jR X a0), (1, jI v1)] → W p l e (zrm 4 0 0) s m args below meth c H locs 0 0 (MQT below (ZQ X (qV (fun σ' => Kp ws_X6_next σ0 σ' ∧ Q σ')) (fun _ _ => False)) args s 0 0 (zA X)) (F0 m 111 ls []) := by
  intro σ v1 H locs ls h hw hk ht0 hv1 hl
  refine z_aload_n (pc := 111) K dX6_next_111 rfl (lv_at hl 0 rfl) ?_
  refine z_aload_n (pc := 112) K dX6_next_112 rfl (lv_at hl 0 rfl) ?_
  refine lv_iload_n (pc := 113) K.x K.b dX6_next_113 rfl (lv_at hl 1 rfl) ?_
  refine zr_z (pc := 114) (maxL := 2) K hw (met_X6_isLetter_7 X l σ a0 v1 ht0 hv1 _ h) (i_VP (n := 1) (t := 7) (As := [jI v1]) K hw (ob ht0) zq7 (by decide) q677 q679 q678 q2026 (sg_of K q680) rfl rfl dX6_next_114) (locw K q680 q97) ⟨by decide, by decide⟩ hl.1 dX6_next_114 (Nat.le_of_ble_eq_true rfl) ⟨Nat.le_refl _, Nat.le_refl _⟩ (fun r1 _ _ hr2 h hw5 => ?_)
  refine zc_v (pc := 117) (maxL := 3) K hw5 (met_X6_run_7 X l σ a0 r1 ht0 hr2 _ h) (i_VP (n := 1) (t := 7) (As := [jI r1]) K hw5 (ob ht0) zq7 (by decide) q688 q690 q689 q2028 (sg_of K q691) rfl rfl dX6_next_117) (locw K q691 q97) ⟨by decide, by decide⟩ hl.1 dX6_next_117 (Nat.le_of_ble_eq_true rfl) ⟨Nat.le_refl _, Nat.le_refl _⟩ (fun σ9 _ _ hq8 hw10 => ?_)
  obtain ⟨hk11, h⟩ := hq8
  have h := h hk11
  have hk12 := kp_trans wo_X6_next hk hk11 (fun _ q => q) (by decide)
  have hg13 : tg σ9 a0 = 7 := kp_tg hk11 wo_X6_run ht0 (by decide)
  refine z_goto (pc := 120) (tgt := 176) K dX6_next_120 (by decide) ?_
  exact z_vret (pc := 176) K hw10 ⟨hk12, h⟩ dX6_next_176
set_option maxHeartbeats 4000000 in
theorem wk_X6_next_b78_7 {X : Cxt} {p : Program} {l : Launch} {e : Env} {s : State} {m : MethodId} {args : Array Value} {below : List Frame} {meth : Method} {c : Code} (a0 : Int) (Q : St → Prop) (σ0 : St) (K : MCx X p s m args meth c cX6_next 2 "CombTable$Reader" (none)) : ∀ (σ : St) (H : Heap) (locs : List Loc) (ls : Array Slot), wp_X6_next_b78 a0 Q σ0 σ → Wc X σ s.heap H locs → Kp ws_X6_next σ0 σ → tg σ a0 = 7 → lv_has ls 2 [(0, jR X a0)] → W p l e (zrm 4 0 0) s m args below meth c H locs 0 0 (MQT below (ZQ X (qV (fun σ' => Kp ws_X6_next σ0 σ' ∧ Q σ')) (fun _ _ => False)) args s 0 0 (zA X)) (F0 m 78 ls []) := by
  intro σ H locs ls h hw hk ht0 hl
  refine z_aload_n (pc := 78) K dX6_next_78 rfl (lv_at hl 0 rfl) ?_
  refine zr_i (pc := 79) (maxL := 1) K hw (met_X6_peek_7 X l σ a0 ht0 _ h) (i_VP (n := 0) (t := 7) (As := []) K hw (ob ht0) zq7 (by decide) q673 q675 q674 q2025 (sg_of K q676) rfl rfl dX6_next_79) (locw K q676 q97) ⟨by decide, by decide⟩ hl.1 dX6_next_79 (Nat.le_of_ble_eq_true rfl) ⟨Nat.le_refl _, Nat.le_refl _⟩ (fun r1 _ _ hr2 h hw5 => ?_)
  refine lv_istore_n (pc := 82) (lv' := [(1, jI r1), (0, jR X a0)]) K.x K.b dX6_next_82 rfl hl (by decide) (by simp [jR_cat]) (fun ls hl => ?_)
  refine lv_iload_n (pc := 83) K.x K.b dX6_next_83 rfl (lv_at hl 0 rfl) ?_
  refine z_if_ge (pc := 84) (tgt := 95) K hr2 dX6_next_84 (by decide) (fun hc6 => ?_) (fun hc6 => ?_)
  · have h := ite_t h hc6
    refine z_aload_n (pc := 87) K dX6_next_87 rfl (lv_at hl 1 rfl) ?_
    refine z_iconst (pc := 88) K dX6_next_88 ?_
    refine z_puti (pc := 89) (t := 7) 3 K hw5 (ob ht0) zq7 (by decide) kf_7_3 zt_7_3 ⟨by decide, by decide⟩ q394 (fun _ h => h) rfl dX6_next_89 (fun _ _ hw7 => ?_)
    obtain ⟨σ8, e9⟩ : ∃ z, z = st σ a0 3 0 0 := ⟨_, rfl⟩
    have h := h σ8 e9
    have hw7 := wc_e e9 hw7
    have hk10 := kp_e e9 hk wo_X6_next (by decide) ht0 (t := 7) (by decide)
    have hg11 : tg σ8 a0 = 7 := (tg_e e9 (by decide)).trans ht0
    refine z_goto (pc := 92) (tgt := 176) K dX6_next_92 (by decide) ?_
    exact z_vret (pc := 176) K hw7 ⟨hk10, h⟩ dX6_next_176
  · have h := ite_f h hc6
    refine z_aload_n (pc := 95) K dX6_next_95 rfl (lv_at hl 1 rfl) ?_
    refine lv_iload_n (pc := 96) K.x K.b dX6_next_96 rfl (lv_at hl 0 rfl) ?_
    refine zr_z (pc := 97) (maxL := 2) K hw5 (met_X6_isLetter_7 X l σ a0 r1 ht0 hr2 _ h) (i_VP (n := 1) (t := 7) (As := [jI r1]) K hw5 (ob ht0) zq7 (by decide) q677 q679 q678 q2026 (sg_of K q680) rfl rfl dX6_next_97) (locw K q680 q97) ⟨by decide, by decide⟩ hl.1 dX6_next_97 (Nat.le_of_ble_eq_true rfl) ⟨Nat.le_refl _, Nat.le_refl _⟩ (fun r12 _ _ hr13 h hw16 => ?_)
    refine z_if_ne (pc := 100) (tgt := 111) K (b01r hr13) dX6_next_100 (by decide) (fun hc17 => ?_) (fun hc17 => ?_)
    · have h := ite_t h hc17
      refine z_aload_n (pc := 103) K dX6_next_103 rfl (lv_at hl 1 rfl) ?_
      refine lv_iload_n (pc := 104) K.x K.b dX6_next_104 rfl (lv_at hl 0 rfl) ?_
      refine zr_z (pc := 105) (maxL := 2) K hw16 (met_X6_isDigit_7 X l σ a0 r1 ht0 hr2 _ h) (i_VP (n := 1) (t := 7) (As := [jI r1]) K hw16 (ob ht0) zq7 (by decide) q684 q686 q685 q2027 (sg_of K q687) rfl rfl dX6_next_105) (locw K q687 q97) ⟨by decide, by decide⟩ hl.1 dX6_next_105 (Nat.le_of_ble_eq_true rfl) ⟨Nat.le_refl _, Nat.le_refl _⟩ (fun r18 _ _ hr19 h hw22 => ?_)
      refine z_if_eq (pc := 108) (tgt := 123) K (b01r hr19) dX6_next_108 (by decide) (fun hc23 => ?_) (fun hc23 => ?_)
      · have h := ite_t h hc23
        refine z_aload_n (pc := 123) K dX6_next_123 rfl (lv_at hl 1 rfl) ?_
        refine lv_iload_n (pc := 124) K.x K.b dX6_next_124 rfl (lv_at hl 0 rfl) ?_
        refine z_bipush (pc := 125) K dX6_next_125 (by decide) ?_
        refine z_icmp_eq (pc := 127) (tgt := 153) K hr2 ⟨by decide, by decide⟩ dX6_next_127 (by decide) (fun hc24 => ?_) (fun hc24 => ?_)
        · have h := ite_t h hc24
          exact wk_X6_next_b153_7 a0 Q σ0 K σ r1 _ _ _ h hw22 hk ht0 hr2 (lv_sub hl [1, 0] rfl)
        · have h := ite_f h hc24
          refine lv_iload_n (pc := 130) K.x K.b dX6_next_130 rfl (lv_at hl 0 rfl) ?_
          refine z_bipush (pc := 131) K dX6_next_131 (by decide) ?_
          refine z_icmp_eq (pc := 133) (tgt := 153) K hr2 ⟨by decide, by decide⟩ dX6_next_133 (by decide) (fun hc25 => ?_) (fun hc25 => ?_)
          · have h := ite_t h hc25
            exact wk_X6_next_b153_7 a0 Q σ0 K σ r1 _ _ _ h hw22 hk ht0 hr2 (lv_sub hl [1, 0] rfl)
          · have h := ite_f h hc25
            refine lv_iload_n (pc := 136) K.x K.b dX6_next_136 rfl (lv_at hl 0 rfl) ?_
            refine z_bipush (pc := 137) K dX6_next_137 (by decide) ?_
            refine z_icmp_eq (pc := 139) (tgt := 153) K hr2 ⟨by decide, by decide⟩ dX6_next_139 (by decide) (fun hc26 => ?_) (fun hc26 => ?_)
            · have h := ite_t h hc26
              exact wk_X6_next_b153_7 a0 Q σ0 K σ r1 _ _ _ h hw22 hk ht0 hr2 (lv_sub hl [1, 0] rfl)
            · have h := ite_f h hc26
              refine lv_iload_n (pc := 142) K.x K.b dX6_next_142 rfl (lv_at hl 0 rfl) ?_
              refine z_bipush (pc := 143) K dX6_next_143 (by decide) ?_
              refine z_bipush (pc := 145) K dX6_next_145 (by decide) ?_
              refine zr_z (pc := 147) (maxL := 3) K hw22 (met_X1_isIn X l σ r1 60 62 hr2 ⟨by decide, by decide⟩ ⟨by decide, by decide⟩ _ h) (i_SN (n := 3) (As := [jI r1, jI 60, jI 62]) K (by decide) q681 q682 q90 (sg_of K q683) rfl rfl dX6_next_147) (locw K q683 q90) ⟨by decide, by decide⟩ hl.1 dX6_next_147 (Nat.le_of_ble_eq_true rfl) ⟨Nat.le_refl _, Nat.le_refl _⟩ (fun r27 _ _ hr28 h hw31 => ?_)
              refine z_if_eq (pc := 150) (tgt := 157) K (b01r hr28) dX6_next_150 (by decide) (fun hc32 => ?_) (fun hc32 => ?_)
              · have h := ite_t h hc32
                refine z_iconst (pc := 157) K dX6_next_157 ?_
                exact wk_X6_next_b158_7 a0 Q σ0 K σ r1 4 _ _ _ h hw31 hk ht0 hr2 ⟨by decide, by decide⟩ (lv_sub hl [1, 0] rfl)
              · have h := ite_f h hc32
                exact wk_X6_next_b153_7 a0 Q σ0 K σ r1 _ _ _ h hw31 hk ht0 hr2 (lv_sub hl [1, 0] rfl)
      · have h := ite_f h hc23
        exact wk_X6_next_b111_7 a0 Q σ0 K σ r1 _ _ _ h hw22 hk ht0 hr2 (lv_sub hl [1, 0] rfl)
    · have h := ite_f h hc17
      exact wk_X6_next_b111_7 a0 Q σ0 K σ r1 _ _ _ h hw16 hk ht0 hr2 (lv_sub hl [1, 0] rfl)
set_option maxHeartbeats 4000000 in
theorem wk_X6_next_b18_7 {X : Cxt} {p : Program} {l : Launch} {e : Env} {s : State} {m : MethodId} {args : Array Value} {below : List Frame} {meth : Method} {c : Code} (a0 : Int) (Q : St → Prop) (σ0 : St) (K : MCx X p s m args meth c cX6_next 2 "CombTable$Reader" (none)) (L0 : St → Prop) (hL0 : ∀ (σ : St) (H : Heap) (locs : List Loc) (ls : Array Slot), L0 σ → Wc X σ s.heap H locs → Kp ws_X6_next σ0 σ → tg σ a0 = 7 → lv_has ls 2 [(0, jR X a0)] → W p l e (zrm 4 0 0) s m args below meth c H locs 0 0 (MQT below (ZQ X (qV (fun σ' => Kp ws_X6_next σ0 σ' ∧ Q σ')) (fun _ _ => False)) args s 0 0 (zA X)) (F0 m 0 ls [])) : ∀ (σ : St) (H : Heap) (locs : List Loc) (ls : Array Slot), wp_X6_next_b18 a0 Q σ0 L0 σ → Wc X σ s.heap H locs → Kp ws_X6_next σ0 σ → tg σ a0 = 7 → lv_has ls 2 [(0, jR X a0)] → W p l e (zrm 4 0 0) s m args below meth c H locs 0 0 (MQT below (ZQ X (qV (fun σ' => Kp ws_X6_next σ0 σ' ∧ Q σ')) (fun _ _ => False)) args s 0 0 (zA X)) (F0 m 18 ls []) := by
  intro σ H locs ls h hw hk ht0 hl
  refine z_aload_n (pc := 18) K dX6_next_18 rfl (lv_at hl 0 rfl) ?_
  refine lv_dup (pc := 19) K.x K.b dX6_next_19 (jR_cat _ _) ?_
  refine z_get (pc := 20) (t := 7) (k := 1) K hw (ob (t := 7) ht0) zq7 (by decide) q382 (fun _ h => h) dX6_next_20 (zval_i kf_7_1) ?_
  refine z_iconst (pc := 23) K dX6_next_23 ?_
  refine z_iadd (pc := 24) K dX6_next_24 ?_
  obtain ⟨hr1, h⟩ := h
  refine z_puti (pc := 25) (t := 7) 1 K hw (ob ht0) zq7 (by decide) kf_7_1 zt_7_1 hr1 q382 (fun _ h => h) rfl dX6_next_25 (fun _ _ hw2 => ?_)
  obtain ⟨σ3, e4⟩ : ∃ z, z = st σ a0 1 0 ((σ a0 1 0) + 1) := ⟨_, rfl⟩
  have h := h σ3 e4
  have hw2 := wc_e e4 hw2
  have hk5 := kp_e e4 hk wo_X6_next (by decide) ht0 (t := 7) (by decide)
  have hg6 : tg σ3 a0 = 7 := (tg_e e4 (by decide)).trans ht0
  refine z_goto (pc := 28) (tgt := 0) K dX6_next_28 (by decide) ?_
  exact hL0 σ3 _ _ _ h hw2 hk5 hg6 (lv_sub hl [0] rfl)
set_option maxHeartbeats 4000000 in
theorem wk_X6_next_0_7 {X : Cxt} {p : Program} {l : Launch} {e : Env} {s : State} {m : MethodId} {args : Array Value} {below : List Frame} {meth : Method} {c : Code} (a0 : Int) (Q : St → Prop) (σ0 : St) (K : MCx X p s m args meth c cX6_next 2 "CombTable$Reader" (none)) : ∀ (n : Nat), ∀ (σ : St) (H : Heap) (locs : List Loc) (ls : Array Slot), lp_X6_next_0 a0 Q σ0 n σ → Wc X σ s.heap H locs → Kp ws_X6_next σ0 σ → tg σ a0 = 7 → lv_has ls 2 [(0, jR X a0)] → W p l e (zrm 4 0 0) s m args below meth c H locs 0 0 (MQT below (ZQ X (qV (fun σ' => Kp ws_X6_next σ0 σ' ∧ Q σ')) (fun _ _ => False)) args s 0 0 (zA X)) (F0 m 0 ls []) := by
  intro n
  induction n with
  | zero => intro σ H locs ls h; exact h.elim
  | succ n ih =>
    intro σ H locs ls h hw hk ht0 hl
    have h := h hk
    refine z_aload_n (pc := 0) K dX6_next_0 rfl (lv_at hl 0 rfl) ?_
    refine zr_i (pc := 1) (maxL := 1) K hw (met_X6_peek_7 X l σ a0 ht0 _ h) (i_VP (n := 0) (t := 7) (As := []) K hw (ob ht0) zq7 (by decide) q673 q675 q674 q2025 (sg_of K q676) rfl rfl dX6_next_1) (locw K q676 q97) ⟨by decide, by decide⟩ hl.1 dX6_next_1 (Nat.le_of_ble_eq_true rfl) ⟨Nat.le_refl _, Nat.le_refl _⟩ (fun r1 _ _ hr2 h hw5 => ?_)
    refine z_bipush (pc := 4) K dX6_next_4 (by decide) ?_
    refine z_icmp_eq (pc := 6) (tgt := 18) K hr2 ⟨by decide, by decide⟩ dX6_next_6 (by decide) (fun hc6 => ?_) (fun hc6 => ?_)
    · have h := ite_t h hc6
      exact wk_X6_next_b18_7 a0 Q σ0 K (lp_X6_next_0 a0 Q σ0 n) ih σ _ _ _ h hw5 hk ht0 (lv_sub hl [0] rfl)
    · have h := ite_f h hc6
      refine z_aload_n (pc := 9) K dX6_next_9 rfl (lv_at hl 0 rfl) ?_
      refine zr_i (pc := 10) (maxL := 1) K hw5 (met_X6_peek_7 X l σ a0 ht0 _ h) (i_VP (n := 0) (t := 7) (As := []) K hw5 (ob ht0) zq7 (by decide) q673 q675 q674 q2025 (sg_of K q676) rfl rfl dX6_next_10) (locw K q676 q97) ⟨by decide, by decide⟩ hl.1 dX6_next_10 (Nat.le_of_ble_eq_true rfl) ⟨Nat.le_refl _, Nat.le_refl _⟩ (fun r7 _ _ hr8 h hw11 => ?_)
      refine z_bipush (pc := 13) K dX6_next_13 (by decide) ?_
      refine z_icmp_ne (pc := 15) (tgt := 31) K hr8 ⟨by decide, by decide⟩ dX6_next_15 (by decide) (fun hc12 => ?_) (fun hc12 => ?_)
      · have h := ite_t h hc12
        exact wk_X6_next_b18_7 a0 Q σ0 K (lp_X6_next_0 a0 Q σ0 n) ih σ _ _ _ h hw11 hk ht0 (lv_sub hl [0] rfl)
      · have h := ite_f h hc12
        refine z_aload_n (pc := 31) K dX6_next_31 rfl (lv_at hl 0 rfl) ?_
        refine z_aload_n (pc := 32) K dX6_next_32 rfl (lv_at hl 0 rfl) ?_
        refine z_get (pc := 33) (t := 7) (k := 1) K hw11 (ob (t := 7) ht0) zq7 (by decide) q382 (fun _ h => h) dX6_next_33 (zval_i kf_7_1) ?_
        refine z_puti (pc := 36) (t := 7) 2 K hw11 (ob ht0) zq7 (by decide) kf_7_2 zt_7_2 (z_rI hw11 (ob (t := 7) ht0) kf_7_1) q385 (fun _ h => h) rfl dX6_next_36 (fun _ _ hw13 => ?_)
        obtain ⟨σ14, e15⟩ : ∃ z, z = st σ a0 2 0 (σ a0 1 0) := ⟨_, rfl⟩
        have h := h σ14 e15
        have hw13 := wc_e e15 hw13
        have hk16 := kp_e e15 hk wo_X6_next (by decide) ht0 (t := 7) (by decide)
        have hg17 : tg σ14 a0 = 7 := (tg_e e15 (by decide)).trans ht0
        refine z_aload_n (pc := 39) K dX6_next_39 rfl (lv_at hl 0 rfl) ?_
        refine z_get (pc := 40) (t := 7) (k := 7) K hw13 (ob (t := 7) hg17) zq7 (by decide) q402 (fun _ h => h) dX6_next_40 (zval_r kf_7_7) ?_
        have hg18 : tg σ14 (σ14 a0 7 0) = 1 := (z_tg (t := 7) (r := 1) hw13 hg17 ⟨by decide, by decide⟩ kf_7_7 kn_7_7 kt_7_7 (by decide) (by decide))
        refine z_getN (pc := 43) (t := 1) (k := 2) K hw13 (ob (t := 1) hg18) zq1 (by decide) q512 (fun _ h => h) dX6_next_43 (zval_i kf_1_2) ?_
        refine z_aload_n (pc := 46) K dX6_next_46 rfl (lv_at hl 0 rfl) ?_
        refine z_get (pc := 47) (t := 7) (k := 0) K hw13 (ob (t := 7) hg17) zq7 (by decide) q381 (fun _ h => h) dX6_next_47 (zval_i kf_7_0) ?_
        refine z_icmp_le (pc := 50) (tgt := 78) K (z_rI hw13 (ob (t := 1) hg18) kf_1_2) (z_rI hw13 (ob (t := 7) hg17) kf_7_0) dX6_next_50 (by decide) (fun hc19 => ?_) (fun hc19 => ?_)
        · have h := ite_t h hc19
          refine z_aload_n (pc := 53) K dX6_next_53 rfl (lv_at hl 0 rfl) ?_
          refine z_get (pc := 54) (t := 7) (k := 1) K hw13 (ob (t := 7) hg17) zq7 (by decide) q382 (fun _ h => h) dX6_next_54 (zval_i kf_7_1) ?_
          refine z_aload_n (pc := 57) K dX6_next_57 rfl (lv_at hl 0 rfl) ?_
          refine z_get (pc := 58) (t := 7) (k := 0) K hw13 (ob (t := 7) hg17) zq7 (by decide) q381 (fun _ h => h) dX6_next_58 (zval_i kf_7_0) ?_
          refine z_icmp_lt (pc := 61) (tgt := 78) K (z_rI hw13 (ob (t := 7) hg17) kf_7_1) (z_rI hw13 (ob (t := 7) hg17) kf_7_0) dX6_next_61 (by decide) (fun hc20 => ?_) (fun hc20 => ?_)
          · have h := ite_t h hc20
            refine z_aload_n (pc := 64) K dX6_next_64 rfl (lv_at hl 0 rfl) ?_
            refine z_aload_n (pc := 65) K dX6_next_65 rfl (lv_at hl 0 rfl) ?_
            refine z_get (pc := 66) (t := 7) (k := 0) K hw13 (ob (t := 7) hg17) zq7 (by decide) q381 (fun _ h => h) dX6_next_66 (zval_i kf_7_0) ?_
            refine z_puti (pc := 69) (t := 7) 2 K hw13 (ob hg17) zq7 (by decide) kf_7_2 zt_7_2 (z_rI hw13 (ob (t := 7) hg17) kf_7_0) q385 (fun _ h => h) rfl dX6_next_69 (fun _ _ hw21 => ?_)
            obtain ⟨σ22, e23⟩ : ∃ z, z = st σ14 a0 2 0 (σ14 a0 0 0) := ⟨_, rfl⟩
            have h := h σ22 e23
            have hw21 := wc_e e23 hw21
            have hk24 := kp_e e23 hk16 wo_X6_next (by decide) hg17 (t := 7) (by decide)
            have hg25 : tg σ22 a0 = 7 := (tg_e e23 (by decide)).trans hg17
            refine z_aload_n (pc := 72) K dX6_next_72 rfl (lv_at hl 0 rfl) ?_
            refine z_iconst (pc := 73) K dX6_next_73 ?_
            refine z_puti (pc := 74) (t := 7) 3 K hw21 (ob hg25) zq7 (by decide) kf_7_3 zt_7_3 ⟨by decide, by decide⟩ q394 (fun _ h => h) rfl dX6_next_74 (fun _ _ hw26 => ?_)
            obtain ⟨σ27, e28⟩ : ∃ z, z = st σ22 a0 3 0 4 := ⟨_, rfl⟩
            have h := h σ27 e28
            have hw26 := wc_e e28 hw26
            have hk29 := kp_e e28 hk24 wo_X6_next (by decide) hg25 (t := 7) (by decide)
            have hg30 : tg σ27 a0 = 7 := (tg_e e28 (by decide)).trans hg25
            exact z_vret (pc := 77) K hw26 ⟨hk29, h⟩ dX6_next_77
          · have h := ite_f h hc20
            exact wk_X6_next_b78_7 a0 Q σ0 K σ14 _ _ _ h hw13 hk16 hg17 (lv_sub hl [0] rfl)
        · have h := ite_f h hc19
          exact wk_X6_next_b78_7 a0 Q σ0 K σ14 _ _ _ h hw13 hk16 hg17 (lv_sub hl [0] rfl)
set_option maxHeartbeats 4000000 in
theorem met_X6_next_7 (X : Cxt) (l : Launch) (σ : St) (a0 : Int) (ht0 : tg σ a0 = 7) (Q : St → Prop) (h : wp_X6_next σ a0 Q) : MetT l yX6_next (ws_ yX6_next cX6_next 2 (none)) (zrm 4 0 0) (ZP X σ [jR X a0]) (ZQ X (qV (fun σ' => Kp ws_X6_next σ σ' ∧ Q σ')) (fun _ _ => False)) 0 0 (zA X) := by
  refine z_start (own := "CombTable$Reader") (lv := [(0, jR X a0)]) (by decide) rfl (by simp [lv_args, jR_cat, jI_cat, jL_cat]) (by simp [lg_sl, jR_cat, jI_cat, jL_cat]) (fun p e s m below meth c ls K _ _ hw hl => ?_)
  have hk : Kp ws_X6_next σ σ := kp_rf σ
  obtain ⟨nf1, h⟩ := h
  exact wk_X6_next_0_7 a0 Q σ K nf1 σ _ _ _ h hw hk ht0 (lv_sub hl [0] rfl)
set_option maxHeartbeats 4000000 in
theorem wk_X6_next_b158_8 {X : Cxt} {p : Program} {l : Launch} {e : Env} {s : State} {m : MethodId} {args : Array Value} {below : List Frame} {meth : Method} {c : Code} (a0 : Int) (Q : St → Prop) (σ0 : St) (K : MCx X p s m args meth c cX6_next 2 "CombTable$Reader" (none)) : ∀ (σ : St) (v1 : Int) (s1 : Int) (H : Heap) (locs : List Loc) (ls : Array Slot), wp_X6_next_b158 a0 Q σ0 σ v1 s1 → Wc X σ s.heap H locs → Kp ws_X6_next σ0 σ → tg σ a0 = 8 → rng v1 → rng s1 → lv_has ls 2 [(0, jR X a0), (1, jI v1)] → W p l e (zrm 4 0 0) s m args below meth c H locs 0 0 (MQT below (ZQ X (qV (fun σ' => Kp ws_X6_next σ0 σ' ∧ Q σ')) (fun _ _ => False)) args s 0 0 (zA X)) (F0 m 158 ls [jI s1, jR X a0]) := by
  intro σ v1 s1 H locs ls h hw hk ht0 hv1 hs1 hl
  refine z_puti (pc := 158) (t := 8) 3 K hw (ob ht0) zq8 (by decide) kf_8_3 zt_8_3 hs1 q394 (fun _ h => h) rfl dX6_next_158 (fun _ _ hw1 => ?_)
  obtain ⟨σ2, e3⟩ : ∃ z, z = st σ a0 3 0 s1 := ⟨_, rfl⟩
  have h := h σ2 e3
  have hw1 := wc_e e3 hw1
  have hk4 := kp_e e3 hk wo_X6_next (by decide) ht0 (t := 8) (by decide)
  have hg5 : tg σ2 a0 = 8 := (tg_e e3 (by decide)).trans ht0
  refine z_aload_n (pc := 161) K dX6_next_161 rfl (lv_at hl 0 rfl) ?_
  refine lv_iload_n (pc := 162) K.x K.b dX6_next_162 rfl (lv_at hl 1 rfl) ?_
  refine z_puti (pc := 163) (t := 8) 4 K hw1 (ob hg5) zq8 (by decide) kf_8_4 zt_8_4 hv1 q397 (fun _ h => h) rfl dX6_next_163 (fun _ _ hw6 => ?_)
  obtain ⟨σ7, e8⟩ : ∃ z, z = st σ2 a0 4 0 v1 := ⟨_, rfl⟩
  have h := h σ7 e8
  have hw6 := wc_e e8 hw6
  have hk9 := kp_e e8 hk4 wo_X6_next (by decide) hg5 (t := 8) (by decide)
  have hg10 : tg σ7 a0 = 8 := (tg_e e8 (by decide)).trans hg5
  refine z_aload_n (pc := 166) K dX6_next_166 rfl (lv_at hl 0 rfl) ?_
  refine lv_dup (pc := 167) K.x K.b dX6_next_167 (jR_cat _ _) ?_
  refine z_get (pc := 168) (t := 8) (k := 1) K hw6 (ob (t := 8) hg10) zq8 (by decide) q382 (fun _ h => h) dX6_next_168 (zval_i kf_8_1) ?_
  refine z_iconst (pc := 171) K dX6_next_171 ?_
  refine z_iadd (pc := 172) K dX6_next_172 ?_
  obtain ⟨hr11, h⟩ := h
  refine z_puti (pc := 173) (t := 8) 1 K hw6 (ob hg10) zq8 (by decide) kf_8_1 zt_8_1 hr11 q382 (fun _ h => h) rfl dX6_next_173 (fun _ _ hw12 => ?_)
  obtain ⟨σ13, e14⟩ : ∃ z, z = st σ7 a0 1 0 ((σ7 a0 1 0) + 1) := ⟨_, rfl⟩
  have h := h σ13 e14
  have hw12 := wc_e e14 hw12
  have hk15 := kp_e e14 hk9 wo_X6_next (by decide) hg10 (t := 8) (by decide)
  have hg16 : tg σ13 a0 = 8 := (tg_e e14 (by decide)).trans hg10
  exact z_vret (pc := 176) K hw12 ⟨hk15, h⟩ dX6_next_176
set_option maxHeartbeats 4000000 in
theorem wk_X6_next_b153_8 {X : Cxt} {p : Program} {l : Launch} {e : Env} {s : State} {m : MethodId} {args : Array Value} {below : List Frame} {meth : Method} {c : Code} (a0 : Int) (Q : St → Prop) (σ0 : St) (K : MCx X p s m args meth c cX6_next 2 "CombTable$Reader" (none)) : ∀ (σ : St) (v1 : Int) (H : Heap) (locs : List Loc) (ls : Array Slot), wp_X6_next_b153 a0 Q σ0 σ v1 → Wc X σ s.heap H locs → Kp ws_X6_next σ0 σ → tg σ a0 = 8 → rng v1 → lv_has ls 2 [(0, jR X a0), (1, jI v1)] → W p l e (zrm 4 0 0) s m args below meth c H locs 0 0 (MQT below (ZQ X (qV (fun σ' => Kp ws_X6_next σ0 σ' ∧ Q σ')) (fun _ _ => False)) args s 0 0 (zA X)) (F0 m 153 ls [jR X a0]) := by
  intro σ v1 H locs ls h hw hk ht0 hv1 hl
  refine z_iconst (pc := 153) K dX6_next_153 ?_
  refine z_goto (pc := 154) (tgt := 158) K dX6_next_154 (by decide) ?_
  exact wk_X6_next_b158_8 a0 Q σ0 K σ v1 3 _ _ _ h hw hk ht0 hv1 ⟨by decide, by decide⟩ (lv_sub hl [0, 1] rfl)
set_option maxHeartbeats 4000000 in
theorem wk_X6_next_b111_8 {X : Cxt} {p : Program} {l : Launch} {e : Env} {s : State} {m : MethodId} {args : Array Value} {below : List Frame} {meth : Method} {c : Code} (a0 : Int) (Q : St → Prop) (σ0 : St) (K : MCx X p s m args meth c cX6_next 2 "CombTable$Reader" (none)) : ∀ (σ : St) (v1 : Int) (H : Heap) (locs : List Loc) (ls : Array Slot), wp_X6_next_b111 a0 Q σ0 σ v1 → Wc X σ s.heap H locs → Kp ws_X6_next σ0 σ → tg σ a0 = 8 → rng v1 → lv_has ls 2 [(0, jR X a0), (1, jI v1)] → W p l e (zrm 4 0 0) s m args below meth c H locs 0 0 (MQT below (ZQ X (qV (fun σ' => Kp ws_X6_next σ0 σ' ∧ Q σ')) (fun _ _ => False)) args s 0 0 (zA X)) (F0 m 111 ls []) := by
  intro σ v1 H locs ls h hw hk ht0 hv1 hl
  refine z_aload_n (pc := 111) K dX6_next_111 rfl (lv_at hl 0 rfl) ?_
  refine z_aload_n (pc := 112) K dX6_next_112 rfl (lv_at hl 0 rfl) ?_
  refine lv_iload_n (pc := 113) K.x K.b dX6_next_113 rfl (lv_at hl 1 rfl) ?_
  refine zr_z (pc := 114) (maxL := 2) K hw (met_X6_isLetter_8 X l σ a0 v1 ht0 hv1 _ h) (i_VP (n := 1) (t := 8) (As := [jI v1]) K hw (ob ht0) zq8 (by decide) q677 q679 q678 q2026 (sg_of K q680) rfl rfl dX6_next_114) (locw K q680 q97) ⟨by decide, by decide⟩ hl.1 dX6_next_114 (Nat.le_of_ble_eq_true rfl) ⟨Nat.le_refl _, Nat.le_refl _⟩ (fun r1 _ _ hr2 h hw5 => ?_)
  refine zc_v (pc := 117) (maxL := 3) K hw5 (met_X6_run_8 X l σ a0 r1 ht0 hr2 _ h) (i_VP (n := 1) (t := 8) (As := [jI r1]) K hw5 (ob ht0) zq8 (by decide) q688 q690 q689 q2028 (sg_of K q691) rfl rfl dX6_next_117) (locw K q691 q97) ⟨by decide, by decide⟩ hl.1 dX6_next_117 (Nat.le_of_ble_eq_true rfl) ⟨Nat.le_refl _, Nat.le_refl _⟩ (fun σ9 _ _ hq8 hw10 => ?_)
  obtain ⟨hk11, h⟩ := hq8
  have h := h hk11
  have hk12 := kp_trans wo_X6_next hk hk11 (fun _ q => q) (by decide)
  have hg13 : tg σ9 a0 = 8 := kp_tg hk11 wo_X6_run ht0 (by decide)
  refine z_goto (pc := 120) (tgt := 176) K dX6_next_120 (by decide) ?_
  exact z_vret (pc := 176) K hw10 ⟨hk12, h⟩ dX6_next_176
set_option maxHeartbeats 4000000 in
theorem wk_X6_next_b78_8 {X : Cxt} {p : Program} {l : Launch} {e : Env} {s : State} {m : MethodId} {args : Array Value} {below : List Frame} {meth : Method} {c : Code} (a0 : Int) (Q : St → Prop) (σ0 : St) (K : MCx X p s m args meth c cX6_next 2 "CombTable$Reader" (none)) : ∀ (σ : St) (H : Heap) (locs : List Loc) (ls : Array Slot), wp_X6_next_b78 a0 Q σ0 σ → Wc X σ s.heap H locs → Kp ws_X6_next σ0 σ → tg σ a0 = 8 → lv_has ls 2 [(0, jR X a0)] → W p l e (zrm 4 0 0) s m args below meth c H locs 0 0 (MQT below (ZQ X (qV (fun σ' => Kp ws_X6_next σ0 σ' ∧ Q σ')) (fun _ _ => False)) args s 0 0 (zA X)) (F0 m 78 ls []) := by
  intro σ H locs ls h hw hk ht0 hl
  refine z_aload_n (pc := 78) K dX6_next_78 rfl (lv_at hl 0 rfl) ?_
  refine zr_i (pc := 79) (maxL := 1) K hw (met_X6_peek_8 X l σ a0 ht0 _ h) (i_VP (n := 0) (t := 8) (As := []) K hw (ob ht0) zq8 (by decide) q673 q675 q674 q2025 (sg_of K q676) rfl rfl dX6_next_79) (locw K q676 q97) ⟨by decide, by decide⟩ hl.1 dX6_next_79 (Nat.le_of_ble_eq_true rfl) ⟨Nat.le_refl _, Nat.le_refl _⟩ (fun r1 _ _ hr2 h hw5 => ?_)
  refine lv_istore_n (pc := 82) (lv' := [(1, jI r1), (0, jR X a0)]) K.x K.b dX6_next_82 rfl hl (by decide) (by simp [jR_cat]) (fun ls hl => ?_)
  refine lv_iload_n (pc := 83) K.x K.b dX6_next_83 rfl (lv_at hl 0 rfl) ?_
  refine z_if_ge (pc := 84) (tgt := 95) K hr2 dX6_next_84 (by decide) (fun hc6 => ?_) (fun hc6 => ?_)
  · have h := ite_t h hc6
    refine z_aload_n (pc := 87) K dX6_next_87 rfl (lv_at hl 1 rfl) ?_
    refine z_iconst (pc := 88) K dX6_next_88 ?_
    refine z_puti (pc := 89) (t := 8) 3 K hw5 (ob ht0) zq8 (by decide) kf_8_3 zt_8_3 ⟨by decide, by decide⟩ q394 (fun _ h => h) rfl dX6_next_89 (fun _ _ hw7 => ?_)
    obtain ⟨σ8, e9⟩ : ∃ z, z = st σ a0 3 0 0 := ⟨_, rfl⟩
    have h := h σ8 e9
    have hw7 := wc_e e9 hw7
    have hk10 := kp_e e9 hk wo_X6_next (by decide) ht0 (t := 8) (by decide)
    have hg11 : tg σ8 a0 = 8 := (tg_e e9 (by decide)).trans ht0
    refine z_goto (pc := 92) (tgt := 176) K dX6_next_92 (by decide) ?_
    exact z_vret (pc := 176) K hw7 ⟨hk10, h⟩ dX6_next_176
  · have h := ite_f h hc6
    refine z_aload_n (pc := 95) K dX6_next_95 rfl (lv_at hl 1 rfl) ?_
    refine lv_iload_n (pc := 96) K.x K.b dX6_next_96 rfl (lv_at hl 0 rfl) ?_
    refine zr_z (pc := 97) (maxL := 2) K hw5 (met_X6_isLetter_8 X l σ a0 r1 ht0 hr2 _ h) (i_VP (n := 1) (t := 8) (As := [jI r1]) K hw5 (ob ht0) zq8 (by decide) q677 q679 q678 q2026 (sg_of K q680) rfl rfl dX6_next_97) (locw K q680 q97) ⟨by decide, by decide⟩ hl.1 dX6_next_97 (Nat.le_of_ble_eq_true rfl) ⟨Nat.le_refl _, Nat.le_refl _⟩ (fun r12 _ _ hr13 h hw16 => ?_)
    refine z_if_ne (pc := 100) (tgt := 111) K (b01r hr13) dX6_next_100 (by decide) (fun hc17 => ?_) (fun hc17 => ?_)
    · have h := ite_t h hc17
      refine z_aload_n (pc := 103) K dX6_next_103 rfl (lv_at hl 1 rfl) ?_
      refine lv_iload_n (pc := 104) K.x K.b dX6_next_104 rfl (lv_at hl 0 rfl) ?_
      refine zr_z (pc := 105) (maxL := 2) K hw16 (met_X6_isDigit_8 X l σ a0 r1 ht0 hr2 _ h) (i_VP (n := 1) (t := 8) (As := [jI r1]) K hw16 (ob ht0) zq8 (by decide) q684 q686 q685 q2027 (sg_of K q687) rfl rfl dX6_next_105) (locw K q687 q97) ⟨by decide, by decide⟩ hl.1 dX6_next_105 (Nat.le_of_ble_eq_true rfl) ⟨Nat.le_refl _, Nat.le_refl _⟩ (fun r18 _ _ hr19 h hw22 => ?_)
      refine z_if_eq (pc := 108) (tgt := 123) K (b01r hr19) dX6_next_108 (by decide) (fun hc23 => ?_) (fun hc23 => ?_)
      · have h := ite_t h hc23
        refine z_aload_n (pc := 123) K dX6_next_123 rfl (lv_at hl 1 rfl) ?_
        refine lv_iload_n (pc := 124) K.x K.b dX6_next_124 rfl (lv_at hl 0 rfl) ?_
        refine z_bipush (pc := 125) K dX6_next_125 (by decide) ?_
        refine z_icmp_eq (pc := 127) (tgt := 153) K hr2 ⟨by decide, by decide⟩ dX6_next_127 (by decide) (fun hc24 => ?_) (fun hc24 => ?_)
        · have h := ite_t h hc24
          exact wk_X6_next_b153_8 a0 Q σ0 K σ r1 _ _ _ h hw22 hk ht0 hr2 (lv_sub hl [1, 0] rfl)
        · have h := ite_f h hc24
          refine lv_iload_n (pc := 130) K.x K.b dX6_next_130 rfl (lv_at hl 0 rfl) ?_
          refine z_bipush (pc := 131) K dX6_next_131 (by decide) ?_
          refine z_icmp_eq (pc := 133) (tgt := 153) K hr2 ⟨by decide, by decide⟩ dX6_next_133 (by decide) (fun hc25 => ?_) (fun hc25 => ?_)
          · have h := ite_t h hc25
            exact wk_X6_next_b153_8 a0 Q σ0 K σ r1 _ _ _ h hw22 hk ht0 hr2 (lv_sub hl [1, 0] rfl)
          · have h := ite_f h hc25
            refine lv_iload_n (pc := 136) K.x K.b dX6_next_136 rfl (lv_at hl 0 rfl) ?_
            refine z_bipush (pc := 137) K dX6_next_137 (by decide) ?_
            refine z_icmp_eq (pc := 139) (tgt := 153) K hr2 ⟨by decide, by decide⟩ dX6_next_139 (by decide) (fun hc26 => ?_) (fun hc26 => ?_)
            · have h := ite_t h hc26
              exact wk_X6_next_b153_8 a0 Q σ0 K σ r1 _ _ _ h hw22 hk ht0 hr2 (lv_sub hl [1, 0] rfl)
            · have h := ite_f h hc26
              refine lv_iload_n (pc := 142) K.x K.b dX6_next_142 rfl (lv_at hl 0 rfl) ?_
              refine z_bipush (pc := 143) K dX6_next_143 (by decide) ?_
              refine z_bipush (pc := 145) K dX6_next_145 (by decide) ?_
              refine zr_z (pc := 147) (maxL := 3) K hw22 (met_X1_isIn X l σ r1 60 62 hr2 ⟨by decide, by decide⟩ ⟨by decide, by decide⟩ _ h) (i_SN (n := 3) (As := [jI r1, jI 60, jI 62]) K (by decide) q681 q682 q90 (sg_of K q683) rfl rfl dX6_next_147) (locw K q683 q90) ⟨by decide, by decide⟩ hl.1 dX6_next_147 (Nat.le_of_ble_eq_true rfl) ⟨Nat.le_refl _, Nat.le_refl _⟩ (fun r27 _ _ hr28 h hw31 => ?_)
              refine z_if_eq (pc := 150) (tgt := 157) K (b01r hr28) dX6_next_150 (by decide) (fun hc32 => ?_) (fun hc32 => ?_)
              · have h := ite_t h hc32
                refine z_iconst (pc := 157) K dX6_next_157 ?_
                exact wk_X6_next_b158_8 a0 Q σ0 K σ r1 4 _ _ _ h hw31 hk ht0 hr2 ⟨by decide, by decide⟩ (lv_sub hl [1, 0] rfl)
              · have h := ite_f h hc32
                exact wk_X6_next_b153_8 a0 Q σ0 K σ r1 _ _ _ h hw31 hk ht0 hr2 (lv_sub hl [1, 0] rfl)
      · have h := ite_f h hc23
        exact wk_X6_next_b111_8 a0 Q σ0 K σ r1 _ _ _ h hw22 hk ht0 hr2 (lv_sub hl [1, 0] rfl)
    · have h := ite_f h hc17
      exact wk_X6_next_b111_8 a0 Q σ0 K σ r1 _ _ _ h hw16 hk ht0 hr2 (lv_sub hl [1, 0] rfl)
set_option maxHeartbeats 4000000 in
theorem wk_X6_next_b18_8 {X : Cxt} {p : Program} {l : Launch} {e : Env} {s : State} {m : MethodId} {args : Array Value} {below : List Frame} {meth : Method} {c : Code} (a0 : Int) (Q : St → Prop) (σ0 : St) (K : MCx X p s m args meth c cX6_next 2 "CombTable$Reader" (none)) (L0 : St → Prop) (hL0 : ∀ (σ : St) (H : Heap) (locs : List Loc) (ls : Array Slot), L0 σ → Wc X σ s.heap H locs → Kp ws_X6_next σ0 σ → tg σ a0 = 8 → lv_has ls 2 [(0, jR X a0)] → W p l e (zrm 4 0 0) s m args below meth c H locs 0 0 (MQT below (ZQ X (qV (fun σ' => Kp ws_X6_next σ0 σ' ∧ Q σ')) (fun _ _ => False)) args s 0 0 (zA X)) (F0 m 0 ls [])) : ∀ (σ : St) (H : Heap) (locs : List Loc) (ls : Array Slot), wp_X6_next_b18 a0 Q σ0 L0 σ → Wc X σ s.heap H locs → Kp ws_X6_next σ0 σ → tg σ a0 = 8 → lv_has ls 2 [(0, jR X a0)] → W p l e (zrm 4 0 0) s m args below meth c H locs 0 0 (MQT below (ZQ X (qV (fun σ' => Kp ws_X6_next σ0 σ' ∧ Q σ')) (fun _ _ => False)) args s 0 0 (zA X)) (F0 m 18 ls []) := by
  intro σ H locs ls h hw hk ht0 hl
  refine z_aload_n (pc := 18) K dX6_next_18 rfl (lv_at hl 0 rfl) ?_
  refine lv_dup (pc := 19) K.x K.b dX6_next_19 (jR_cat _ _) ?_
  refine z_get (pc := 20) (t := 8) (k := 1) K hw (ob (t := 8) ht0) zq8 (by decide) q382 (fun _ h => h) dX6_next_20 (zval_i kf_8_1) ?_
  refine z_iconst (pc := 23) K dX6_next_23 ?_
  refine z_iadd (pc := 24) K dX6_next_24 ?_
  obtain ⟨hr1, h⟩ := h
  refine z_puti (pc := 25) (t := 8) 1 K hw (ob ht0) zq8 (by decide) kf_8_1 zt_8_1 hr1 q382 (fun _ h => h) rfl dX6_next_25 (fun _ _ hw2 => ?_)
  obtain ⟨σ3, e4⟩ : ∃ z, z = st σ a0 1 0 ((σ a0 1 0) + 1) := ⟨_, rfl⟩
  have h := h σ3 e4
  have hw2 := wc_e e4 hw2
  have hk5 := kp_e e4 hk wo_X6_next (by decide) ht0 (t := 8) (by decide)
  have hg6 : tg σ3 a0 = 8 := (tg_e e4 (by decide)).trans ht0
  refine z_goto (pc := 28) (tgt := 0) K dX6_next_28 (by decide) ?_
  exact hL0 σ3 _ _ _ h hw2 hk5 hg6 (lv_sub hl [0] rfl)
set_option maxHeartbeats 4000000 in
theorem wk_X6_next_0_8 {X : Cxt} {p : Program} {l : Launch} {e : Env} {s : State} {m : MethodId} {args : Array Value} {below : List Frame} {meth : Method} {c : Code} (a0 : Int) (Q : St → Prop) (σ0 : St) (K : MCx X p s m args meth c cX6_next 2 "CombTable$Reader" (none)) : ∀ (n : Nat), ∀ (σ : St) (H : Heap) (locs : List Loc) (ls : Array Slot), lp_X6_next_0 a0 Q σ0 n σ → Wc X σ s.heap H locs → Kp ws_X6_next σ0 σ → tg σ a0 = 8 → lv_has ls 2 [(0, jR X a0)] → W p l e (zrm 4 0 0) s m args below meth c H locs 0 0 (MQT below (ZQ X (qV (fun σ' => Kp ws_X6_next σ0 σ' ∧ Q σ')) (fun _ _ => False)) args s 0 0 (zA X)) (F0 m 0 ls []) := by
  intro n
  induction n with
  | zero => intro σ H locs ls h; exact h.elim
  | succ n ih =>
    intro σ H locs ls h hw hk ht0 hl
    have h := h hk
    refine z_aload_n (pc := 0) K dX6_next_0 rfl (lv_at hl 0 rfl) ?_
    refine zr_i (pc := 1) (maxL := 1) K hw (met_X6_peek_8 X l σ a0 ht0 _ h) (i_VP (n := 0) (t := 8) (As := []) K hw (ob ht0) zq8 (by decide) q673 q675 q674 q2025 (sg_of K q676) rfl rfl dX6_next_1) (locw K q676 q97) ⟨by decide, by decide⟩ hl.1 dX6_next_1 (Nat.le_of_ble_eq_true rfl) ⟨Nat.le_refl _, Nat.le_refl _⟩ (fun r1 _ _ hr2 h hw5 => ?_)
    refine z_bipush (pc := 4) K dX6_next_4 (by decide) ?_
    refine z_icmp_eq (pc := 6) (tgt := 18) K hr2 ⟨by decide, by decide⟩ dX6_next_6 (by decide) (fun hc6 => ?_) (fun hc6 => ?_)
    · have h := ite_t h hc6
      exact wk_X6_next_b18_8 a0 Q σ0 K (lp_X6_next_0 a0 Q σ0 n) ih σ _ _ _ h hw5 hk ht0 (lv_sub hl [0] rfl)
    · have h := ite_f h hc6
      refine z_aload_n (pc := 9) K dX6_next_9 rfl (lv_at hl 0 rfl) ?_
      refine zr_i (pc := 10) (maxL := 1) K hw5 (met_X6_peek_8 X l σ a0 ht0 _ h) (i_VP (n := 0) (t := 8) (As := []) K hw5 (ob ht0) zq8 (by decide) q673 q675 q674 q2025 (sg_of K q676) rfl rfl dX6_next_10) (locw K q676 q97) ⟨by decide, by decide⟩ hl.1 dX6_next_10 (Nat.le_of_ble_eq_true rfl) ⟨Nat.le_refl _, Nat.le_refl _⟩ (fun r7 _ _ hr8 h hw11 => ?_)
      refine z_bipush (pc := 13) K dX6_next_13 (by decide) ?_
      refine z_icmp_ne (pc := 15) (tgt := 31) K hr8 ⟨by decide, by decide⟩ dX6_next_15 (by decide) (fun hc12 => ?_) (fun hc12 => ?_)
      · have h := ite_t h hc12
        exact wk_X6_next_b18_8 a0 Q σ0 K (lp_X6_next_0 a0 Q σ0 n) ih σ _ _ _ h hw11 hk ht0 (lv_sub hl [0] rfl)
      · have h := ite_f h hc12
        refine z_aload_n (pc := 31) K dX6_next_31 rfl (lv_at hl 0 rfl) ?_
        refine z_aload_n (pc := 32) K dX6_next_32 rfl (lv_at hl 0 rfl) ?_
        refine z_get (pc := 33) (t := 8) (k := 1) K hw11 (ob (t := 8) ht0) zq8 (by decide) q382 (fun _ h => h) dX6_next_33 (zval_i kf_8_1) ?_
        refine z_puti (pc := 36) (t := 8) 2 K hw11 (ob ht0) zq8 (by decide) kf_8_2 zt_8_2 (z_rI hw11 (ob (t := 8) ht0) kf_8_1) q385 (fun _ h => h) rfl dX6_next_36 (fun _ _ hw13 => ?_)
        obtain ⟨σ14, e15⟩ : ∃ z, z = st σ a0 2 0 (σ a0 1 0) := ⟨_, rfl⟩
        have h := h σ14 e15
        have hw13 := wc_e e15 hw13
        have hk16 := kp_e e15 hk wo_X6_next (by decide) ht0 (t := 8) (by decide)
        have hg17 : tg σ14 a0 = 8 := (tg_e e15 (by decide)).trans ht0
        refine z_aload_n (pc := 39) K dX6_next_39 rfl (lv_at hl 0 rfl) ?_
        refine z_get (pc := 40) (t := 8) (k := 7) K hw13 (ob (t := 8) hg17) zq8 (by decide) q402 (fun _ h => h) dX6_next_40 (zval_r kf_8_7) ?_
        have hg18 : tg σ14 (σ14 a0 7 0) = 1 := (z_tg (t := 8) (r := 1) hw13 hg17 ⟨by decide, by decide⟩ kf_8_7 kn_8_7 kt_8_7 (by decide) (by decide))
        refine z_getN (pc := 43) (t := 1) (k := 2) K hw13 (ob (t := 1) hg18) zq1 (by decide) q512 (fun _ h => h) dX6_next_43 (zval_i kf_1_2) ?_
        refine z_aload_n (pc := 46) K dX6_next_46 rfl (lv_at hl 0 rfl) ?_
        refine z_get (pc := 47) (t := 8) (k := 0) K hw13 (ob (t := 8) hg17) zq8 (by decide) q381 (fun _ h => h) dX6_next_47 (zval_i kf_8_0) ?_
        refine z_icmp_le (pc := 50) (tgt := 78) K (z_rI hw13 (ob (t := 1) hg18) kf_1_2) (z_rI hw13 (ob (t := 8) hg17) kf_8_0) dX6_next_50 (by decide) (fun hc19 => ?_) (fun hc19 => ?_)
        · have h := ite_t h hc19
          refine z_aload_n (pc := 53) K dX6_next_53 rfl (lv_at hl 0 rfl) ?_
          refine z_get (pc := 54) (t := 8) (k := 1) K hw13 (ob (t := 8) hg17) zq8 (by decide) q382 (fun _ h => h) dX6_next_54 (zval_i kf_8_1) ?_
          refine z_aload_n (pc := 57) K dX6_next_57 rfl (lv_at hl 0 rfl) ?_
          refine z_get (pc := 58) (t := 8) (k := 0) K hw13 (ob (t := 8) hg17) zq8 (by decide) q381 (fun _ h => h) dX6_next_58 (zval_i kf_8_0) ?_
          refine z_icmp_lt (pc := 61) (tgt := 78) K (z_rI hw13 (ob (t := 8) hg17) kf_8_1) (z_rI hw13 (ob (t := 8) hg17) kf_8_0) dX6_next_61 (by decide) (fun hc20 => ?_) (fun hc20 => ?_)
          · have h := ite_t h hc20
            refine z_aload_n (pc := 64) K dX6_next_64 rfl (lv_at hl 0 rfl) ?_
            refine z_aload_n (pc := 65) K dX6_next_65 rfl (lv_at hl 0 rfl) ?_
            refine z_get (pc := 66) (t := 8) (k := 0) K hw13 (ob (t := 8) hg17) zq8 (by decide) q381 (fun _ h => h) dX6_next_66 (zval_i kf_8_0) ?_
            refine z_puti (pc := 69) (t := 8) 2 K hw13 (ob hg17) zq8 (by decide) kf_8_2 zt_8_2 (z_rI hw13 (ob (t := 8) hg17) kf_8_0) q385 (fun _ h => h) rfl dX6_next_69 (fun _ _ hw21 => ?_)
            obtain ⟨σ22, e23⟩ : ∃ z, z = st σ14 a0 2 0 (σ14 a0 0 0) := ⟨_, rfl⟩
            have h := h σ22 e23
            have hw21 := wc_e e23 hw21
            have hk24 := kp_e e23 hk16 wo_X6_next (by decide) hg17 (t := 8) (by decide)
            have hg25 : tg σ22 a0 = 8 := (tg_e e23 (by decide)).trans hg17
            refine z_aload_n (pc := 72) K dX6_next_72 rfl (lv_at hl 0 rfl) ?_
            refine z_iconst (pc := 73) K dX6_next_73 ?_
            refine z_puti (pc := 74) (t := 8) 3 K hw21 (ob hg25) zq8 (by decide) kf_8_3 zt_8_3 ⟨by decide, by decide⟩ q394 (fun _ h => h) rfl dX6_next_74 (fun _ _ hw26 => ?_)
            obtain ⟨σ27, e28⟩ : ∃ z, z = st σ22 a0 3 0 4 := ⟨_, rfl⟩
            have h := h σ27 e28
            have hw26 := wc_e e28 hw26
            have hk29 := kp_e e28 hk24 wo_X6_next (by decide) hg25 (t := 8) (by decide)
            have hg30 : tg σ27 a0 = 8 := (tg_e e28 (by decide)).trans hg25
            exact z_vret (pc := 77) K hw26 ⟨hk29, h⟩ dX6_next_77
          · have h := ite_f h hc20
            exact wk_X6_next_b78_8 a0 Q σ0 K σ14 _ _ _ h hw13 hk16 hg17 (lv_sub hl [0] rfl)
        · have h := ite_f h hc19
          exact wk_X6_next_b78_8 a0 Q σ0 K σ14 _ _ _ h hw13 hk16 hg17 (lv_sub hl [0] rfl)
set_option maxHeartbeats 4000000 in
theorem met_X6_next_8 (X : Cxt) (l : Launch) (σ : St) (a0 : Int) (ht0 : tg σ a0 = 8) (Q : St → Prop) (h : wp_X6_next σ a0 Q) : MetT l yX6_next (ws_ yX6_next cX6_next 2 (none)) (zrm 4 0 0) (ZP X σ [jR X a0]) (ZQ X (qV (fun σ' => Kp ws_X6_next σ σ' ∧ Q σ')) (fun _ _ => False)) 0 0 (zA X) := by
  refine z_start (own := "CombTable$Reader") (lv := [(0, jR X a0)]) (by decide) rfl (by simp [lv_args, jR_cat, jI_cat, jL_cat]) (by simp [lg_sl, jR_cat, jI_cat, jL_cat]) (fun p e s m below meth c ls K _ _ hw hl => ?_)
  have hk : Kp ws_X6_next σ σ := kp_rf σ
  obtain ⟨nf1, h⟩ := h
  exact wk_X6_next_0_8 a0 Q σ K nf1 σ _ _ _ h hw hk ht0 (lv_sub hl [0] rfl)
set_option maxHeartbeats 4000000 in
theorem wk_X6_next_b158_9 {X : Cxt} {p : Program} {l : Launch} {e : Env} {s : State} {m : MethodId} {args : Array Value} {below : List Frame} {meth : Method} {c : Code} (a0 : Int) (Q : St → Prop) (σ0 : St) (K : MCx X p s m args meth c cX6_next 2 "CombTable$Reader" (none)) : ∀ (σ : St) (v1 : Int) (s1 : Int) (H : Heap) (locs : List Loc) (ls : Array Slot), wp_X6_next_b158 a0 Q σ0 σ v1 s1 → Wc X σ s.heap H locs → Kp ws_X6_next σ0 σ → tg σ a0 = 9 → rng v1 → rng s1 → lv_has ls 2 [(0, jR X a0), (1, jI v1)] → W p l e (zrm 4 0 0) s m args below meth c H locs 0 0 (MQT below (ZQ X (qV (fun σ' => Kp ws_X6_next σ0 σ' ∧ Q σ')) (fun _ _ => False)) args s 0 0 (zA X)) (F0 m 158 ls [jI s1, jR X a0]) := by
  intro σ v1 s1 H locs ls h hw hk ht0 hv1 hs1 hl
  refine z_puti (pc := 158) (t := 9) 3 K hw (ob ht0) zq9 (by decide) kf_9_3 zt_9_3 hs1 q394 (fun _ h => h) rfl dX6_next_158 (fun _ _ hw1 => ?_)
  obtain ⟨σ2, e3⟩ : ∃ z, z = st σ a0 3 0 s1 := ⟨_, rfl⟩
  have h := h σ2 e3
  have hw1 := wc_e e3 hw1
  have hk4 := kp_e e3 hk wo_X6_next (by decide) ht0 (t := 9) (by decide)
  have hg5 : tg σ2 a0 = 9 := (tg_e e3 (by decide)).trans ht0
  refine z_aload_n (pc := 161) K dX6_next_161 rfl (lv_at hl 0 rfl) ?_
  refine lv_iload_n (pc := 162) K.x K.b dX6_next_162 rfl (lv_at hl 1 rfl) ?_
  refine z_puti (pc := 163) (t := 9) 4 K hw1 (ob hg5) zq9 (by decide) kf_9_4 zt_9_4 hv1 q397 (fun _ h => h) rfl dX6_next_163 (fun _ _ hw6 => ?_)
  obtain ⟨σ7, e8⟩ : ∃ z, z = st σ2 a0 4 0 v1 := ⟨_, rfl⟩
  have h := h σ7 e8
  have hw6 := wc_e e8 hw6
  have hk9 := kp_e e8 hk4 wo_X6_next (by decide) hg5 (t := 9) (by decide)
  have hg10 : tg σ7 a0 = 9 := (tg_e e8 (by decide)).trans hg5
  refine z_aload_n (pc := 166) K dX6_next_166 rfl (lv_at hl 0 rfl) ?_
  refine lv_dup (pc := 167) K.x K.b dX6_next_167 (jR_cat _ _) ?_
  refine z_get (pc := 168) (t := 9) (k := 1) K hw6 (ob (t := 9) hg10) zq9 (by decide) q382 (fun _ h => h) dX6_next_168 (zval_i kf_9_1) ?_
  refine z_iconst (pc := 171) K dX6_next_171 ?_
  refine z_iadd (pc := 172) K dX6_next_172 ?_
  obtain ⟨hr11, h⟩ := h
  refine z_puti (pc := 173) (t := 9) 1 K hw6 (ob hg10) zq9 (by decide) kf_9_1 zt_9_1 hr11 q382 (fun _ h => h) rfl dX6_next_173 (fun _ _ hw12 => ?_)
  obtain ⟨σ13, e14⟩ : ∃ z, z = st σ7 a0 1 0 ((σ7 a0 1 0) + 1) := ⟨_, rfl⟩
  have h := h σ13 e14
  have hw12 := wc_e e14 hw12
  have hk15 := kp_e e14 hk9 wo_X6_next (by decide) hg10 (t := 9) (by decide)
  have hg16 : tg σ13 a0 = 9 := (tg_e e14 (by decide)).trans hg10
  exact z_vret (pc := 176) K hw12 ⟨hk15, h⟩ dX6_next_176
set_option maxHeartbeats 4000000 in
theorem wk_X6_next_b153_9 {X : Cxt} {p : Program} {l : Launch} {e : Env} {s : State} {m : MethodId} {args : Array Value} {below : List Frame} {meth : Method} {c : Code} (a0 : Int) (Q : St → Prop) (σ0 : St) (K : MCx X p s m args meth c cX6_next 2 "CombTable$Reader" (none)) : ∀ (σ : St) (v1 : Int) (H : Heap) (locs : List Loc) (ls : Array Slot), wp_X6_next_b153 a0 Q σ0 σ v1 → Wc X σ s.heap H locs → Kp ws_X6_next σ0 σ → tg σ a0 = 9 → rng v1 → lv_has ls 2 [(0, jR X a0), (1, jI v1)] → W p l e (zrm 4 0 0) s m args below meth c H locs 0 0 (MQT below (ZQ X (qV (fun σ' => Kp ws_X6_next σ0 σ' ∧ Q σ')) (fun _ _ => False)) args s 0 0 (zA X)) (F0 m 153 ls [jR X a0]) := by
  intro σ v1 H locs ls h hw hk ht0 hv1 hl
  refine z_iconst (pc := 153) K dX6_next_153 ?_
  refine z_goto (pc := 154) (tgt := 158) K dX6_next_154 (by decide) ?_
  exact wk_X6_next_b158_9 a0 Q σ0 K σ v1 3 _ _ _ h hw hk ht0 hv1 ⟨by decide, by decide⟩ (lv_sub hl [0, 1] rfl)
set_option maxHeartbeats 4000000 in
theorem wk_X6_next_b111_9 {X : Cxt} {p : Program} {l : Launch} {e : Env} {s : State} {m : MethodId} {args : Array Value} {below : List Frame} {meth : Method} {c : Code} (a0 : Int) (Q : St → Prop) (σ0 : St) (K : MCx X p s m args meth c cX6_next 2 "CombTable$Reader" (none)) : ∀ (σ : St) (v1 : Int) (H : Heap) (locs : List Loc) (ls : Array Slot), wp_X6_next_b111 a0 Q σ0 σ v1 → Wc X σ s.heap H locs → Kp ws_X6_next σ0 σ → tg σ a0 = 9 → rng v1 → lv_has ls 2 [(0, jR X a0), (1, jI v1)] → W p l e (zrm 4 0 0) s m args below meth c H locs 0 0 (MQT below (ZQ X (qV (fun σ' => Kp ws_X6_next σ0 σ' ∧ Q σ')) (fun _ _ => False)) args s 0 0 (zA X)) (F0 m 111 ls []) := by
  intro σ v1 H locs ls h hw hk ht0 hv1 hl
  refine z_aload_n (pc := 111) K dX6_next_111 rfl (lv_at hl 0 rfl) ?_
  refine z_aload_n (pc := 112) K dX6_next_112 rfl (lv_at hl 0 rfl) ?_
  refine lv_iload_n (pc := 113) K.x K.b dX6_next_113 rfl (lv_at hl 1 rfl) ?_
  refine zr_z (pc := 114) (maxL := 2) K hw (met_X6_isLetter_9 X l σ a0 v1 ht0 hv1 _ h) (i_VP (n := 1) (t := 9) (As := [jI v1]) K hw (ob ht0) zq9 (by decide) q677 q679 q678 q2026 (sg_of K q680) rfl rfl dX6_next_114) (locw K q680 q97) ⟨by decide, by decide⟩ hl.1 dX6_next_114 (Nat.le_of_ble_eq_true rfl) ⟨Nat.le_refl _, Nat.le_refl _⟩ (fun r1 _ _ hr2 h hw5 => ?_)
  refine zc_v (pc := 117) (maxL := 3) K hw5 (met_X6_run_9 X l σ a0 r1 ht0 hr2 _ h) (i_VP (n := 1) (t := 9) (As := [jI r1]) K hw5 (ob ht0) zq9 (by decide) q688 q690 q689 q2028 (sg_of K q691) rfl rfl dX6_next_117) (locw K q691 q97) ⟨by decide, by decide⟩ hl.1 dX6_next_117 (Nat.le_of_ble_eq_true rfl) ⟨Nat.le_refl _, Nat.le_refl _⟩ (fun σ9 _ _ hq8 hw10 => ?_)
  obtain ⟨hk11, h⟩ := hq8
  have h := h hk11
  have hk12 := kp_trans wo_X6_next hk hk11 (fun _ q => q) (by decide)
  have hg13 : tg σ9 a0 = 9 := kp_tg hk11 wo_X6_run ht0 (by decide)
  refine z_goto (pc := 120) (tgt := 176) K dX6_next_120 (by decide) ?_
  exact z_vret (pc := 176) K hw10 ⟨hk12, h⟩ dX6_next_176
set_option maxHeartbeats 4000000 in
theorem wk_X6_next_b78_9 {X : Cxt} {p : Program} {l : Launch} {e : Env} {s : State} {m : MethodId} {args : Array Value} {below : List Frame} {meth : Method} {c : Code} (a0 : Int) (Q : St → Prop) (σ0 : St) (K : MCx X p s m args meth c cX6_next 2 "CombTable$Reader" (none)) : ∀ (σ : St) (H : Heap) (locs : List Loc) (ls : Array Slot), wp_X6_next_b78 a0 Q σ0 σ → Wc X σ s.heap H locs → Kp ws_X6_next σ0 σ → tg σ a0 = 9 → lv_has ls 2 [(0, jR X a0)] → W p l e (zrm 4 0 0) s m args below meth c H locs 0 0 (MQT below (ZQ X (qV (fun σ' => Kp ws_X6_next σ0 σ' ∧ Q σ')) (fun _ _ => False)) args s 0 0 (zA X)) (F0 m 78 ls []) := by
  intro σ H locs ls h hw hk ht0 hl
  refine z_aload_n (pc := 78) K dX6_next_78 rfl (lv_at hl 0 rfl) ?_
  refine zr_i (pc := 79) (maxL := 1) K hw (met_X6_peek_9 X l σ a0 ht0 _ h) (i_VP (n := 0) (t := 9) (As := []) K hw (ob ht0) zq9 (by decide) q673 q675 q674 q2025 (sg_of K q676) rfl rfl dX6_next_79) (locw K q676 q97) ⟨by decide, by decide⟩ hl.1 dX6_next_79 (Nat.le_of_ble_eq_true rfl) ⟨Nat.le_refl _, Nat.le_refl _⟩ (fun r1 _ _ hr2 h hw5 => ?_)
  refine lv_istore_n (pc := 82) (lv' := [(1, jI r1), (0, jR X a0)]) K.x K.b dX6_next_82 rfl hl (by decide) (by simp [jR_cat]) (fun ls hl => ?_)
  refine lv_iload_n (pc := 83) K.x K.b dX6_next_83 rfl (lv_at hl 0 rfl) ?_
  refine z_if_ge (pc := 84) (tgt := 95) K hr2 dX6_next_84 (by decide) (fun hc6 => ?_) (fun hc6 => ?_)
  · have h := ite_t h hc6
    refine z_aload_n (pc := 87) K dX6_next_87 rfl (lv_at hl 1 rfl) ?_
    refine z_iconst (pc := 88) K dX6_next_88 ?_
    refine z_puti (pc := 89) (t := 9) 3 K hw5 (ob ht0) zq9 (by decide) kf_9_3 zt_9_3 ⟨by decide, by decide⟩ q394 (fun _ h => h) rfl dX6_next_89 (fun _ _ hw7 => ?_)
    obtain ⟨σ8, e9⟩ : ∃ z, z = st σ a0 3 0 0 := ⟨_, rfl⟩
    have h := h σ8 e9
    have hw7 := wc_e e9 hw7
    have hk10 := kp_e e9 hk wo_X6_next (by decide) ht0 (t := 9) (by decide)
    have hg11 : tg σ8 a0 = 9 := (tg_e e9 (by decide)).trans ht0
    refine z_goto (pc := 92) (tgt := 176) K dX6_next_92 (by decide) ?_
    exact z_vret (pc := 176) K hw7 ⟨hk10, h⟩ dX6_next_176
  · have h := ite_f h hc6
    refine z_aload_n (pc := 95) K dX6_next_95 rfl (lv_at hl 1 rfl) ?_
    refine lv_iload_n (pc := 96) K.x K.b dX6_next_96 rfl (lv_at hl 0 rfl) ?_
    refine zr_z (pc := 97) (maxL := 2) K hw5 (met_X6_isLetter_9 X l σ a0 r1 ht0 hr2 _ h) (i_VP (n := 1) (t := 9) (As := [jI r1]) K hw5 (ob ht0) zq9 (by decide) q677 q679 q678 q2026 (sg_of K q680) rfl rfl dX6_next_97) (locw K q680 q97) ⟨by decide, by decide⟩ hl.1 dX6_next_97 (Nat.le_of_ble_eq_true rfl) ⟨Nat.le_refl _, Nat.le_refl _⟩ (fun r12 _ _ hr13 h hw16 => ?_)
    refine z_if_ne (pc := 100) (tgt := 111) K (b01r hr13) dX6_next_100 (by decide) (fun hc17 => ?_) (fun hc17 => ?_)
    · have h := ite_t h hc17
      refine z_aload_n (pc := 103) K dX6_next_103 rfl (lv_at hl 1 rfl) ?_
      refine lv_iload_n (pc := 104) K.x K.b dX6_next_104 rfl (lv_at hl 0 rfl) ?_
      refine zr_z (pc := 105) (maxL := 2) K hw16 (met_X6_isDigit_9 X l σ a0 r1 ht0 hr2 _ h) (i_VP (n := 1) (t := 9) (As := [jI r1]) K hw16 (ob ht0) zq9 (by decide) q684 q686 q685 q2027 (sg_of K q687) rfl rfl dX6_next_105) (locw K q687 q97) ⟨by decide, by decide⟩ hl.1 dX6_next_105 (Nat.le_of_ble_eq_true rfl) ⟨Nat.le_refl _, Nat.le_refl _⟩ (fun r18 _ _ hr19 h hw22 => ?_)
      refine z_if_eq (pc := 108) (tgt := 123) K (b01r hr19) dX6_next_108 (by decide) (fun hc23 => ?_) (fun hc23 => ?_)
      · have h := ite_t h hc23
        refine z_aload_n (pc := 123) K dX6_next_123 rfl (lv_at hl 1 rfl) ?_
        refine lv_iload_n (pc := 124) K.x K.b dX6_next_124 rfl (lv_at hl 0 rfl) ?_
        refine z_bipush (pc := 125) K dX6_next_125 (by decide) ?_
        refine z_icmp_eq (pc := 127) (tgt := 153) K hr2 ⟨by decide, by decide⟩ dX6_next_127 (by decide) (fun hc24 => ?_) (fun hc24 => ?_)
        · have h := ite_t h hc24
          exact wk_X6_next_b153_9 a0 Q σ0 K σ r1 _ _ _ h hw22 hk ht0 hr2 (lv_sub hl [1, 0] rfl)
        · have h := ite_f h hc24
          refine lv_iload_n (pc := 130) K.x K.b dX6_next_130 rfl (lv_at hl 0 rfl) ?_
          refine z_bipush (pc := 131) K dX6_next_131 (by decide) ?_
          refine z_icmp_eq (pc := 133) (tgt := 153) K hr2 ⟨by decide, by decide⟩ dX6_next_133 (by decide) (fun hc25 => ?_) (fun hc25 => ?_)
          · have h := ite_t h hc25
            exact wk_X6_next_b153_9 a0 Q σ0 K σ r1 _ _ _ h hw22 hk ht0 hr2 (lv_sub hl [1, 0] rfl)
          · have h := ite_f h hc25
            refine lv_iload_n (pc := 136) K.x K.b dX6_next_136 rfl (lv_at hl 0 rfl) ?_
            refine z_bipush (pc := 137) K dX6_next_137 (by decide) ?_
            refine z_icmp_eq (pc := 139) (tgt := 153) K hr2 ⟨by decide, by decide⟩ dX6_next_139 (by decide) (fun hc26 => ?_) (fun hc26 => ?_)
            · have h := ite_t h hc26
              exact wk_X6_next_b153_9 a0 Q σ0 K σ r1 _ _ _ h hw22 hk ht0 hr2 (lv_sub hl [1, 0] rfl)
            · have h := ite_f h hc26
              refine lv_iload_n (pc := 142) K.x K.b dX6_next_142 rfl (lv_at hl 0 rfl) ?_
              refine z_bipush (pc := 143) K dX6_next_143 (by decide) ?_
              refine z_bipush (pc := 145) K dX6_next_145 (by decide) ?_
              refine zr_z (pc := 147) (maxL := 3) K hw22 (met_X1_isIn X l σ r1 60 62 hr2 ⟨by decide, by decide⟩ ⟨by decide, by decide⟩ _ h) (i_SN (n := 3) (As := [jI r1, jI 60, jI 62]) K (by decide) q681 q682 q90 (sg_of K q683) rfl rfl dX6_next_147) (locw K q683 q90) ⟨by decide, by decide⟩ hl.1 dX6_next_147 (Nat.le_of_ble_eq_true rfl) ⟨Nat.le_refl _, Nat.le_refl _⟩ (fun r27 _ _ hr28 h hw31 => ?_)
              refine z_if_eq (pc := 150) (tgt := 157) K (b01r hr28) dX6_next_150 (by decide) (fun hc32 => ?_) (fun hc32 => ?_)
              · have h := ite_t h hc32
                refine z_iconst (pc := 157) K dX6_next_157 ?_
                exact wk_X6_next_b158_9 a0 Q σ0 K σ r1 4 _ _ _ h hw31 hk ht0 hr2 ⟨by decide, by decide⟩ (lv_sub hl [1, 0] rfl)
              · have h := ite_f h hc32
                exact wk_X6_next_b153_9 a0 Q σ0 K σ r1 _ _ _ h hw31 hk ht0 hr2 (lv_sub hl [1, 0] rfl)
      · have h := ite_f h hc23
        exact wk_X6_next_b111_9 a0 Q σ0 K σ r1 _ _ _ h hw22 hk ht0 hr2 (lv_sub hl [1, 0] rfl)
    · have h := ite_f h hc17
      exact wk_X6_next_b111_9 a0 Q σ0 K σ r1 _ _ _ h hw16 hk ht0 hr2 (lv_sub hl [1, 0] rfl)
set_option maxHeartbeats 4000000 in
theorem wk_X6_next_b18_9 {X : Cxt} {p : Program} {l : Launch} {e : Env} {s : State} {m : MethodId} {args : Array Value} {below : List Frame} {meth : Method} {c : Code} (a0 : Int) (Q : St → Prop) (σ0 : St) (K : MCx X p s m args meth c cX6_next 2 "CombTable$Reader" (none)) (L0 : St → Prop) (hL0 : ∀ (σ : St) (H : Heap) (locs : List Loc) (ls : Array Slot), L0 σ → Wc X σ s.heap H locs → Kp ws_X6_next σ0 σ → tg σ a0 = 9 → lv_has ls 2 [(0, jR X a0)] → W p l e (zrm 4 0 0) s m args below meth c H locs 0 0 (MQT below (ZQ X (qV (fun σ' => Kp ws_X6_next σ0 σ' ∧ Q σ')) (fun _ _ => False)) args s 0 0 (zA X)) (F0 m 0 ls [])) : ∀ (σ : St) (H : Heap) (locs : List Loc) (ls : Array Slot), wp_X6_next_b18 a0 Q σ0 L0 σ → Wc X σ s.heap H locs → Kp ws_X6_next σ0 σ → tg σ a0 = 9 → lv_has ls 2 [(0, jR X a0)] → W p l e (zrm 4 0 0) s m args below meth c H locs 0 0 (MQT below (ZQ X (qV (fun σ' => Kp ws_X6_next σ0 σ' ∧ Q σ')) (fun _ _ => False)) args s 0 0 (zA X)) (F0 m 18 ls []) := by
  intro σ H locs ls h hw hk ht0 hl
  refine z_aload_n (pc := 18) K dX6_next_18 rfl (lv_at hl 0 rfl) ?_
  refine lv_dup (pc := 19) K.x K.b dX6_next_19 (jR_cat _ _) ?_
  refine z_get (pc := 20) (t := 9) (k := 1) K hw (ob (t := 9) ht0) zq9 (by decide) q382 (fun _ h => h) dX6_next_20 (zval_i kf_9_1) ?_
  refine z_iconst (pc := 23) K dX6_next_23 ?_
  refine z_iadd (pc := 24) K dX6_next_24 ?_
  obtain ⟨hr1, h⟩ := h
  refine z_puti (pc := 25) (t := 9) 1 K hw (ob ht0) zq9 (by decide) kf_9_1 zt_9_1 hr1 q382 (fun _ h => h) rfl dX6_next_25 (fun _ _ hw2 => ?_)
  obtain ⟨σ3, e4⟩ : ∃ z, z = st σ a0 1 0 ((σ a0 1 0) + 1) := ⟨_, rfl⟩
  have h := h σ3 e4
  have hw2 := wc_e e4 hw2
  have hk5 := kp_e e4 hk wo_X6_next (by decide) ht0 (t := 9) (by decide)
  have hg6 : tg σ3 a0 = 9 := (tg_e e4 (by decide)).trans ht0
  refine z_goto (pc := 28) (tgt := 0) K dX6_next_28 (by decide) ?_
  exact hL0 σ3 _ _ _ h hw2 hk5 hg6 (lv_sub hl [0] rfl)
set_option maxHeartbeats 4000000 in
theorem wk_X6_next_0_9 {X : Cxt} {p : Program} {l : Launch} {e : Env} {s : State} {m : MethodId} {args : Array Value} {below : List Frame} {meth : Method} {c : Code} (a0 : Int) (Q : St → Prop) (σ0 : St) (K : MCx X p s m args meth c cX6_next 2 "CombTable$Reader" (none)) : ∀ (n : Nat), ∀ (σ : St) (H : Heap) (locs : List Loc) (ls : Array Slot), lp_X6_next_0 a0 Q σ0 n σ → Wc X σ s.heap H locs → Kp ws_X6_next σ0 σ → tg σ a0 = 9 → lv_has ls 2 [(0, jR X a0)] → W p l e (zrm 4 0 0) s m args below meth c H locs 0 0 (MQT below (ZQ X (qV (fun σ' => Kp ws_X6_next σ0 σ' ∧ Q σ')) (fun _ _ => False)) args s 0 0 (zA X)) (F0 m 0 ls []) := by
  intro n
  induction n with
  | zero => intro σ H locs ls h; exact h.elim
  | succ n ih =>
    intro σ H locs ls h hw hk ht0 hl
    have h := h hk
    refine z_aload_n (pc := 0) K dX6_next_0 rfl (lv_at hl 0 rfl) ?_
    refine zr_i (pc := 1) (maxL := 1) K hw (met_X6_peek_9 X l σ a0 ht0 _ h) (i_VP (n := 0) (t := 9) (As := []) K hw (ob ht0) zq9 (by decide) q673 q675 q674 q2025 (sg_of K q676) rfl rfl dX6_next_1) (locw K q676 q97) ⟨by decide, by decide⟩ hl.1 dX6_next_1 (Nat.le_of_ble_eq_true rfl) ⟨Nat.le_refl _, Nat.le_refl _⟩ (fun r1 _ _ hr2 h hw5 => ?_)
    refine z_bipush (pc := 4) K dX6_next_4 (by decide) ?_
    refine z_icmp_eq (pc := 6) (tgt := 18) K hr2 ⟨by decide, by decide⟩ dX6_next_6 (by decide) (fun hc6 => ?_) (fun hc6 => ?_)
    · have h := ite_t h hc6
      exact wk_X6_next_b18_9 a0 Q σ0 K (lp_X6_next_0 a0 Q σ0 n) ih σ _ _ _ h hw5 hk ht0 (lv_sub hl [0] rfl)
    · have h := ite_f h hc6
      refine z_aload_n (pc := 9) K dX6_next_9 rfl (lv_at hl 0 rfl) ?_
      refine zr_i (pc := 10) (maxL := 1) K hw5 (met_X6_peek_9 X l σ a0 ht0 _ h) (i_VP (n := 0) (t := 9) (As := []) K hw5 (ob ht0) zq9 (by decide) q673 q675 q674 q2025 (sg_of K q676) rfl rfl dX6_next_10) (locw K q676 q97) ⟨by decide, by decide⟩ hl.1 dX6_next_10 (Nat.le_of_ble_eq_true rfl) ⟨Nat.le_refl _, Nat.le_refl _⟩ (fun r7 _ _ hr8 h hw11 => ?_)
      refine z_bipush (pc := 13) K dX6_next_13 (by decide) ?_
      refine z_icmp_ne (pc := 15) (tgt := 31) K hr8 ⟨by decide, by decide⟩ dX6_next_15 (by decide) (fun hc12 => ?_) (fun hc12 => ?_)
      · have h := ite_t h hc12
        exact wk_X6_next_b18_9 a0 Q σ0 K (lp_X6_next_0 a0 Q σ0 n) ih σ _ _ _ h hw11 hk ht0 (lv_sub hl [0] rfl)
      · have h := ite_f h hc12
        refine z_aload_n (pc := 31) K dX6_next_31 rfl (lv_at hl 0 rfl) ?_
        refine z_aload_n (pc := 32) K dX6_next_32 rfl (lv_at hl 0 rfl) ?_
        refine z_get (pc := 33) (t := 9) (k := 1) K hw11 (ob (t := 9) ht0) zq9 (by decide) q382 (fun _ h => h) dX6_next_33 (zval_i kf_9_1) ?_
        refine z_puti (pc := 36) (t := 9) 2 K hw11 (ob ht0) zq9 (by decide) kf_9_2 zt_9_2 (z_rI hw11 (ob (t := 9) ht0) kf_9_1) q385 (fun _ h => h) rfl dX6_next_36 (fun _ _ hw13 => ?_)
        obtain ⟨σ14, e15⟩ : ∃ z, z = st σ a0 2 0 (σ a0 1 0) := ⟨_, rfl⟩
        have h := h σ14 e15
        have hw13 := wc_e e15 hw13
        have hk16 := kp_e e15 hk wo_X6_next (by decide) ht0 (t := 9) (by decide)
        have hg17 : tg σ14 a0 = 9 := (tg_e e15 (by decide)).trans ht0
        refine z_aload_n (pc := 39) K dX6_next_39 rfl (lv_at hl 0 rfl) ?_
        refine z_get (pc := 40) (t := 9) (k := 7) K hw13 (ob (t := 9) hg17) zq9 (by decide) q402 (fun _ h => h) dX6_next_40 (zval_r kf_9_7) ?_
        have hg18 : tg σ14 (σ14 a0 7 0) = 1 := (z_tg (t := 9) (r := 1) hw13 hg17 ⟨by decide, by decide⟩ kf_9_7 kn_9_7 kt_9_7 (by decide) (by decide))
        refine z_getN (pc := 43) (t := 1) (k := 2) K hw13 (ob (t := 1) hg18) zq1 (by decide) q512 (fun _ h => h) dX6_next_43 (zval_i kf_1_2) ?_
        refine z_aload_n (pc := 46) K dX6_next_46 rfl (lv_at hl 0 rfl) ?_
        refine z_get (pc := 47) (t := 9) (k := 0) K hw13 (ob (t := 9) hg17) zq9 (by decide) q381 (fun _ h => h) dX6_next_47 (zval_i kf_9_0) ?_
        refine z_icmp_le (pc := 50) (tgt := 78) K (z_rI hw13 (ob (t := 1) hg18) kf_1_2) (z_rI hw13 (ob (t := 9) hg17) kf_9_0) dX6_next_50 (by decide) (fun hc19 => ?_) (fun hc19 => ?_)
        · have h := ite_t h hc19
          refine z_aload_n (pc := 53) K dX6_next_53 rfl (lv_at hl 0 rfl) ?_
          refine z_get (pc := 54) (t := 9) (k := 1) K hw13 (ob (t := 9) hg17) zq9 (by decide) q382 (fun _ h => h) dX6_next_54 (zval_i kf_9_1) ?_
          refine z_aload_n (pc := 57) K dX6_next_57 rfl (lv_at hl 0 rfl) ?_
          refine z_get (pc := 58) (t := 9) (k := 0) K hw13 (ob (t := 9) hg17) zq9 (by decide) q381 (fun _ h => h) dX6_next_58 (zval_i kf_9_0) ?_
          refine z_icmp_lt (pc := 61) (tgt := 78) K (z_rI hw13 (ob (t := 9) hg17) kf_9_1) (z_rI hw13 (ob (t := 9) hg17) kf_9_0) dX6_next_61 (by decide) (fun hc20 => ?_) (fun hc20 => ?_)
          · have h := ite_t h hc20
            refine z_aload_n (pc := 64) K dX6_next_64 rfl (lv_at hl 0 rfl) ?_
            refine z_aload_n (pc := 65) K dX6_next_65 rfl (lv_at hl 0 rfl) ?_
            refine z_get (pc := 66) (t := 9) (k := 0) K hw13 (ob (t := 9) hg17) zq9 (by decide) q381 (fun _ h => h) dX6_next_66 (zval_i kf_9_0) ?_
            refine z_puti (pc := 69) (t := 9) 2 K hw13 (ob hg17) zq9 (by decide) kf_9_2 zt_9_2 (z_rI hw13 (ob (t := 9) hg17) kf_9_0) q385 (fun _ h => h) rfl dX6_next_69 (fun _ _ hw21 => ?_)
            obtain ⟨σ22, e23⟩ : ∃ z, z = st σ14 a0 2 0 (σ14 a0 0 0) := ⟨_, rfl⟩
            have h := h σ22 e23
            have hw21 := wc_e e23 hw21
            have hk24 := kp_e e23 hk16 wo_X6_next (by decide) hg17 (t := 9) (by decide)
            have hg25 : tg σ22 a0 = 9 := (tg_e e23 (by decide)).trans hg17
            refine z_aload_n (pc := 72) K dX6_next_72 rfl (lv_at hl 0 rfl) ?_
            refine z_iconst (pc := 73) K dX6_next_73 ?_
            refine z_puti (pc := 74) (t := 9) 3 K hw21 (ob hg25) zq9 (by decide) kf_9_3 zt_9_3 ⟨by decide, by decide⟩ q394 (fun _ h => h) rfl dX6_next_74 (fun _ _ hw26 => ?_)
            obtain ⟨σ27, e28⟩ : ∃ z, z = st σ22 a0 3 0 4 := ⟨_, rfl⟩
            have h := h σ27 e28
            have hw26 := wc_e e28 hw26
            have hk29 := kp_e e28 hk24 wo_X6_next (by decide) hg25 (t := 9) (by decide)
            have hg30 : tg σ27 a0 = 9 := (tg_e e28 (by decide)).trans hg25
            exact z_vret (pc := 77) K hw26 ⟨hk29, h⟩ dX6_next_77
          · have h := ite_f h hc20
            exact wk_X6_next_b78_9 a0 Q σ0 K σ14 _ _ _ h hw13 hk16 hg17 (lv_sub hl [0] rfl)
        · have h := ite_f h hc19
          exact wk_X6_next_b78_9 a0 Q σ0 K σ14 _ _ _ h hw13 hk16 hg17 (lv_sub hl [0] rfl)
set_option maxHeartbeats 4000000 in
theorem met_X6_next_9 (X : Cxt) (l : Launch) (σ : St) (a0 : Int) (ht0 : tg σ a0 = 9) (Q : St → Prop) (h : wp_X6_next σ a0 Q) : MetT l yX6_next (ws_ yX6_next cX6_next 2 (none)) (zrm 4 0 0) (ZP X σ [jR X a0]) (ZQ X (qV (fun σ' => Kp ws_X6_next σ σ' ∧ Q σ')) (fun _ _ => False)) 0 0 (zA X) := by
  refine z_start (own := "CombTable$Reader") (lv := [(0, jR X a0)]) (by decide) rfl (by simp [lv_args, jR_cat, jI_cat, jL_cat]) (by simp [lg_sl, jR_cat, jI_cat, jL_cat]) (fun p e s m below meth c ls K _ _ hw hl => ?_)
  have hk : Kp ws_X6_next σ σ := kp_rf σ
  obtain ⟨nf1, h⟩ := h
  exact wk_X6_next_0_9 a0 Q σ K nf1 σ _ _ _ h hw hk ht0 (lv_sub hl [0] rfl)
def lp_X6_of_2 (σ : St) (a0 : Int) (o1 : Int) (k1 : Nat) (n1 : Int) (x2 : Int) (Q : Int → Prop) : Nat → Int → Prop
  | 0 => fun _ => False
  | n + 1 => fun v3 => 
    (if v3 < x2 then
      (0 ≤ v3 ∧ v3 < n1) ∧ (σ o1 k1 v3) ≠ -1 ∧ (if σ (σ o1 k1 v3) 0 0 = σ a0 6 0 then
        Q v3
        else
        rng (v3 + 1) ∧ (lp_X6_of_2 σ a0 o1 k1 n1 x2 Q n (v3 + 1)))
      else
      Q (-1))
def wp_X6_of (σ : St) (a0 : Int) (o1 : Int) (k1 : Nat) (n1 : Int) (x2 : Int) (Q : Int → Prop) : Prop :=
  (∃ kk, lp_X6_of_2 σ a0 o1 k1 n1 x2 Q kk 0)
set_option maxHeartbeats 4000000 in
theorem wk_X6_of_2_6_0 {X : Cxt} {p : Program} {l : Launch} {e : Env} {s : State} {m : MethodId} {args : Array Value} {below : List Frame} {meth : Method} {c : Code} (σ : St) (a0 : Int) (o1 : Int) (k1 : Nat) (n1 : Int) (x2 : Int) (Q : Int → Prop) (K : MCx X p s m args meth c cX6_of 4 "CombTable$Reader" (some .int)) (hfa1 : kf 4 k1 = 15) (hna1 : ((kl 4 k1 : Nat) : Int) = n1) (hka1 : kt 4 k1 = 11) (hx2 : rng x2) : ∀ (n : Nat), ∀ (v3 : Int) (H : Heap) (locs : List Loc) (ls : Array Slot), lp_X6_of_2 σ a0 o1 k1 n1 x2 Q n v3 → Wc X σ s.heap H locs → tg σ a0 = 6 → tg σ o1 = 4 → rng v3 → lv_has ls 4 [(0, jR X a0), (1, jR X (σ o1 k1 (-1))), (2, jI x2), (3, jI v3)] → W p l e (zrm 1 0 0) s m args below meth c H locs 0 0 (MQT below (ZQ X (qI (fun r σ' => σ' = σ ∧ Q r)) (fun _ _ => False)) args s 0 0 (zA X)) (F0 m 2 ls []) := by
  intro n
  induction n with
  | zero => intro v3 H locs ls h; exact h.elim
  | succ n ih =>
    intro v3 H locs ls h hw ht0 ht1 hv3 hl
    refine lv_iload_n (pc := 2) K.x K.b dX6_of_2 rfl (lv_at hl 3 rfl) ?_
    refine lv_iload_n (pc := 3) K.x K.b dX6_of_3 rfl (lv_at hl 2 rfl) ?_
    refine z_icmp_ge (pc := 4) (tgt := 29) K hv3 hx2 dX6_of_4 (by decide) (fun hc1 => ?_) (fun hc1 => ?_)
    · have h := ite_t h hc1
      refine z_aload_n (pc := 7) K dX6_of_7 rfl (lv_at hl 1 rfl) ?_
      refine lv_iload_n (pc := 8) K.x K.b dX6_of_8 rfl (lv_at hl 3 rfl) ?_
      obtain ⟨hj2, h⟩ := h
      refine z_aald (pc := 9) (t := 4) (κ := 5) K hw ht1 ⟨by decide, by decide⟩ hfa1 ⟨by decide, by decide⟩ hna1 hj2 (by rw [← hna1]; exact kl_le _ _) dX6_of_9 ?_
      obtain ⟨hn4, h⟩ := h
      have hg3 : tg σ (σ o1 k1 v3) = 11 := okR_nn hn4 (by decide) (by decide) (z_el (t := 4) (κ := 5) (r := 11) hw ht1 ⟨by decide, by decide⟩ hfa1 (by decide) hka1 hna1 hj2)
      refine z_get (pc := 10) (t := 11) (k := 0) K hw (ob (t := 11) hg3) zq11 (by decide) q813 (fun _ h => h) dX6_of_10 (zval_l kf_11_0) ?_
      refine z_aload_n (pc := 13) K dX6_of_13 rfl (lv_at hl 0 rfl) ?_
      refine z_get (pc := 14) (t := 6) (k := 6) K hw (ob (t := 6) ht0) zq6 (by decide) q401 (fun _ h => h) dX6_of_14 (zval_l kf_6_6) ?_
      refine z_lcmp (pc := 17) K (z_rL hw (ob (t := 11) hg3) kf_11_0) (z_rL hw (ob (t := 6) ht0) kf_6_6) dX6_of_17 ?_
      refine z_if_ne (pc := 18) (tgt := 23) K (rng_zcmp _ _) dX6_of_18 (by decide) (fun hc5 => ?_) (fun hc5 => ?_)
      · have hc5 := zcmp_eq.mp hc5
        have h := ite_t h hc5
        refine lv_iload_n (pc := 21) K.x K.b dX6_of_21 rfl (lv_at hl 3 rfl) ?_
        exact z_iret (pc := 22) K hw hv3 ⟨rfl, h⟩ dX6_of_22
      · have hc5 := fun q => hc5 (zcmp_eq.mpr q)
        have h := ite_f h hc5
        refine z_iinc (pc := 23) (k := 3) (lv' := [(3, jI (v3 + 1)), (0, jR X a0), (1, jR X (σ o1 k1 (-1))), (2, jI x2)]) K dX6_of_23 hl rfl (by decide) rfl (fun ls hl => ?_)
        refine z_goto (pc := 26) (tgt := 2) K dX6_of_26 (by decide) ?_
        obtain ⟨hr6, h⟩ := h
        exact ih (v3 + 1) _ _ _ h hw ht0 ht1 hr6 (lv_sub hl [1, 2, 3, 0] rfl)
    · have h := ite_f h hc1
      refine z_iconst (pc := 29) K dX6_of_29 ?_
      exact z_iret (pc := 30) K hw ⟨by decide, by decide⟩ ⟨rfl, h⟩ dX6_of_30
set_option maxHeartbeats 4000000 in
theorem met_X6_of_6_0 (X : Cxt) (l : Launch) (σ : St) (a0 : Int) (o1 : Int) (k1 : Nat) (n1 : Int) (x2 : Int) (ht0 : tg σ a0 = 6) (ht1 : tg σ o1 = 4) (hfa1 : kf 4 k1 = 15) (hna1 : ((kl 4 k1 : Nat) : Int) = n1) (hka1 : kt 4 k1 = 11) (hx2 : rng x2) (Q : Int → Prop) (h : wp_X6_of σ a0 o1 k1 n1 x2 Q) : MetT l yX6_of (ws_ yX6_of cX6_of 4 (some .int)) (zrm 1 0 0) (ZP X σ [jR X a0, jR X (σ o1 k1 (-1)), jI x2]) (ZQ X (qI (fun r σ' => σ' = σ ∧ Q r)) (fun _ _ => False)) 0 0 (zA X) := by
  refine z_start (own := "CombTable$Reader") (lv := [(0, jR X a0), (1, jR X (σ o1 k1 (-1))), (2, jI x2)]) (by decide) rfl (by simp [lv_args, jR_cat, jI_cat, jL_cat]) (by simp [lg_sl, jR_cat, jI_cat, jL_cat]) (fun p e s m below meth c ls K _ _ hw hl => ?_)
  refine z_iconst (pc := 0) K dX6_of_0 ?_
  refine lv_istore_n (pc := 1) (lv' := [(3, jI 0), (0, jR X a0), (1, jR X (σ o1 k1 (-1))), (2, jI x2)]) K.x K.b dX6_of_1 rfl hl (by decide) rfl (fun ls hl => ?_)
  obtain ⟨nf1, h⟩ := h
  exact wk_X6_of_2_6_0 σ a0 o1 k1 n1 x2 Q K hfa1 hna1 hka1 hx2 nf1 0 _ _ _ h hw ht0 ht1 ⟨by decide, by decide⟩ (lv_sub hl [1, 2, 3, 0] rfl)
set_option maxHeartbeats 4000000 in
theorem wk_X6_of_2_6_1 {X : Cxt} {p : Program} {l : Launch} {e : Env} {s : State} {m : MethodId} {args : Array Value} {below : List Frame} {meth : Method} {c : Code} (σ : St) (a0 : Int) (o1 : Int) (k1 : Nat) (n1 : Int) (x2 : Int) (Q : Int → Prop) (K : MCx X p s m args meth c cX6_of 4 "CombTable$Reader" (some .int)) (hfa1 : kf 4 k1 = 16) (hna1 : ((kl 4 k1 : Nat) : Int) = n1) (hka1 : kt 4 k1 = 12) (hx2 : rng x2) : ∀ (n : Nat), ∀ (v3 : Int) (H : Heap) (locs : List Loc) (ls : Array Slot), lp_X6_of_2 σ a0 o1 k1 n1 x2 Q n v3 → Wc X σ s.heap H locs → tg σ a0 = 6 → tg σ o1 = 4 → rng v3 → lv_has ls 4 [(0, jR X a0), (1, jR X (σ o1 k1 (-1))), (2, jI x2), (3, jI v3)] → W p l e (zrm 1 0 0) s m args below meth c H locs 0 0 (MQT below (ZQ X (qI (fun r σ' => σ' = σ ∧ Q r)) (fun _ _ => False)) args s 0 0 (zA X)) (F0 m 2 ls []) := by
  intro n
  induction n with
  | zero => intro v3 H locs ls h; exact h.elim
  | succ n ih =>
    intro v3 H locs ls h hw ht0 ht1 hv3 hl
    refine lv_iload_n (pc := 2) K.x K.b dX6_of_2 rfl (lv_at hl 3 rfl) ?_
    refine lv_iload_n (pc := 3) K.x K.b dX6_of_3 rfl (lv_at hl 2 rfl) ?_
    refine z_icmp_ge (pc := 4) (tgt := 29) K hv3 hx2 dX6_of_4 (by decide) (fun hc1 => ?_) (fun hc1 => ?_)
    · have h := ite_t h hc1
      refine z_aload_n (pc := 7) K dX6_of_7 rfl (lv_at hl 1 rfl) ?_
      refine lv_iload_n (pc := 8) K.x K.b dX6_of_8 rfl (lv_at hl 3 rfl) ?_
      obtain ⟨hj2, h⟩ := h
      refine z_aald (pc := 9) (t := 4) (κ := 6) K hw ht1 ⟨by decide, by decide⟩ hfa1 ⟨by decide, by decide⟩ hna1 hj2 (by rw [← hna1]; exact kl_le _ _) dX6_of_9 ?_
      obtain ⟨hn4, h⟩ := h
      have hg3 : tg σ (σ o1 k1 v3) = 12 := okR_nn hn4 (by decide) (by decide) (z_el (t := 4) (κ := 6) (r := 12) hw ht1 ⟨by decide, by decide⟩ hfa1 (by decide) hka1 hna1 hj2)
      refine z_get (pc := 10) (t := 12) (k := 0) K hw (ob (t := 12) hg3) zq12 (by decide) q813 (fun _ h => h) dX6_of_10 (zval_l kf_12_0) ?_
      refine z_aload_n (pc := 13) K dX6_of_13 rfl (lv_at hl 0 rfl) ?_
      refine z_get (pc := 14) (t := 6) (k := 6) K hw (ob (t := 6) ht0) zq6 (by decide) q401 (fun _ h => h) dX6_of_14 (zval_l kf_6_6) ?_
      refine z_lcmp (pc := 17) K (z_rL hw (ob (t := 12) hg3) kf_12_0) (z_rL hw (ob (t := 6) ht0) kf_6_6) dX6_of_17 ?_
      refine z_if_ne (pc := 18) (tgt := 23) K (rng_zcmp _ _) dX6_of_18 (by decide) (fun hc5 => ?_) (fun hc5 => ?_)
      · have hc5 := zcmp_eq.mp hc5
        have h := ite_t h hc5
        refine lv_iload_n (pc := 21) K.x K.b dX6_of_21 rfl (lv_at hl 3 rfl) ?_
        exact z_iret (pc := 22) K hw hv3 ⟨rfl, h⟩ dX6_of_22
      · have hc5 := fun q => hc5 (zcmp_eq.mpr q)
        have h := ite_f h hc5
        refine z_iinc (pc := 23) (k := 3) (lv' := [(3, jI (v3 + 1)), (0, jR X a0), (1, jR X (σ o1 k1 (-1))), (2, jI x2)]) K dX6_of_23 hl rfl (by decide) rfl (fun ls hl => ?_)
        refine z_goto (pc := 26) (tgt := 2) K dX6_of_26 (by decide) ?_
        obtain ⟨hr6, h⟩ := h
        exact ih (v3 + 1) _ _ _ h hw ht0 ht1 hr6 (lv_sub hl [1, 2, 3, 0] rfl)
    · have h := ite_f h hc1
      refine z_iconst (pc := 29) K dX6_of_29 ?_
      exact z_iret (pc := 30) K hw ⟨by decide, by decide⟩ ⟨rfl, h⟩ dX6_of_30
set_option maxHeartbeats 4000000 in
theorem met_X6_of_6_1 (X : Cxt) (l : Launch) (σ : St) (a0 : Int) (o1 : Int) (k1 : Nat) (n1 : Int) (x2 : Int) (ht0 : tg σ a0 = 6) (ht1 : tg σ o1 = 4) (hfa1 : kf 4 k1 = 16) (hna1 : ((kl 4 k1 : Nat) : Int) = n1) (hka1 : kt 4 k1 = 12) (hx2 : rng x2) (Q : Int → Prop) (h : wp_X6_of σ a0 o1 k1 n1 x2 Q) : MetT l yX6_of (ws_ yX6_of cX6_of 4 (some .int)) (zrm 1 0 0) (ZP X σ [jR X a0, jR X (σ o1 k1 (-1)), jI x2]) (ZQ X (qI (fun r σ' => σ' = σ ∧ Q r)) (fun _ _ => False)) 0 0 (zA X) := by
  refine z_start (own := "CombTable$Reader") (lv := [(0, jR X a0), (1, jR X (σ o1 k1 (-1))), (2, jI x2)]) (by decide) rfl (by simp [lv_args, jR_cat, jI_cat, jL_cat]) (by simp [lg_sl, jR_cat, jI_cat, jL_cat]) (fun p e s m below meth c ls K _ _ hw hl => ?_)
  refine z_iconst (pc := 0) K dX6_of_0 ?_
  refine lv_istore_n (pc := 1) (lv' := [(3, jI 0), (0, jR X a0), (1, jR X (σ o1 k1 (-1))), (2, jI x2)]) K.x K.b dX6_of_1 rfl hl (by decide) rfl (fun ls hl => ?_)
  obtain ⟨nf1, h⟩ := h
  exact wk_X6_of_2_6_1 σ a0 o1 k1 n1 x2 Q K hfa1 hna1 hka1 hx2 nf1 0 _ _ _ h hw ht0 ht1 ⟨by decide, by decide⟩ (lv_sub hl [1, 2, 3, 0] rfl)
set_option maxHeartbeats 4000000 in
theorem wk_X6_of_2_7_0 {X : Cxt} {p : Program} {l : Launch} {e : Env} {s : State} {m : MethodId} {args : Array Value} {below : List Frame} {meth : Method} {c : Code} (σ : St) (a0 : Int) (o1 : Int) (k1 : Nat) (n1 : Int) (x2 : Int) (Q : Int → Prop) (K : MCx X p s m args meth c cX6_of 4 "CombTable$Reader" (some .int)) (hfa1 : kf 4 k1 = 15) (hna1 : ((kl 4 k1 : Nat) : Int) = n1) (hka1 : kt 4 k1 = 11) (hx2 : rng x2) : ∀ (n : Nat), ∀ (v3 : Int) (H : Heap) (locs : List Loc) (ls : Array Slot), lp_X6_of_2 σ a0 o1 k1 n1 x2 Q n v3 → Wc X σ s.heap H locs → tg σ a0 = 7 → tg σ o1 = 4 → rng v3 → lv_has ls 4 [(0, jR X a0), (1, jR X (σ o1 k1 (-1))), (2, jI x2), (3, jI v3)] → W p l e (zrm 1 0 0) s m args below meth c H locs 0 0 (MQT below (ZQ X (qI (fun r σ' => σ' = σ ∧ Q r)) (fun _ _ => False)) args s 0 0 (zA X)) (F0 m 2 ls []) := by
  intro n
  induction n with
  | zero => intro v3 H locs ls h; exact h.elim
  | succ n ih =>
    intro v3 H locs ls h hw ht0 ht1 hv3 hl
    refine lv_iload_n (pc := 2) K.x K.b dX6_of_2 rfl (lv_at hl 3 rfl) ?_
    refine lv_iload_n (pc := 3) K.x K.b dX6_of_3 rfl (lv_at hl 2 rfl) ?_
    refine z_icmp_ge (pc := 4) (tgt := 29) K hv3 hx2 dX6_of_4 (by decide) (fun hc1 => ?_) (fun hc1 => ?_)
    · have h := ite_t h hc1
      refine z_aload_n (pc := 7) K dX6_of_7 rfl (lv_at hl 1 rfl) ?_
      refine lv_iload_n (pc := 8) K.x K.b dX6_of_8 rfl (lv_at hl 3 rfl) ?_
      obtain ⟨hj2, h⟩ := h
      refine z_aald (pc := 9) (t := 4) (κ := 5) K hw ht1 ⟨by decide, by decide⟩ hfa1 ⟨by decide, by decide⟩ hna1 hj2 (by rw [← hna1]; exact kl_le _ _) dX6_of_9 ?_
      obtain ⟨hn4, h⟩ := h
      have hg3 : tg σ (σ o1 k1 v3) = 11 := okR_nn hn4 (by decide) (by decide) (z_el (t := 4) (κ := 5) (r := 11) hw ht1 ⟨by decide, by decide⟩ hfa1 (by decide) hka1 hna1 hj2)
      refine z_get (pc := 10) (t := 11) (k := 0) K hw (ob (t := 11) hg3) zq11 (by decide) q813 (fun _ h => h) dX6_of_10 (zval_l kf_11_0) ?_
      refine z_aload_n (pc := 13) K dX6_of_13 rfl (lv_at hl 0 rfl) ?_
      refine z_get (pc := 14) (t := 7) (k := 6) K hw (ob (t := 7) ht0) zq7 (by decide) q401 (fun _ h => h) dX6_of_14 (zval_l kf_7_6) ?_
      refine z_lcmp (pc := 17) K (z_rL hw (ob (t := 11) hg3) kf_11_0) (z_rL hw (ob (t := 7) ht0) kf_7_6) dX6_of_17 ?_
      refine z_if_ne (pc := 18) (tgt := 23) K (rng_zcmp _ _) dX6_of_18 (by decide) (fun hc5 => ?_) (fun hc5 => ?_)
      · have hc5 := zcmp_eq.mp hc5
        have h := ite_t h hc5
        refine lv_iload_n (pc := 21) K.x K.b dX6_of_21 rfl (lv_at hl 3 rfl) ?_
        exact z_iret (pc := 22) K hw hv3 ⟨rfl, h⟩ dX6_of_22
      · have hc5 := fun q => hc5 (zcmp_eq.mpr q)
        have h := ite_f h hc5
        refine z_iinc (pc := 23) (k := 3) (lv' := [(3, jI (v3 + 1)), (0, jR X a0), (1, jR X (σ o1 k1 (-1))), (2, jI x2)]) K dX6_of_23 hl rfl (by decide) rfl (fun ls hl => ?_)
        refine z_goto (pc := 26) (tgt := 2) K dX6_of_26 (by decide) ?_
        obtain ⟨hr6, h⟩ := h
        exact ih (v3 + 1) _ _ _ h hw ht0 ht1 hr6 (lv_sub hl [1, 2, 3, 0] rfl)
    · have h := ite_f h hc1
      refine z_iconst (pc := 29) K dX6_of_29 ?_
      exact z_iret (pc := 30) K hw ⟨by decide, by decide⟩ ⟨rfl, h⟩ dX6_of_30
set_option maxHeartbeats 4000000 in
theorem met_X6_of_7_0 (X : Cxt) (l : Launch) (σ : St) (a0 : Int) (o1 : Int) (k1 : Nat) (n1 : Int) (x2 : Int) (ht0 : tg σ a0 = 7) (ht1 : tg σ o1 = 4) (hfa1 : kf 4 k1 = 15) (hna1 : ((kl 4 k1 : Nat) : Int) = n1) (hka1 : kt 4 k1 = 11) (hx2 : rng x2) (Q : Int → Prop) (h : wp_X6_of σ a0 o1 k1 n1 x2 Q) : MetT l yX6_of (ws_ yX6_of cX6_of 4 (some .int)) (zrm 1 0 0) (ZP X σ [jR X a0, jR X (σ o1 k1 (-1)), jI x2]) (ZQ X (qI (fun r σ' => σ' = σ ∧ Q r)) (fun _ _ => False)) 0 0 (zA X) := by
  refine z_start (own := "CombTable$Reader") (lv := [(0, jR X a0), (1, jR X (σ o1 k1 (-1))), (2, jI x2)]) (by decide) rfl (by simp [lv_args, jR_cat, jI_cat, jL_cat]) (by simp [lg_sl, jR_cat, jI_cat, jL_cat]) (fun p e s m below meth c ls K _ _ hw hl => ?_)
  refine z_iconst (pc := 0) K dX6_of_0 ?_
  refine lv_istore_n (pc := 1) (lv' := [(3, jI 0), (0, jR X a0), (1, jR X (σ o1 k1 (-1))), (2, jI x2)]) K.x K.b dX6_of_1 rfl hl (by decide) rfl (fun ls hl => ?_)
  obtain ⟨nf1, h⟩ := h
  exact wk_X6_of_2_7_0 σ a0 o1 k1 n1 x2 Q K hfa1 hna1 hka1 hx2 nf1 0 _ _ _ h hw ht0 ht1 ⟨by decide, by decide⟩ (lv_sub hl [1, 2, 3, 0] rfl)
set_option maxHeartbeats 4000000 in
theorem wk_X6_of_2_7_1 {X : Cxt} {p : Program} {l : Launch} {e : Env} {s : State} {m : MethodId} {args : Array Value} {below : List Frame} {meth : Method} {c : Code} (σ : St) (a0 : Int) (o1 : Int) (k1 : Nat) (n1 : Int) (x2 : Int) (Q : Int → Prop) (K : MCx X p s m args meth c cX6_of 4 "CombTable$Reader" (some .int)) (hfa1 : kf 4 k1 = 16) (hna1 : ((kl 4 k1 : Nat) : Int) = n1) (hka1 : kt 4 k1 = 12) (hx2 : rng x2) : ∀ (n : Nat), ∀ (v3 : Int) (H : Heap) (locs : List Loc) (ls : Array Slot), lp_X6_of_2 σ a0 o1 k1 n1 x2 Q n v3 → Wc X σ s.heap H locs → tg σ a0 = 7 → tg σ o1 = 4 → rng v3 → lv_has ls 4 [(0, jR X a0), (1, jR X (σ o1 k1 (-1))), (2, jI x2), (3, jI v3)] → W p l e (zrm 1 0 0) s m args below meth c H locs 0 0 (MQT below (ZQ X (qI (fun r σ' => σ' = σ ∧ Q r)) (fun _ _ => False)) args s 0 0 (zA X)) (F0 m 2 ls []) := by
  intro n
  induction n with
  | zero => intro v3 H locs ls h; exact h.elim
  | succ n ih =>
    intro v3 H locs ls h hw ht0 ht1 hv3 hl
    refine lv_iload_n (pc := 2) K.x K.b dX6_of_2 rfl (lv_at hl 3 rfl) ?_
    refine lv_iload_n (pc := 3) K.x K.b dX6_of_3 rfl (lv_at hl 2 rfl) ?_
    refine z_icmp_ge (pc := 4) (tgt := 29) K hv3 hx2 dX6_of_4 (by decide) (fun hc1 => ?_) (fun hc1 => ?_)
    · have h := ite_t h hc1
      refine z_aload_n (pc := 7) K dX6_of_7 rfl (lv_at hl 1 rfl) ?_
      refine lv_iload_n (pc := 8) K.x K.b dX6_of_8 rfl (lv_at hl 3 rfl) ?_
      obtain ⟨hj2, h⟩ := h
      refine z_aald (pc := 9) (t := 4) (κ := 6) K hw ht1 ⟨by decide, by decide⟩ hfa1 ⟨by decide, by decide⟩ hna1 hj2 (by rw [← hna1]; exact kl_le _ _) dX6_of_9 ?_
      obtain ⟨hn4, h⟩ := h
      have hg3 : tg σ (σ o1 k1 v3) = 12 := okR_nn hn4 (by decide) (by decide) (z_el (t := 4) (κ := 6) (r := 12) hw ht1 ⟨by decide, by decide⟩ hfa1 (by decide) hka1 hna1 hj2)
      refine z_get (pc := 10) (t := 12) (k := 0) K hw (ob (t := 12) hg3) zq12 (by decide) q813 (fun _ h => h) dX6_of_10 (zval_l kf_12_0) ?_
      refine z_aload_n (pc := 13) K dX6_of_13 rfl (lv_at hl 0 rfl) ?_
      refine z_get (pc := 14) (t := 7) (k := 6) K hw (ob (t := 7) ht0) zq7 (by decide) q401 (fun _ h => h) dX6_of_14 (zval_l kf_7_6) ?_
      refine z_lcmp (pc := 17) K (z_rL hw (ob (t := 12) hg3) kf_12_0) (z_rL hw (ob (t := 7) ht0) kf_7_6) dX6_of_17 ?_
      refine z_if_ne (pc := 18) (tgt := 23) K (rng_zcmp _ _) dX6_of_18 (by decide) (fun hc5 => ?_) (fun hc5 => ?_)
      · have hc5 := zcmp_eq.mp hc5
        have h := ite_t h hc5
        refine lv_iload_n (pc := 21) K.x K.b dX6_of_21 rfl (lv_at hl 3 rfl) ?_
        exact z_iret (pc := 22) K hw hv3 ⟨rfl, h⟩ dX6_of_22
      · have hc5 := fun q => hc5 (zcmp_eq.mpr q)
        have h := ite_f h hc5
        refine z_iinc (pc := 23) (k := 3) (lv' := [(3, jI (v3 + 1)), (0, jR X a0), (1, jR X (σ o1 k1 (-1))), (2, jI x2)]) K dX6_of_23 hl rfl (by decide) rfl (fun ls hl => ?_)
        refine z_goto (pc := 26) (tgt := 2) K dX6_of_26 (by decide) ?_
        obtain ⟨hr6, h⟩ := h
        exact ih (v3 + 1) _ _ _ h hw ht0 ht1 hr6 (lv_sub hl [1, 2, 3, 0] rfl)
    · have h := ite_f h hc1
      refine z_iconst (pc := 29) K dX6_of_29 ?_
      exact z_iret (pc := 30) K hw ⟨by decide, by decide⟩ ⟨rfl, h⟩ dX6_of_30
set_option maxHeartbeats 4000000 in
theorem met_X6_of_7_1 (X : Cxt) (l : Launch) (σ : St) (a0 : Int) (o1 : Int) (k1 : Nat) (n1 : Int) (x2 : Int) (ht0 : tg σ a0 = 7) (ht1 : tg σ o1 = 4) (hfa1 : kf 4 k1 = 16) (hna1 : ((kl 4 k1 : Nat) : Int) = n1) (hka1 : kt 4 k1 = 12) (hx2 : rng x2) (Q : Int → Prop) (h : wp_X6_of σ a0 o1 k1 n1 x2 Q) : MetT l yX6_of (ws_ yX6_of cX6_of 4 (some .int)) (zrm 1 0 0) (ZP X σ [jR X a0, jR X (σ o1 k1 (-1)), jI x2]) (ZQ X (qI (fun r σ' => σ' = σ ∧ Q r)) (fun _ _ => False)) 0 0 (zA X) := by
  refine z_start (own := "CombTable$Reader") (lv := [(0, jR X a0), (1, jR X (σ o1 k1 (-1))), (2, jI x2)]) (by decide) rfl (by simp [lv_args, jR_cat, jI_cat, jL_cat]) (by simp [lg_sl, jR_cat, jI_cat, jL_cat]) (fun p e s m below meth c ls K _ _ hw hl => ?_)
  refine z_iconst (pc := 0) K dX6_of_0 ?_
  refine lv_istore_n (pc := 1) (lv' := [(3, jI 0), (0, jR X a0), (1, jR X (σ o1 k1 (-1))), (2, jI x2)]) K.x K.b dX6_of_1 rfl hl (by decide) rfl (fun ls hl => ?_)
  obtain ⟨nf1, h⟩ := h
  exact wk_X6_of_2_7_1 σ a0 o1 k1 n1 x2 Q K hfa1 hna1 hka1 hx2 nf1 0 _ _ _ h hw ht0 ht1 ⟨by decide, by decide⟩ (lv_sub hl [1, 2, 3, 0] rfl)
set_option maxHeartbeats 4000000 in
theorem wk_X6_of_2_8_0 {X : Cxt} {p : Program} {l : Launch} {e : Env} {s : State} {m : MethodId} {args : Array Value} {below : List Frame} {meth : Method} {c : Code} (σ : St) (a0 : Int) (o1 : Int) (k1 : Nat) (n1 : Int) (x2 : Int) (Q : Int → Prop) (K : MCx X p s m args meth c cX6_of 4 "CombTable$Reader" (some .int)) (hfa1 : kf 4 k1 = 15) (hna1 : ((kl 4 k1 : Nat) : Int) = n1) (hka1 : kt 4 k1 = 11) (hx2 : rng x2) : ∀ (n : Nat), ∀ (v3 : Int) (H : Heap) (locs : List Loc) (ls : Array Slot), lp_X6_of_2 σ a0 o1 k1 n1 x2 Q n v3 → Wc X σ s.heap H locs → tg σ a0 = 8 → tg σ o1 = 4 → rng v3 → lv_has ls 4 [(0, jR X a0), (1, jR X (σ o1 k1 (-1))), (2, jI x2), (3, jI v3)] → W p l e (zrm 1 0 0) s m args below meth c H locs 0 0 (MQT below (ZQ X (qI (fun r σ' => σ' = σ ∧ Q r)) (fun _ _ => False)) args s 0 0 (zA X)) (F0 m 2 ls []) := by
  intro n
  induction n with
  | zero => intro v3 H locs ls h; exact h.elim
  | succ n ih =>
    intro v3 H locs ls h hw ht0 ht1 hv3 hl
    refine lv_iload_n (pc := 2) K.x K.b dX6_of_2 rfl (lv_at hl 3 rfl) ?_
    refine lv_iload_n (pc := 3) K.x K.b dX6_of_3 rfl (lv_at hl 2 rfl) ?_
    refine z_icmp_ge (pc := 4) (tgt := 29) K hv3 hx2 dX6_of_4 (by decide) (fun hc1 => ?_) (fun hc1 => ?_)
    · have h := ite_t h hc1
      refine z_aload_n (pc := 7) K dX6_of_7 rfl (lv_at hl 1 rfl) ?_
      refine lv_iload_n (pc := 8) K.x K.b dX6_of_8 rfl (lv_at hl 3 rfl) ?_
      obtain ⟨hj2, h⟩ := h
      refine z_aald (pc := 9) (t := 4) (κ := 5) K hw ht1 ⟨by decide, by decide⟩ hfa1 ⟨by decide, by decide⟩ hna1 hj2 (by rw [← hna1]; exact kl_le _ _) dX6_of_9 ?_
      obtain ⟨hn4, h⟩ := h
      have hg3 : tg σ (σ o1 k1 v3) = 11 := okR_nn hn4 (by decide) (by decide) (z_el (t := 4) (κ := 5) (r := 11) hw ht1 ⟨by decide, by decide⟩ hfa1 (by decide) hka1 hna1 hj2)
      refine z_get (pc := 10) (t := 11) (k := 0) K hw (ob (t := 11) hg3) zq11 (by decide) q813 (fun _ h => h) dX6_of_10 (zval_l kf_11_0) ?_
      refine z_aload_n (pc := 13) K dX6_of_13 rfl (lv_at hl 0 rfl) ?_
      refine z_get (pc := 14) (t := 8) (k := 6) K hw (ob (t := 8) ht0) zq8 (by decide) q401 (fun _ h => h) dX6_of_14 (zval_l kf_8_6) ?_
      refine z_lcmp (pc := 17) K (z_rL hw (ob (t := 11) hg3) kf_11_0) (z_rL hw (ob (t := 8) ht0) kf_8_6) dX6_of_17 ?_
      refine z_if_ne (pc := 18) (tgt := 23) K (rng_zcmp _ _) dX6_of_18 (by decide) (fun hc5 => ?_) (fun hc5 => ?_)
      · have hc5 := zcmp_eq.mp hc5
        have h := ite_t h hc5
        refine lv_iload_n (pc := 21) K.x K.b dX6_of_21 rfl (lv_at hl 3 rfl) ?_
        exact z_iret (pc := 22) K hw hv3 ⟨rfl, h⟩ dX6_of_22
      · have hc5 := fun q => hc5 (zcmp_eq.mpr q)
        have h := ite_f h hc5
        refine z_iinc (pc := 23) (k := 3) (lv' := [(3, jI (v3 + 1)), (0, jR X a0), (1, jR X (σ o1 k1 (-1))), (2, jI x2)]) K dX6_of_23 hl rfl (by decide) rfl (fun ls hl => ?_)
        refine z_goto (pc := 26) (tgt := 2) K dX6_of_26 (by decide) ?_
        obtain ⟨hr6, h⟩ := h
        exact ih (v3 + 1) _ _ _ h hw ht0 ht1 hr6 (lv_sub hl [1, 2, 3, 0] rfl)
    · have h := ite_f h hc1
      refine z_iconst (pc := 29) K dX6_of_29 ?_
      exact z_iret (pc := 30) K hw ⟨by decide, by decide⟩ ⟨rfl, h⟩ dX6_of_30
set_option maxHeartbeats 4000000 in
theorem met_X6_of_8_0 (X : Cxt) (l : Launch) (σ : St) (a0 : Int) (o1 : Int) (k1 : Nat) (n1 : Int) (x2 : Int) (ht0 : tg σ a0 = 8) (ht1 : tg σ o1 = 4) (hfa1 : kf 4 k1 = 15) (hna1 : ((kl 4 k1 : Nat) : Int) = n1) (hka1 : kt 4 k1 = 11) (hx2 : rng x2) (Q : Int → Prop) (h : wp_X6_of σ a0 o1 k1 n1 x2 Q) : MetT l yX6_of (ws_ yX6_of cX6_of 4 (some .int)) (zrm 1 0 0) (ZP X σ [jR X a0, jR X (σ o1 k1 (-1)), jI x2]) (ZQ X (qI (fun r σ' => σ' = σ ∧ Q r)) (fun _ _ => False)) 0 0 (zA X) := by
  refine z_start (own := "CombTable$Reader") (lv := [(0, jR X a0), (1, jR X (σ o1 k1 (-1))), (2, jI x2)]) (by decide) rfl (by simp [lv_args, jR_cat, jI_cat, jL_cat]) (by simp [lg_sl, jR_cat, jI_cat, jL_cat]) (fun p e s m below meth c ls K _ _ hw hl => ?_)
  refine z_iconst (pc := 0) K dX6_of_0 ?_
  refine lv_istore_n (pc := 1) (lv' := [(3, jI 0), (0, jR X a0), (1, jR X (σ o1 k1 (-1))), (2, jI x2)]) K.x K.b dX6_of_1 rfl hl (by decide) rfl (fun ls hl => ?_)
  obtain ⟨nf1, h⟩ := h
  exact wk_X6_of_2_8_0 σ a0 o1 k1 n1 x2 Q K hfa1 hna1 hka1 hx2 nf1 0 _ _ _ h hw ht0 ht1 ⟨by decide, by decide⟩ (lv_sub hl [1, 2, 3, 0] rfl)
set_option maxHeartbeats 4000000 in
theorem wk_X6_of_2_8_1 {X : Cxt} {p : Program} {l : Launch} {e : Env} {s : State} {m : MethodId} {args : Array Value} {below : List Frame} {meth : Method} {c : Code} (σ : St) (a0 : Int) (o1 : Int) (k1 : Nat) (n1 : Int) (x2 : Int) (Q : Int → Prop) (K : MCx X p s m args meth c cX6_of 4 "CombTable$Reader" (some .int)) (hfa1 : kf 4 k1 = 16) (hna1 : ((kl 4 k1 : Nat) : Int) = n1) (hka1 : kt 4 k1 = 12) (hx2 : rng x2) : ∀ (n : Nat), ∀ (v3 : Int) (H : Heap) (locs : List Loc) (ls : Array Slot), lp_X6_of_2 σ a0 o1 k1 n1 x2 Q n v3 → Wc X σ s.heap H locs → tg σ a0 = 8 → tg σ o1 = 4 → rng v3 → lv_has ls 4 [(0, jR X a0), (1, jR X (σ o1 k1 (-1))), (2, jI x2), (3, jI v3)] → W p l e (zrm 1 0 0) s m args below meth c H locs 0 0 (MQT below (ZQ X (qI (fun r σ' => σ' = σ ∧ Q r)) (fun _ _ => False)) args s 0 0 (zA X)) (F0 m 2 ls []) := by
  intro n
  induction n with
  | zero => intro v3 H locs ls h; exact h.elim
  | succ n ih =>
    intro v3 H locs ls h hw ht0 ht1 hv3 hl
    refine lv_iload_n (pc := 2) K.x K.b dX6_of_2 rfl (lv_at hl 3 rfl) ?_
    refine lv_iload_n (pc := 3) K.x K.b dX6_of_3 rfl (lv_at hl 2 rfl) ?_
    refine z_icmp_ge (pc := 4) (tgt := 29) K hv3 hx2 dX6_of_4 (by decide) (fun hc1 => ?_) (fun hc1 => ?_)
    · have h := ite_t h hc1
      refine z_aload_n (pc := 7) K dX6_of_7 rfl (lv_at hl 1 rfl) ?_
      refine lv_iload_n (pc := 8) K.x K.b dX6_of_8 rfl (lv_at hl 3 rfl) ?_
      obtain ⟨hj2, h⟩ := h
      refine z_aald (pc := 9) (t := 4) (κ := 6) K hw ht1 ⟨by decide, by decide⟩ hfa1 ⟨by decide, by decide⟩ hna1 hj2 (by rw [← hna1]; exact kl_le _ _) dX6_of_9 ?_
      obtain ⟨hn4, h⟩ := h
      have hg3 : tg σ (σ o1 k1 v3) = 12 := okR_nn hn4 (by decide) (by decide) (z_el (t := 4) (κ := 6) (r := 12) hw ht1 ⟨by decide, by decide⟩ hfa1 (by decide) hka1 hna1 hj2)
      refine z_get (pc := 10) (t := 12) (k := 0) K hw (ob (t := 12) hg3) zq12 (by decide) q813 (fun _ h => h) dX6_of_10 (zval_l kf_12_0) ?_
      refine z_aload_n (pc := 13) K dX6_of_13 rfl (lv_at hl 0 rfl) ?_
      refine z_get (pc := 14) (t := 8) (k := 6) K hw (ob (t := 8) ht0) zq8 (by decide) q401 (fun _ h => h) dX6_of_14 (zval_l kf_8_6) ?_
      refine z_lcmp (pc := 17) K (z_rL hw (ob (t := 12) hg3) kf_12_0) (z_rL hw (ob (t := 8) ht0) kf_8_6) dX6_of_17 ?_
      refine z_if_ne (pc := 18) (tgt := 23) K (rng_zcmp _ _) dX6_of_18 (by decide) (fun hc5 => ?_) (fun hc5 => ?_)
      · have hc5 := zcmp_eq.mp hc5
        have h := ite_t h hc5
        refine lv_iload_n (pc := 21) K.x K.b dX6_of_21 rfl (lv_at hl 3 rfl) ?_
        exact z_iret (pc := 22) K hw hv3 ⟨rfl, h⟩ dX6_of_22
      · have hc5 := fun q => hc5 (zcmp_eq.mpr q)
        have h := ite_f h hc5
        refine z_iinc (pc := 23) (k := 3) (lv' := [(3, jI (v3 + 1)), (0, jR X a0), (1, jR X (σ o1 k1 (-1))), (2, jI x2)]) K dX6_of_23 hl rfl (by decide) rfl (fun ls hl => ?_)
        refine z_goto (pc := 26) (tgt := 2) K dX6_of_26 (by decide) ?_
        obtain ⟨hr6, h⟩ := h
        exact ih (v3 + 1) _ _ _ h hw ht0 ht1 hr6 (lv_sub hl [1, 2, 3, 0] rfl)
    · have h := ite_f h hc1
      refine z_iconst (pc := 29) K dX6_of_29 ?_
      exact z_iret (pc := 30) K hw ⟨by decide, by decide⟩ ⟨rfl, h⟩ dX6_of_30
set_option maxHeartbeats 4000000 in
theorem met_X6_of_8_1 (X : Cxt) (l : Launch) (σ : St) (a0 : Int) (o1 : Int) (k1 : Nat) (n1 : Int) (x2 : Int) (ht0 : tg σ a0 = 8) (ht1 : tg σ o1 = 4) (hfa1 : kf 4 k1 = 16) (hna1 : ((kl 4 k1 : Nat) : Int) = n1) (hka1 : kt 4 k1 = 12) (hx2 : rng x2) (Q : Int → Prop) (h : wp_X6_of σ a0 o1 k1 n1 x2 Q) : MetT l yX6_of (ws_ yX6_of cX6_of 4 (some .int)) (zrm 1 0 0) (ZP X σ [jR X a0, jR X (σ o1 k1 (-1)), jI x2]) (ZQ X (qI (fun r σ' => σ' = σ ∧ Q r)) (fun _ _ => False)) 0 0 (zA X) := by
  refine z_start (own := "CombTable$Reader") (lv := [(0, jR X a0), (1, jR X (σ o1 k1 (-1))), (2, jI x2)]) (by decide) rfl (by simp [lv_args, jR_cat, jI_cat, jL_cat]) (by simp [lg_sl, jR_cat, jI_cat, jL_cat]) (fun p e s m below meth c ls K _ _ hw hl => ?_)
  refine z_iconst (pc := 0) K dX6_of_0 ?_
  refine lv_istore_n (pc := 1) (lv' := [(3, jI 0), (0, jR X a0), (1, jR X (σ o1 k1 (-1))), (2, jI x2)]) K.x K.b dX6_of_1 rfl hl (by decide) rfl (fun ls hl => ?_)
  obtain ⟨nf1, h⟩ := h
  exact wk_X6_of_2_8_1 σ a0 o1 k1 n1 x2 Q K hfa1 hna1 hka1 hx2 nf1 0 _ _ _ h hw ht0 ht1 ⟨by decide, by decide⟩ (lv_sub hl [1, 2, 3, 0] rfl)
set_option maxHeartbeats 4000000 in
theorem wk_X6_of_2_9_0 {X : Cxt} {p : Program} {l : Launch} {e : Env} {s : State} {m : MethodId} {args : Array Value} {below : List Frame} {meth : Method} {c : Code} (σ : St) (a0 : Int) (o1 : Int) (k1 : Nat) (n1 : Int) (x2 : Int) (Q : Int → Prop) (K : MCx X p s m args meth c cX6_of 4 "CombTable$Reader" (some .int)) (hfa1 : kf 4 k1 = 15) (hna1 : ((kl 4 k1 : Nat) : Int) = n1) (hka1 : kt 4 k1 = 11) (hx2 : rng x2) : ∀ (n : Nat), ∀ (v3 : Int) (H : Heap) (locs : List Loc) (ls : Array Slot), lp_X6_of_2 σ a0 o1 k1 n1 x2 Q n v3 → Wc X σ s.heap H locs → tg σ a0 = 9 → tg σ o1 = 4 → rng v3 → lv_has ls 4 [(0, jR X a0), (1, jR X (σ o1 k1 (-1))), (2, jI x2), (3, jI v3)] → W p l e (zrm 1 0 0) s m args below meth c H locs 0 0 (MQT below (ZQ X (qI (fun r σ' => σ' = σ ∧ Q r)) (fun _ _ => False)) args s 0 0 (zA X)) (F0 m 2 ls []) := by
  intro n
  induction n with
  | zero => intro v3 H locs ls h; exact h.elim
  | succ n ih =>
    intro v3 H locs ls h hw ht0 ht1 hv3 hl
    refine lv_iload_n (pc := 2) K.x K.b dX6_of_2 rfl (lv_at hl 3 rfl) ?_
    refine lv_iload_n (pc := 3) K.x K.b dX6_of_3 rfl (lv_at hl 2 rfl) ?_
    refine z_icmp_ge (pc := 4) (tgt := 29) K hv3 hx2 dX6_of_4 (by decide) (fun hc1 => ?_) (fun hc1 => ?_)
    · have h := ite_t h hc1
      refine z_aload_n (pc := 7) K dX6_of_7 rfl (lv_at hl 1 rfl) ?_
      refine lv_iload_n (pc := 8) K.x K.b dX6_of_8 rfl (lv_at hl 3 rfl) ?_
      obtain ⟨hj2, h⟩ := h
      refine z_aald (pc := 9) (t := 4) (κ := 5) K hw ht1 ⟨by decide, by decide⟩ hfa1 ⟨by decide, by decide⟩ hna1 hj2 (by rw [← hna1]; exact kl_le _ _) dX6_of_9 ?_
      obtain ⟨hn4, h⟩ := h
      have hg3 : tg σ (σ o1 k1 v3) = 11 := okR_nn hn4 (by decide) (by decide) (z_el (t := 4) (κ := 5) (r := 11) hw ht1 ⟨by decide, by decide⟩ hfa1 (by decide) hka1 hna1 hj2)
      refine z_get (pc := 10) (t := 11) (k := 0) K hw (ob (t := 11) hg3) zq11 (by decide) q813 (fun _ h => h) dX6_of_10 (zval_l kf_11_0) ?_
      refine z_aload_n (pc := 13) K dX6_of_13 rfl (lv_at hl 0 rfl) ?_
      refine z_get (pc := 14) (t := 9) (k := 6) K hw (ob (t := 9) ht0) zq9 (by decide) q401 (fun _ h => h) dX6_of_14 (zval_l kf_9_6) ?_
      refine z_lcmp (pc := 17) K (z_rL hw (ob (t := 11) hg3) kf_11_0) (z_rL hw (ob (t := 9) ht0) kf_9_6) dX6_of_17 ?_
      refine z_if_ne (pc := 18) (tgt := 23) K (rng_zcmp _ _) dX6_of_18 (by decide) (fun hc5 => ?_) (fun hc5 => ?_)
      · have hc5 := zcmp_eq.mp hc5
        have h := ite_t h hc5
        refine lv_iload_n (pc := 21) K.x K.b dX6_of_21 rfl (lv_at hl 3 rfl) ?_
        exact z_iret (pc := 22) K hw hv3 ⟨rfl, h⟩ dX6_of_22
      · have hc5 := fun q => hc5 (zcmp_eq.mpr q)
        have h := ite_f h hc5
        refine z_iinc (pc := 23) (k := 3) (lv' := [(3, jI (v3 + 1)), (0, jR X a0), (1, jR X (σ o1 k1 (-1))), (2, jI x2)]) K dX6_of_23 hl rfl (by decide) rfl (fun ls hl => ?_)
        refine z_goto (pc := 26) (tgt := 2) K dX6_of_26 (by decide) ?_
        obtain ⟨hr6, h⟩ := h
        exact ih (v3 + 1) _ _ _ h hw ht0 ht1 hr6 (lv_sub hl [1, 2, 3, 0] rfl)
    · have h := ite_f h hc1
      refine z_iconst (pc := 29) K dX6_of_29 ?_
      exact z_iret (pc := 30) K hw ⟨by decide, by decide⟩ ⟨rfl, h⟩ dX6_of_30
set_option maxHeartbeats 4000000 in
theorem met_X6_of_9_0 (X : Cxt) (l : Launch) (σ : St) (a0 : Int) (o1 : Int) (k1 : Nat) (n1 : Int) (x2 : Int) (ht0 : tg σ a0 = 9) (ht1 : tg σ o1 = 4) (hfa1 : kf 4 k1 = 15) (hna1 : ((kl 4 k1 : Nat) : Int) = n1) (hka1 : kt 4 k1 = 11) (hx2 : rng x2) (Q : Int → Prop) (h : wp_X6_of σ a0 o1 k1 n1 x2 Q) : MetT l yX6_of (ws_ yX6_of cX6_of 4 (some .int)) (zrm 1 0 0) (ZP X σ [jR X a0, jR X (σ o1 k1 (-1)), jI x2]) (ZQ X (qI (fun r σ' => σ' = σ ∧ Q r)) (fun _ _ => False)) 0 0 (zA X) := by
  refine z_start (own := "CombTable$Reader") (lv := [(0, jR X a0), (1, jR X (σ o1 k1 (-1))), (2, jI x2)]) (by decide) rfl (by simp [lv_args, jR_cat, jI_cat, jL_cat]) (by simp [lg_sl, jR_cat, jI_cat, jL_cat]) (fun p e s m below meth c ls K _ _ hw hl => ?_)
  refine z_iconst (pc := 0) K dX6_of_0 ?_
  refine lv_istore_n (pc := 1) (lv' := [(3, jI 0), (0, jR X a0), (1, jR X (σ o1 k1 (-1))), (2, jI x2)]) K.x K.b dX6_of_1 rfl hl (by decide) rfl (fun ls hl => ?_)
  obtain ⟨nf1, h⟩ := h
  exact wk_X6_of_2_9_0 σ a0 o1 k1 n1 x2 Q K hfa1 hna1 hka1 hx2 nf1 0 _ _ _ h hw ht0 ht1 ⟨by decide, by decide⟩ (lv_sub hl [1, 2, 3, 0] rfl)
set_option maxHeartbeats 4000000 in
theorem wk_X6_of_2_9_1 {X : Cxt} {p : Program} {l : Launch} {e : Env} {s : State} {m : MethodId} {args : Array Value} {below : List Frame} {meth : Method} {c : Code} (σ : St) (a0 : Int) (o1 : Int) (k1 : Nat) (n1 : Int) (x2 : Int) (Q : Int → Prop) (K : MCx X p s m args meth c cX6_of 4 "CombTable$Reader" (some .int)) (hfa1 : kf 4 k1 = 16) (hna1 : ((kl 4 k1 : Nat) : Int) = n1) (hka1 : kt 4 k1 = 12) (hx2 : rng x2) : ∀ (n : Nat), ∀ (v3 : Int) (H : Heap) (locs : List Loc) (ls : Array Slot), lp_X6_of_2 σ a0 o1 k1 n1 x2 Q n v3 → Wc X σ s.heap H locs → tg σ a0 = 9 → tg σ o1 = 4 → rng v3 → lv_has ls 4 [(0, jR X a0), (1, jR X (σ o1 k1 (-1))), (2, jI x2), (3, jI v3)] → W p l e (zrm 1 0 0) s m args below meth c H locs 0 0 (MQT below (ZQ X (qI (fun r σ' => σ' = σ ∧ Q r)) (fun _ _ => False)) args s 0 0 (zA X)) (F0 m 2 ls []) := by
  intro n
  induction n with
  | zero => intro v3 H locs ls h; exact h.elim
  | succ n ih =>
    intro v3 H locs ls h hw ht0 ht1 hv3 hl
    refine lv_iload_n (pc := 2) K.x K.b dX6_of_2 rfl (lv_at hl 3 rfl) ?_
    refine lv_iload_n (pc := 3) K.x K.b dX6_of_3 rfl (lv_at hl 2 rfl) ?_
    refine z_icmp_ge (pc := 4) (tgt := 29) K hv3 hx2 dX6_of_4 (by decide) (fun hc1 => ?_) (fun hc1 => ?_)
    · have h := ite_t h hc1
      refine z_aload_n (pc := 7) K dX6_of_7 rfl (lv_at hl 1 rfl) ?_
      refine lv_iload_n (pc := 8) K.x K.b dX6_of_8 rfl (lv_at hl 3 rfl) ?_
      obtain ⟨hj2, h⟩ := h
      refine z_aald (pc := 9) (t := 4) (κ := 6) K hw ht1 ⟨by decide, by decide⟩ hfa1 ⟨by decide, by decide⟩ hna1 hj2 (by rw [← hna1]; exact kl_le _ _) dX6_of_9 ?_
      obtain ⟨hn4, h⟩ := h
      have hg3 : tg σ (σ o1 k1 v3) = 12 := okR_nn hn4 (by decide) (by decide) (z_el (t := 4) (κ := 6) (r := 12) hw ht1 ⟨by decide, by decide⟩ hfa1 (by decide) hka1 hna1 hj2)
      refine z_get (pc := 10) (t := 12) (k := 0) K hw (ob (t := 12) hg3) zq12 (by decide) q813 (fun _ h => h) dX6_of_10 (zval_l kf_12_0) ?_
      refine z_aload_n (pc := 13) K dX6_of_13 rfl (lv_at hl 0 rfl) ?_
      refine z_get (pc := 14) (t := 9) (k := 6) K hw (ob (t := 9) ht0) zq9 (by decide) q401 (fun _ h => h) dX6_of_14 (zval_l kf_9_6) ?_
      refine z_lcmp (pc := 17) K (z_rL hw (ob (t := 12) hg3) kf_12_0) (z_rL hw (ob (t := 9) ht0) kf_9_6) dX6_of_17 ?_
      refine z_if_ne (pc := 18) (tgt := 23) K (rng_zcmp _ _) dX6_of_18 (by decide) (fun hc5 => ?_) (fun hc5 => ?_)
      · have hc5 := zcmp_eq.mp hc5
        have h := ite_t h hc5
        refine lv_iload_n (pc := 21) K.x K.b dX6_of_21 rfl (lv_at hl 3 rfl) ?_
        exact z_iret (pc := 22) K hw hv3 ⟨rfl, h⟩ dX6_of_22
      · have hc5 := fun q => hc5 (zcmp_eq.mpr q)
        have h := ite_f h hc5
        refine z_iinc (pc := 23) (k := 3) (lv' := [(3, jI (v3 + 1)), (0, jR X a0), (1, jR X (σ o1 k1 (-1))), (2, jI x2)]) K dX6_of_23 hl rfl (by decide) rfl (fun ls hl => ?_)
        refine z_goto (pc := 26) (tgt := 2) K dX6_of_26 (by decide) ?_
        obtain ⟨hr6, h⟩ := h
        exact ih (v3 + 1) _ _ _ h hw ht0 ht1 hr6 (lv_sub hl [1, 2, 3, 0] rfl)
    · have h := ite_f h hc1
      refine z_iconst (pc := 29) K dX6_of_29 ?_
      exact z_iret (pc := 30) K hw ⟨by decide, by decide⟩ ⟨rfl, h⟩ dX6_of_30
set_option maxHeartbeats 4000000 in
theorem met_X6_of_9_1 (X : Cxt) (l : Launch) (σ : St) (a0 : Int) (o1 : Int) (k1 : Nat) (n1 : Int) (x2 : Int) (ht0 : tg σ a0 = 9) (ht1 : tg σ o1 = 4) (hfa1 : kf 4 k1 = 16) (hna1 : ((kl 4 k1 : Nat) : Int) = n1) (hka1 : kt 4 k1 = 12) (hx2 : rng x2) (Q : Int → Prop) (h : wp_X6_of σ a0 o1 k1 n1 x2 Q) : MetT l yX6_of (ws_ yX6_of cX6_of 4 (some .int)) (zrm 1 0 0) (ZP X σ [jR X a0, jR X (σ o1 k1 (-1)), jI x2]) (ZQ X (qI (fun r σ' => σ' = σ ∧ Q r)) (fun _ _ => False)) 0 0 (zA X) := by
  refine z_start (own := "CombTable$Reader") (lv := [(0, jR X a0), (1, jR X (σ o1 k1 (-1))), (2, jI x2)]) (by decide) rfl (by simp [lv_args, jR_cat, jI_cat, jL_cat]) (by simp [lg_sl, jR_cat, jI_cat, jL_cat]) (fun p e s m below meth c ls K _ _ hw hl => ?_)
  refine z_iconst (pc := 0) K dX6_of_0 ?_
  refine lv_istore_n (pc := 1) (lv' := [(3, jI 0), (0, jR X a0), (1, jR X (σ o1 k1 (-1))), (2, jI x2)]) K.x K.b dX6_of_1 rfl hl (by decide) rfl (fun ls hl => ?_)
  obtain ⟨nf1, h⟩ := h
  exact wk_X6_of_2_9_1 σ a0 o1 k1 n1 x2 Q K hfa1 hna1 hka1 hx2 nf1 0 _ _ _ h hw ht0 ht1 ⟨by decide, by decide⟩ (lv_sub hl [1, 2, 3, 0] rfl)
def ws_X6_known : List (Int × Nat) := [(2, 6), (2, 7), (6, 1), (6, 2), (6, 3), (6, 4), (6, 5), (6, 6), (7, 1), (7, 2), (7, 3), (7, 4), (7, 5), (7, 6), (8, 1), (8, 2), (8, 3), (8, 4), (8, 5), (8, 6), (9, 1), (9, 2), (9, 3), (9, 4), (9, 5), (9, 6)]
theorem wo_X6_known : wsOk ws_X6_known = true := rfl
def wp_X6_known_b27 (a0 : Int) (o1 : Int) (k1 : Nat) (n1 : Int) (x2 : Int) (Q : Int → St → Prop) (E : Int → St → Prop) (σ0 : St) (σ : St) (v3 : Int) (s1 : Int) : Prop :=
  wp_X6_must σ a0 s1 3 (fun σ4 => Kp ws_X6_must σ σ4 → wp_X6_next σ4 a0 (fun σ12 => Kp ws_X6_next σ4 σ12 → Q v3 σ12)) (fun x σx => Kp ws_X6_must σ σx → E x σx)
def wp_X6_known (σ : St) (a0 : Int) (o1 : Int) (k1 : Nat) (n1 : Int) (x2 : Int) (Q : Int → St → Prop) (E : Int → St → Prop) : Prop :=
  wp_X6_isName σ a0 (fun r1 => wp_X6_must σ a0 r1 1 (fun σ9 => Kp ws_X6_must σ σ9 → wp_X6_of σ9 a0 o1 k1 n1 x2 (fun r15 => (if r15 = (-1) then
    (wp_X6_known_b27 a0 o1 k1 n1 x2 Q E σ σ9 r15 0)
    else
    (wp_X6_known_b27 a0 o1 k1 n1 x2 Q E σ σ9 r15 1)))) (fun x σx => Kp ws_X6_must σ σx → E x σx))
set_option maxHeartbeats 4000000 in
theorem wk_X6_known_b27_6_0 {X : Cxt} {p : Program} {l : Launch} {e : Env} {s : State} {m : MethodId} {args : Array Value} {below : List Frame} {meth : Method} {c : Code} (a0 : Int) (o1 : Int) (k1 : Nat) (n1 : Int) (x2 : Int) (Q : Int → St → Prop) (E : Int → St → Prop) (σ0 : St) (K : MCx X p s m args meth c cX6_known 4 "CombTable$Reader" (some .int)) (hex : c.exceptionTable.isEmpty = true) (hfa1 : kf 4 k1 = 15) (hna1 : ((kl 4 k1 : Nat) : Int) = n1) (hka1 : kt 4 k1 = 11) (hx2 : rng x2) : ∀ (σ : St) (v3 : Int) (s1 : Int) (H : Heap) (locs : List Loc) (ls : Array Slot), wp_X6_known_b27 a0 o1 k1 n1 x2 Q E σ0 σ v3 s1 → Wc X σ s.heap H locs → Kp ws_X6_known σ0 σ → tg σ a0 = 6 → rng v3 → (0 ≤ s1 ∧ s1 ≤ 1) → lv_has ls 4 [(0, jR X a0), (3, jI v3)] → W p l e (zrm 8 0 0) s m args below meth c H locs 0 0 (MQT below (ZQ X (qI (fun r σ' => Kp ws_X6_known σ0 σ' ∧ Q r σ')) (fun x σ' => tg σ' x = 2 ∧ Kp ws_X6_known σ0 σ' ∧ E x σ')) args s 0 0 (zA X)) (F0 m 27 ls [jI s1, jR X a0]) := by
  intro σ v3 s1 H locs ls h hw hk ht0 hv3 hs1 hl
  refine z_iconst (pc := 27) K dX6_known_27 ?_
  refine zt_v (pc := 28) (maxL := 3) K hw (met_X6_must_6 X l σ a0 s1 3 ht0 hs1 ⟨by decide, by decide⟩ _ _ h) (i_V (n := 2) (t := 6) (As := [jI s1, jI 3]) K hw (ob ht0) zq6 (by decide) q801 q758 q2037 (sg_of K q759) rfl rfl dX6_known_28) (locw K q759 q97) ⟨by decide, by decide⟩ hl.1 dX6_known_28 (Nat.le_of_ble_eq_true rfl) ⟨Nat.le_refl _, Nat.le_refl _⟩ (fun σ4 _ _ hq3 hw5 => ?_) (fun x σx _ _ hx0 hqx hwx => ?_)
  rotate_left
  · obtain ⟨htx, hkx, h⟩ := hqx
    have h := h hkx
    exact z_out K hwx hx0 ⟨htx, kp_trans wo_X6_known hk hkx (fun _ q => q) (by decide), h⟩ (no_cov hex 28)
  obtain ⟨hk6, h⟩ := hq3
  have h := h hk6
  have hk7 := kp_trans wo_X6_known hk hk6 (fun _ q => q) (by decide)
  have hg8 : tg σ4 a0 = 6 := kp_tg hk6 wo_X6_must ht0 (by decide)
  refine z_aload_n (pc := 31) K dX6_known_31 rfl (lv_at hl 0 rfl) ?_
  refine zc_v (pc := 32) (maxL := 2) K hw5 (met_X6_next_6 X l σ4 a0 hg8 _ h) (i_V (n := 0) (t := 6) (As := []) K hw5 (ob hg8) zq6 (by decide) q665 q666 q670 (sg_of K q672) rfl rfl dX6_known_32) (locw K q672 q97) ⟨by decide, by decide⟩ hl.1 dX6_known_32 (Nat.le_of_ble_eq_true rfl) ⟨Nat.le_refl _, Nat.le_refl _⟩ (fun σ12 _ _ hq11 hw13 => ?_)
  obtain ⟨hk14, h⟩ := hq11
  have h := h hk14
  have hk15 := kp_trans wo_X6_known hk7 hk14 (fun _ q => q) (by decide)
  have hg16 : tg σ12 a0 = 6 := kp_tg hk14 wo_X6_next hg8 (by decide)
  refine lv_iload_n (pc := 35) K.x K.b dX6_known_35 rfl (lv_at hl 1 rfl) ?_
  exact z_iret (pc := 36) K hw13 hv3 ⟨hk15, h⟩ dX6_known_36
set_option maxHeartbeats 4000000 in
theorem met_X6_known_6_0 (X : Cxt) (l : Launch) (σ : St) (a0 : Int) (o1 : Int) (k1 : Nat) (n1 : Int) (x2 : Int) (ht0 : tg σ a0 = 6) (ht1 : tg σ o1 = 4) (hfa1 : kf 4 k1 = 15) (hna1 : ((kl 4 k1 : Nat) : Int) = n1) (hka1 : kt 4 k1 = 11) (hx2 : rng x2) (Q : Int → St → Prop) (E : Int → St → Prop) (h : wp_X6_known σ a0 o1 k1 n1 x2 Q E) : MetT l yX6_known (ws_ yX6_known cX6_known 4 (some .int)) (zrm 8 0 0) (ZP X σ [jR X a0, jR X (σ o1 k1 (-1)), jI x2]) (ZQ X (qI (fun r σ' => Kp ws_X6_known σ σ' ∧ Q r σ')) (fun x σ' => tg σ' x = 2 ∧ Kp ws_X6_known σ σ' ∧ E x σ')) 0 0 (zA X) := by
  refine z_start (own := "CombTable$Reader") (lv := [(0, jR X a0), (1, jR X (σ o1 k1 (-1))), (2, jI x2)]) (by decide) rfl (by simp [lv_args, jR_cat, jI_cat, jL_cat]) (by simp [lg_sl, jR_cat, jI_cat, jL_cat]) (fun p e s m below meth c ls K hex _ hw hl => ?_)
  have hk : Kp ws_X6_known σ σ := kp_rf σ
  refine z_aload_n (pc := 0) K dX6_known_0 rfl (lv_at hl 0 rfl) ?_
  refine z_aload_n (pc := 1) K dX6_known_1 rfl (lv_at hl 0 rfl) ?_
  refine zr_z (pc := 2) (maxL := 1) K hw (met_X6_isName_6 X l σ a0 ht0 _ h) (i_V (n := 0) (t := 6) (As := []) K hw (ob ht0) zq6 (by decide) q863 q784 q2042 (sg_of K q785) rfl rfl dX6_known_2) (locw K q785 q97) ⟨by decide, by decide⟩ hl.1 dX6_known_2 (Nat.le_of_ble_eq_true rfl) ⟨Nat.le_refl _, Nat.le_refl _⟩ (fun r1 _ _ hr2 h hw5 => ?_)
  refine z_iconst (pc := 5) K dX6_known_5 ?_
  refine zt_v (pc := 6) (maxL := 3) K hw5 (met_X6_must_6 X l σ a0 r1 1 ht0 hr2 ⟨by decide, by decide⟩ _ _ h) (i_V (n := 2) (t := 6) (As := [jI r1, jI 1]) K hw5 (ob ht0) zq6 (by decide) q801 q758 q2037 (sg_of K q759) rfl rfl dX6_known_6) (locw K q759 q97) ⟨by decide, by decide⟩ hl.1 dX6_known_6 (Nat.le_of_ble_eq_true rfl) ⟨Nat.le_refl _, Nat.le_refl _⟩ (fun σ9 _ _ hq8 hw10 => ?_) (fun x σx _ _ hx0 hqx hwx => ?_)
  rotate_left
  · obtain ⟨htx, hkx, h⟩ := hqx
    have h := h hkx
    exact z_out K hwx hx0 ⟨htx, kp_trans wo_X6_known hk hkx (fun _ q => q) (by decide), h⟩ (no_cov hex 6)
  obtain ⟨hk11, h⟩ := hq8
  have h := h hk11
  have hk12 := kp_trans wo_X6_known hk hk11 (fun _ q => q) (by decide)
  have hg13 : tg σ9 a0 = 6 := kp_tg hk11 wo_X6_must ht0 (by decide)
  have hg14 : tg σ9 o1 = 4 := kp_tg hk11 wo_X6_must ht1 (by decide)
  rw [show σ o1 k1 (-1) = σ9 o1 k1 (-1) from ptr_k hk11 ht1 (by decide)] at hl
  refine z_aload_n (pc := 9) K dX6_known_9 rfl (lv_at hl 0 rfl) ?_
  refine z_aload_n (pc := 10) K dX6_known_10 rfl (lv_at hl 1 rfl) ?_
  refine lv_iload_n (pc := 11) K.x K.b dX6_known_11 rfl (lv_at hl 2 rfl) ?_
  refine zr_i (pc := 12) (maxL := 4) K hw10 (met_X6_of_6_0 X l σ9 a0 o1 k1 n1 x2 hg13 hg14 hfa1 hna1 hka1 hx2 _ h) (i_V (n := 2) (t := 6) (As := [jR X (σ9 o1 k1 (-1)), jI x2]) K hw10 (ob hg13) zq6 (by decide) q864 q791 q2047 (sg_of K q792) rfl rfl dX6_known_12) (locw K q792 q97) ⟨by decide, by decide⟩ hl.1 dX6_known_12 (Nat.le_of_ble_eq_true rfl) ⟨Nat.le_refl _, Nat.le_refl _⟩ (fun r15 _ _ hr16 h hw19 => ?_)
  refine lv_istore_n (pc := 15) (lv' := [(3, jI r15), (0, jR X a0), (1, jR X (σ9 o1 k1 (-1))), (2, jI x2)]) K.x K.b dX6_known_15 rfl hl (by decide) rfl (fun ls hl => ?_)
  refine z_aload_n (pc := 16) K dX6_known_16 rfl (lv_at hl 1 rfl) ?_
  refine lv_iload_n (pc := 17) K.x K.b dX6_known_17 rfl (lv_at hl 0 rfl) ?_
  refine z_iconst (pc := 18) K dX6_known_18 ?_
  refine z_icmp_eq (pc := 19) (tgt := 26) K hr16 ⟨by decide, by decide⟩ dX6_known_19 (by decide) (fun hc20 => ?_) (fun hc20 => ?_)
  · have h := ite_t h hc20
    refine z_iconst (pc := 26) K dX6_known_26 ?_
    exact wk_X6_known_b27_6_0 a0 o1 k1 n1 x2 Q E σ K hex hfa1 hna1 hka1 hx2 σ9 r15 0 _ _ _ h hw19 hk12 hg13 hr16 ⟨by decide, by decide⟩ (lv_sub hl [1, 0] rfl)
  · have h := ite_f h hc20
    refine z_iconst (pc := 22) K dX6_known_22 ?_
    refine z_goto (pc := 23) (tgt := 27) K dX6_known_23 (by decide) ?_
    exact wk_X6_known_b27_6_0 a0 o1 k1 n1 x2 Q E σ K hex hfa1 hna1 hka1 hx2 σ9 r15 1 _ _ _ h hw19 hk12 hg13 hr16 ⟨by decide, by decide⟩ (lv_sub hl [1, 0] rfl)
set_option maxHeartbeats 4000000 in
theorem wk_X6_known_b27_6_1 {X : Cxt} {p : Program} {l : Launch} {e : Env} {s : State} {m : MethodId} {args : Array Value} {below : List Frame} {meth : Method} {c : Code} (a0 : Int) (o1 : Int) (k1 : Nat) (n1 : Int) (x2 : Int) (Q : Int → St → Prop) (E : Int → St → Prop) (σ0 : St) (K : MCx X p s m args meth c cX6_known 4 "CombTable$Reader" (some .int)) (hex : c.exceptionTable.isEmpty = true) (hfa1 : kf 4 k1 = 16) (hna1 : ((kl 4 k1 : Nat) : Int) = n1) (hka1 : kt 4 k1 = 12) (hx2 : rng x2) : ∀ (σ : St) (v3 : Int) (s1 : Int) (H : Heap) (locs : List Loc) (ls : Array Slot), wp_X6_known_b27 a0 o1 k1 n1 x2 Q E σ0 σ v3 s1 → Wc X σ s.heap H locs → Kp ws_X6_known σ0 σ → tg σ a0 = 6 → rng v3 → (0 ≤ s1 ∧ s1 ≤ 1) → lv_has ls 4 [(0, jR X a0), (3, jI v3)] → W p l e (zrm 8 0 0) s m args below meth c H locs 0 0 (MQT below (ZQ X (qI (fun r σ' => Kp ws_X6_known σ0 σ' ∧ Q r σ')) (fun x σ' => tg σ' x = 2 ∧ Kp ws_X6_known σ0 σ' ∧ E x σ')) args s 0 0 (zA X)) (F0 m 27 ls [jI s1, jR X a0]) := by
  intro σ v3 s1 H locs ls h hw hk ht0 hv3 hs1 hl
  refine z_iconst (pc := 27) K dX6_known_27 ?_
  refine zt_v (pc := 28) (maxL := 3) K hw (met_X6_must_6 X l σ a0 s1 3 ht0 hs1 ⟨by decide, by decide⟩ _ _ h) (i_V (n := 2) (t := 6) (As := [jI s1, jI 3]) K hw (ob ht0) zq6 (by decide) q801 q758 q2037 (sg_of K q759) rfl rfl dX6_known_28) (locw K q759 q97) ⟨by decide, by decide⟩ hl.1 dX6_known_28 (Nat.le_of_ble_eq_true rfl) ⟨Nat.le_refl _, Nat.le_refl _⟩ (fun σ4 _ _ hq3 hw5 => ?_) (fun x σx _ _ hx0 hqx hwx => ?_)
  rotate_left
  · obtain ⟨htx, hkx, h⟩ := hqx
    have h := h hkx
    exact z_out K hwx hx0 ⟨htx, kp_trans wo_X6_known hk hkx (fun _ q => q) (by decide), h⟩ (no_cov hex 28)
  obtain ⟨hk6, h⟩ := hq3
  have h := h hk6
  have hk7 := kp_trans wo_X6_known hk hk6 (fun _ q => q) (by decide)
  have hg8 : tg σ4 a0 = 6 := kp_tg hk6 wo_X6_must ht0 (by decide)
  refine z_aload_n (pc := 31) K dX6_known_31 rfl (lv_at hl 0 rfl) ?_
  refine zc_v (pc := 32) (maxL := 2) K hw5 (met_X6_next_6 X l σ4 a0 hg8 _ h) (i_V (n := 0) (t := 6) (As := []) K hw5 (ob hg8) zq6 (by decide) q665 q666 q670 (sg_of K q672) rfl rfl dX6_known_32) (locw K q672 q97) ⟨by decide, by decide⟩ hl.1 dX6_known_32 (Nat.le_of_ble_eq_true rfl) ⟨Nat.le_refl _, Nat.le_refl _⟩ (fun σ12 _ _ hq11 hw13 => ?_)
  obtain ⟨hk14, h⟩ := hq11
  have h := h hk14
  have hk15 := kp_trans wo_X6_known hk7 hk14 (fun _ q => q) (by decide)
  have hg16 : tg σ12 a0 = 6 := kp_tg hk14 wo_X6_next hg8 (by decide)
  refine lv_iload_n (pc := 35) K.x K.b dX6_known_35 rfl (lv_at hl 1 rfl) ?_
  exact z_iret (pc := 36) K hw13 hv3 ⟨hk15, h⟩ dX6_known_36
set_option maxHeartbeats 4000000 in
theorem met_X6_known_6_1 (X : Cxt) (l : Launch) (σ : St) (a0 : Int) (o1 : Int) (k1 : Nat) (n1 : Int) (x2 : Int) (ht0 : tg σ a0 = 6) (ht1 : tg σ o1 = 4) (hfa1 : kf 4 k1 = 16) (hna1 : ((kl 4 k1 : Nat) : Int) = n1) (hka1 : kt 4 k1 = 12) (hx2 : rng x2) (Q : Int → St → Prop) (E : Int → St → Prop) (h : wp_X6_known σ a0 o1 k1 n1 x2 Q E) : MetT l yX6_known (ws_ yX6_known cX6_known 4 (some .int)) (zrm 8 0 0) (ZP X σ [jR X a0, jR X (σ o1 k1 (-1)), jI x2]) (ZQ X (qI (fun r σ' => Kp ws_X6_known σ σ' ∧ Q r σ')) (fun x σ' => tg σ' x = 2 ∧ Kp ws_X6_known σ σ' ∧ E x σ')) 0 0 (zA X) := by
  refine z_start (own := "CombTable$Reader") (lv := [(0, jR X a0), (1, jR X (σ o1 k1 (-1))), (2, jI x2)]) (by decide) rfl (by simp [lv_args, jR_cat, jI_cat, jL_cat]) (by simp [lg_sl, jR_cat, jI_cat, jL_cat]) (fun p e s m below meth c ls K hex _ hw hl => ?_)
  have hk : Kp ws_X6_known σ σ := kp_rf σ
  refine z_aload_n (pc := 0) K dX6_known_0 rfl (lv_at hl 0 rfl) ?_
  refine z_aload_n (pc := 1) K dX6_known_1 rfl (lv_at hl 0 rfl) ?_
  refine zr_z (pc := 2) (maxL := 1) K hw (met_X6_isName_6 X l σ a0 ht0 _ h) (i_V (n := 0) (t := 6) (As := []) K hw (ob ht0) zq6 (by decide) q863 q784 q2042 (sg_of K q785) rfl rfl dX6_known_2) (locw K q785 q97) ⟨by decide, by decide⟩ hl.1 dX6_known_2 (Nat.le_of_ble_eq_true rfl) ⟨Nat.le_refl _, Nat.le_refl _⟩ (fun r1 _ _ hr2 h hw5 => ?_)
  refine z_iconst (pc := 5) K dX6_known_5 ?_
  refine zt_v (pc := 6) (maxL := 3) K hw5 (met_X6_must_6 X l σ a0 r1 1 ht0 hr2 ⟨by decide, by decide⟩ _ _ h) (i_V (n := 2) (t := 6) (As := [jI r1, jI 1]) K hw5 (ob ht0) zq6 (by decide) q801 q758 q2037 (sg_of K q759) rfl rfl dX6_known_6) (locw K q759 q97) ⟨by decide, by decide⟩ hl.1 dX6_known_6 (Nat.le_of_ble_eq_true rfl) ⟨Nat.le_refl _, Nat.le_refl _⟩ (fun σ9 _ _ hq8 hw10 => ?_) (fun x σx _ _ hx0 hqx hwx => ?_)
  rotate_left
  · obtain ⟨htx, hkx, h⟩ := hqx
    have h := h hkx
    exact z_out K hwx hx0 ⟨htx, kp_trans wo_X6_known hk hkx (fun _ q => q) (by decide), h⟩ (no_cov hex 6)
  obtain ⟨hk11, h⟩ := hq8
  have h := h hk11
  have hk12 := kp_trans wo_X6_known hk hk11 (fun _ q => q) (by decide)
  have hg13 : tg σ9 a0 = 6 := kp_tg hk11 wo_X6_must ht0 (by decide)
  have hg14 : tg σ9 o1 = 4 := kp_tg hk11 wo_X6_must ht1 (by decide)
  rw [show σ o1 k1 (-1) = σ9 o1 k1 (-1) from ptr_k hk11 ht1 (by decide)] at hl
  refine z_aload_n (pc := 9) K dX6_known_9 rfl (lv_at hl 0 rfl) ?_
  refine z_aload_n (pc := 10) K dX6_known_10 rfl (lv_at hl 1 rfl) ?_
  refine lv_iload_n (pc := 11) K.x K.b dX6_known_11 rfl (lv_at hl 2 rfl) ?_
  refine zr_i (pc := 12) (maxL := 4) K hw10 (met_X6_of_6_1 X l σ9 a0 o1 k1 n1 x2 hg13 hg14 hfa1 hna1 hka1 hx2 _ h) (i_V (n := 2) (t := 6) (As := [jR X (σ9 o1 k1 (-1)), jI x2]) K hw10 (ob hg13) zq6 (by decide) q864 q791 q2047 (sg_of K q792) rfl rfl dX6_known_12) (locw K q792 q97) ⟨by decide, by decide⟩ hl.1 dX6_known_12 (Nat.le_of_ble_eq_true rfl) ⟨Nat.le_refl _, Nat.le_refl _⟩ (fun r15 _ _ hr16 h hw19 => ?_)
  refine lv_istore_n (pc := 15) (lv' := [(3, jI r15), (0, jR X a0), (1, jR X (σ9 o1 k1 (-1))), (2, jI x2)]) K.x K.b dX6_known_15 rfl hl (by decide) rfl (fun ls hl => ?_)
  refine z_aload_n (pc := 16) K dX6_known_16 rfl (lv_at hl 1 rfl) ?_
  refine lv_iload_n (pc := 17) K.x K.b dX6_known_17 rfl (lv_at hl 0 rfl) ?_
  refine z_iconst (pc := 18) K dX6_known_18 ?_
  refine z_icmp_eq (pc := 19) (tgt := 26) K hr16 ⟨by decide, by decide⟩ dX6_known_19 (by decide) (fun hc20 => ?_) (fun hc20 => ?_)
  · have h := ite_t h hc20
    refine z_iconst (pc := 26) K dX6_known_26 ?_
    exact wk_X6_known_b27_6_1 a0 o1 k1 n1 x2 Q E σ K hex hfa1 hna1 hka1 hx2 σ9 r15 0 _ _ _ h hw19 hk12 hg13 hr16 ⟨by decide, by decide⟩ (lv_sub hl [1, 0] rfl)
  · have h := ite_f h hc20
    refine z_iconst (pc := 22) K dX6_known_22 ?_
    refine z_goto (pc := 23) (tgt := 27) K dX6_known_23 (by decide) ?_
    exact wk_X6_known_b27_6_1 a0 o1 k1 n1 x2 Q E σ K hex hfa1 hna1 hka1 hx2 σ9 r15 1 _ _ _ h hw19 hk12 hg13 hr16 ⟨by decide, by decide⟩ (lv_sub hl [1, 0] rfl)
set_option maxHeartbeats 4000000 in
theorem wk_X6_known_b27_7_0 {X : Cxt} {p : Program} {l : Launch} {e : Env} {s : State} {m : MethodId} {args : Array Value} {below : List Frame} {meth : Method} {c : Code} (a0 : Int) (o1 : Int) (k1 : Nat) (n1 : Int) (x2 : Int) (Q : Int → St → Prop) (E : Int → St → Prop) (σ0 : St) (K : MCx X p s m args meth c cX6_known 4 "CombTable$Reader" (some .int)) (hex : c.exceptionTable.isEmpty = true) (hfa1 : kf 4 k1 = 15) (hna1 : ((kl 4 k1 : Nat) : Int) = n1) (hka1 : kt 4 k1 = 11) (hx2 : rng x2) : ∀ (σ : St) (v3 : Int) (s1 : Int) (H : Heap) (locs : List Loc) (ls : Array Slot), wp_X6_known_b27 a0 o1 k1 n1 x2 Q E σ0 σ v3 s1 → Wc X σ s.heap H locs → Kp ws_X6_known σ0 σ → tg σ a0 = 7 → rng v3 → (0 ≤ s1 ∧ s1 ≤ 1) → lv_has ls 4 [(0, jR X a0), (3, jI v3)] → W p l e (zrm 8 0 0) s m args below meth c H locs 0 0 (MQT below (ZQ X (qI (fun r σ' => Kp ws_X6_known σ0 σ' ∧ Q r σ')) (fun x σ' => tg σ' x = 2 ∧ Kp ws_X6_known σ0 σ' ∧ E x σ')) args s 0 0 (zA X)) (F0 m 27 ls [jI s1, jR X a0]) := by
  intro σ v3 s1 H locs ls h hw hk ht0 hv3 hs1 hl
  refine z_iconst (pc := 27) K dX6_known_27 ?_
  refine zt_v (pc := 28) (maxL := 3) K hw (met_X6_must_7 X l σ a0 s1 3 ht0 hs1 ⟨by decide, by decide⟩ _ _ h) (i_V (n := 2) (t := 7) (As := [jI s1, jI 3]) K hw (ob ht0) zq7 (by decide) q801 q758 q2038 (sg_of K q759) rfl rfl dX6_known_28) (locw K q759 q97) ⟨by decide, by decide⟩ hl.1 dX6_known_28 (Nat.le_of_ble_eq_true rfl) ⟨Nat.le_refl _, Nat.le_refl _⟩ (fun σ4 _ _ hq3 hw5 => ?_) (fun x σx _ _ hx0 hqx hwx => ?_)
  rotate_left
  · obtain ⟨htx, hkx, h⟩ := hqx
    have h := h hkx
    exact z_out K hwx hx0 ⟨htx, kp_trans wo_X6_known hk hkx (fun _ q => q) (by decide), h⟩ (no_cov hex 28)
  obtain ⟨hk6, h⟩ := hq3
  have h := h hk6
  have hk7 := kp_trans wo_X6_known hk hk6 (fun _ q => q) (by decide)
  have hg8 : tg σ4 a0 = 7 := kp_tg hk6 wo_X6_must ht0 (by decide)
  refine z_aload_n (pc := 31) K dX6_known_31 rfl (lv_at hl 0 rfl) ?_
  refine zc_v (pc := 32) (maxL := 2) K hw5 (met_X6_next_7 X l σ4 a0 hg8 _ h) (i_V (n := 0) (t := 7) (As := []) K hw5 (ob hg8) zq7 (by decide) q665 q666 q671 (sg_of K q672) rfl rfl dX6_known_32) (locw K q672 q97) ⟨by decide, by decide⟩ hl.1 dX6_known_32 (Nat.le_of_ble_eq_true rfl) ⟨Nat.le_refl _, Nat.le_refl _⟩ (fun σ12 _ _ hq11 hw13 => ?_)
  obtain ⟨hk14, h⟩ := hq11
  have h := h hk14
  have hk15 := kp_trans wo_X6_known hk7 hk14 (fun _ q => q) (by decide)
  have hg16 : tg σ12 a0 = 7 := kp_tg hk14 wo_X6_next hg8 (by decide)
  refine lv_iload_n (pc := 35) K.x K.b dX6_known_35 rfl (lv_at hl 1 rfl) ?_
  exact z_iret (pc := 36) K hw13 hv3 ⟨hk15, h⟩ dX6_known_36
set_option maxHeartbeats 4000000 in
theorem met_X6_known_7_0 (X : Cxt) (l : Launch) (σ : St) (a0 : Int) (o1 : Int) (k1 : Nat) (n1 : Int) (x2 : Int) (ht0 : tg σ a0 = 7) (ht1 : tg σ o1 = 4) (hfa1 : kf 4 k1 = 15) (hna1 : ((kl 4 k1 : Nat) : Int) = n1) (hka1 : kt 4 k1 = 11) (hx2 : rng x2) (Q : Int → St → Prop) (E : Int → St → Prop) (h : wp_X6_known σ a0 o1 k1 n1 x2 Q E) : MetT l yX6_known (ws_ yX6_known cX6_known 4 (some .int)) (zrm 8 0 0) (ZP X σ [jR X a0, jR X (σ o1 k1 (-1)), jI x2]) (ZQ X (qI (fun r σ' => Kp ws_X6_known σ σ' ∧ Q r σ')) (fun x σ' => tg σ' x = 2 ∧ Kp ws_X6_known σ σ' ∧ E x σ')) 0 0 (zA X) := by
  refine z_start (own := "CombTable$Reader") (lv := [(0, jR X a0), (1, jR X (σ o1 k1 (-1))), (2, jI x2)]) (by decide) rfl (by simp [lv_args, jR_cat, jI_cat, jL_cat]) (by simp [lg_sl, jR_cat, jI_cat, jL_cat]) (fun p e s m below meth c ls K hex _ hw hl => ?_)
  have hk : Kp ws_X6_known σ σ := kp_rf σ
  refine z_aload_n (pc := 0) K dX6_known_0 rfl (lv_at hl 0 rfl) ?_
  refine z_aload_n (pc := 1) K dX6_known_1 rfl (lv_at hl 0 rfl) ?_
  refine zr_z (pc := 2) (maxL := 1) K hw (met_X6_isName_7 X l σ a0 ht0 _ h) (i_V (n := 0) (t := 7) (As := []) K hw (ob ht0) zq7 (by decide) q863 q784 q2043 (sg_of K q785) rfl rfl dX6_known_2) (locw K q785 q97) ⟨by decide, by decide⟩ hl.1 dX6_known_2 (Nat.le_of_ble_eq_true rfl) ⟨Nat.le_refl _, Nat.le_refl _⟩ (fun r1 _ _ hr2 h hw5 => ?_)
  refine z_iconst (pc := 5) K dX6_known_5 ?_
  refine zt_v (pc := 6) (maxL := 3) K hw5 (met_X6_must_7 X l σ a0 r1 1 ht0 hr2 ⟨by decide, by decide⟩ _ _ h) (i_V (n := 2) (t := 7) (As := [jI r1, jI 1]) K hw5 (ob ht0) zq7 (by decide) q801 q758 q2038 (sg_of K q759) rfl rfl dX6_known_6) (locw K q759 q97) ⟨by decide, by decide⟩ hl.1 dX6_known_6 (Nat.le_of_ble_eq_true rfl) ⟨Nat.le_refl _, Nat.le_refl _⟩ (fun σ9 _ _ hq8 hw10 => ?_) (fun x σx _ _ hx0 hqx hwx => ?_)
  rotate_left
  · obtain ⟨htx, hkx, h⟩ := hqx
    have h := h hkx
    exact z_out K hwx hx0 ⟨htx, kp_trans wo_X6_known hk hkx (fun _ q => q) (by decide), h⟩ (no_cov hex 6)
  obtain ⟨hk11, h⟩ := hq8
  have h := h hk11
  have hk12 := kp_trans wo_X6_known hk hk11 (fun _ q => q) (by decide)
  have hg13 : tg σ9 a0 = 7 := kp_tg hk11 wo_X6_must ht0 (by decide)
  have hg14 : tg σ9 o1 = 4 := kp_tg hk11 wo_X6_must ht1 (by decide)
  rw [show σ o1 k1 (-1) = σ9 o1 k1 (-1) from ptr_k hk11 ht1 (by decide)] at hl
  refine z_aload_n (pc := 9) K dX6_known_9 rfl (lv_at hl 0 rfl) ?_
  refine z_aload_n (pc := 10) K dX6_known_10 rfl (lv_at hl 1 rfl) ?_
  refine lv_iload_n (pc := 11) K.x K.b dX6_known_11 rfl (lv_at hl 2 rfl) ?_
  refine zr_i (pc := 12) (maxL := 4) K hw10 (met_X6_of_7_0 X l σ9 a0 o1 k1 n1 x2 hg13 hg14 hfa1 hna1 hka1 hx2 _ h) (i_V (n := 2) (t := 7) (As := [jR X (σ9 o1 k1 (-1)), jI x2]) K hw10 (ob hg13) zq7 (by decide) q864 q791 q2048 (sg_of K q792) rfl rfl dX6_known_12) (locw K q792 q97) ⟨by decide, by decide⟩ hl.1 dX6_known_12 (Nat.le_of_ble_eq_true rfl) ⟨Nat.le_refl _, Nat.le_refl _⟩ (fun r15 _ _ hr16 h hw19 => ?_)
  refine lv_istore_n (pc := 15) (lv' := [(3, jI r15), (0, jR X a0), (1, jR X (σ9 o1 k1 (-1))), (2, jI x2)]) K.x K.b dX6_known_15 rfl hl (by decide) rfl (fun ls hl => ?_)
  refine z_aload_n (pc := 16) K dX6_known_16 rfl (lv_at hl 1 rfl) ?_
  refine lv_iload_n (pc := 17) K.x K.b dX6_known_17 rfl (lv_at hl 0 rfl) ?_
  refine z_iconst (pc := 18) K dX6_known_18 ?_
  refine z_icmp_eq (pc := 19) (tgt := 26) K hr16 ⟨by decide, by decide⟩ dX6_known_19 (by decide) (fun hc20 => ?_) (fun hc20 => ?_)
  · have h := ite_t h hc20
    refine z_iconst (pc := 26) K dX6_known_26 ?_
    exact wk_X6_known_b27_7_0 a0 o1 k1 n1 x2 Q E σ K hex hfa1 hna1 hka1 hx2 σ9 r15 0 _ _ _ h hw19 hk12 hg13 hr16 ⟨by decide, by decide⟩ (lv_sub hl [1, 0] rfl)
  · have h := ite_f h hc20
    refine z_iconst (pc := 22) K dX6_known_22 ?_
    refine z_goto (pc := 23) (tgt := 27) K dX6_known_23 (by decide) ?_
    exact wk_X6_known_b27_7_0 a0 o1 k1 n1 x2 Q E σ K hex hfa1 hna1 hka1 hx2 σ9 r15 1 _ _ _ h hw19 hk12 hg13 hr16 ⟨by decide, by decide⟩ (lv_sub hl [1, 0] rfl)
set_option maxHeartbeats 4000000 in
theorem wk_X6_known_b27_7_1 {X : Cxt} {p : Program} {l : Launch} {e : Env} {s : State} {m : MethodId} {args : Array Value} {below : List Frame} {meth : Method} {c : Code} (a0 : Int) (o1 : Int) (k1 : Nat) (n1 : Int) (x2 : Int) (Q : Int → St → Prop) (E : Int → St → Prop) (σ0 : St) (K : MCx X p s m args meth c cX6_known 4 "CombTable$Reader" (some .int)) (hex : c.exceptionTable.isEmpty = true) (hfa1 : kf 4 k1 = 16) (hna1 : ((kl 4 k1 : Nat) : Int) = n1) (hka1 : kt 4 k1 = 12) (hx2 : rng x2) : ∀ (σ : St) (v3 : Int) (s1 : Int) (H : Heap) (locs : List Loc) (ls : Array Slot), wp_X6_known_b27 a0 o1 k1 n1 x2 Q E σ0 σ v3 s1 → Wc X σ s.heap H locs → Kp ws_X6_known σ0 σ → tg σ a0 = 7 → rng v3 → (0 ≤ s1 ∧ s1 ≤ 1) → lv_has ls 4 [(0, jR X a0), (3, jI v3)] → W p l e (zrm 8 0 0) s m args below meth c H locs 0 0 (MQT below (ZQ X (qI (fun r σ' => Kp ws_X6_known σ0 σ' ∧ Q r σ')) (fun x σ' => tg σ' x = 2 ∧ Kp ws_X6_known σ0 σ' ∧ E x σ')) args s 0 0 (zA X)) (F0 m 27 ls [jI s1, jR X a0]) := by
  intro σ v3 s1 H locs ls h hw hk ht0 hv3 hs1 hl
  refine z_iconst (pc := 27) K dX6_known_27 ?_
  refine zt_v (pc := 28) (maxL := 3) K hw (met_X6_must_7 X l σ a0 s1 3 ht0 hs1 ⟨by decide, by decide⟩ _ _ h) (i_V (n := 2) (t := 7) (As := [jI s1, jI 3]) K hw (ob ht0) zq7 (by decide) q801 q758 q2038 (sg_of K q759) rfl rfl dX6_known_28) (locw K q759 q97) ⟨by decide, by decide⟩ hl.1 dX6_known_28 (Nat.le_of_ble_eq_true rfl) ⟨Nat.le_refl _, Nat.le_refl _⟩ (fun σ4 _ _ hq3 hw5 => ?_) (fun x σx _ _ hx0 hqx hwx => ?_)
  rotate_left
  · obtain ⟨htx, hkx, h⟩ := hqx
    have h := h hkx
    exact z_out K hwx hx0 ⟨htx, kp_trans wo_X6_known hk hkx (fun _ q => q) (by decide), h⟩ (no_cov hex 28)
  obtain ⟨hk6, h⟩ := hq3
  have h := h hk6
  have hk7 := kp_trans wo_X6_known hk hk6 (fun _ q => q) (by decide)
  have hg8 : tg σ4 a0 = 7 := kp_tg hk6 wo_X6_must ht0 (by decide)
  refine z_aload_n (pc := 31) K dX6_known_31 rfl (lv_at hl 0 rfl) ?_
  refine zc_v (pc := 32) (maxL := 2) K hw5 (met_X6_next_7 X l σ4 a0 hg8 _ h) (i_V (n := 0) (t := 7) (As := []) K hw5 (ob hg8) zq7 (by decide) q665 q666 q671 (sg_of K q672) rfl rfl dX6_known_32) (locw K q672 q97) ⟨by decide, by decide⟩ hl.1 dX6_known_32 (Nat.le_of_ble_eq_true rfl) ⟨Nat.le_refl _, Nat.le_refl _⟩ (fun σ12 _ _ hq11 hw13 => ?_)
  obtain ⟨hk14, h⟩ := hq11
  have h := h hk14
  have hk15 := kp_trans wo_X6_known hk7 hk14 (fun _ q => q) (by decide)
  have hg16 : tg σ12 a0 = 7 := kp_tg hk14 wo_X6_next hg8 (by decide)
  refine lv_iload_n (pc := 35) K.x K.b dX6_known_35 rfl (lv_at hl 1 rfl) ?_
  exact z_iret (pc := 36) K hw13 hv3 ⟨hk15, h⟩ dX6_known_36
set_option maxHeartbeats 4000000 in
theorem met_X6_known_7_1 (X : Cxt) (l : Launch) (σ : St) (a0 : Int) (o1 : Int) (k1 : Nat) (n1 : Int) (x2 : Int) (ht0 : tg σ a0 = 7) (ht1 : tg σ o1 = 4) (hfa1 : kf 4 k1 = 16) (hna1 : ((kl 4 k1 : Nat) : Int) = n1) (hka1 : kt 4 k1 = 12) (hx2 : rng x2) (Q : Int → St → Prop) (E : Int → St → Prop) (h : wp_X6_known σ a0 o1 k1 n1 x2 Q E) : MetT l yX6_known (ws_ yX6_known cX6_known 4 (some .int)) (zrm 8 0 0) (ZP X σ [jR X a0, jR X (σ o1 k1 (-1)), jI x2]) (ZQ X (qI (fun r σ' => Kp ws_X6_known σ σ' ∧ Q r σ')) (fun x σ' => tg σ' x = 2 ∧ Kp ws_X6_known σ σ' ∧ E x σ')) 0 0 (zA X) := by
  refine z_start (own := "CombTable$Reader") (lv := [(0, jR X a0), (1, jR X (σ o1 k1 (-1))), (2, jI x2)]) (by decide) rfl (by simp [lv_args, jR_cat, jI_cat, jL_cat]) (by simp [lg_sl, jR_cat, jI_cat, jL_cat]) (fun p e s m below meth c ls K hex _ hw hl => ?_)
  have hk : Kp ws_X6_known σ σ := kp_rf σ
  refine z_aload_n (pc := 0) K dX6_known_0 rfl (lv_at hl 0 rfl) ?_
  refine z_aload_n (pc := 1) K dX6_known_1 rfl (lv_at hl 0 rfl) ?_
  refine zr_z (pc := 2) (maxL := 1) K hw (met_X6_isName_7 X l σ a0 ht0 _ h) (i_V (n := 0) (t := 7) (As := []) K hw (ob ht0) zq7 (by decide) q863 q784 q2043 (sg_of K q785) rfl rfl dX6_known_2) (locw K q785 q97) ⟨by decide, by decide⟩ hl.1 dX6_known_2 (Nat.le_of_ble_eq_true rfl) ⟨Nat.le_refl _, Nat.le_refl _⟩ (fun r1 _ _ hr2 h hw5 => ?_)
  refine z_iconst (pc := 5) K dX6_known_5 ?_
  refine zt_v (pc := 6) (maxL := 3) K hw5 (met_X6_must_7 X l σ a0 r1 1 ht0 hr2 ⟨by decide, by decide⟩ _ _ h) (i_V (n := 2) (t := 7) (As := [jI r1, jI 1]) K hw5 (ob ht0) zq7 (by decide) q801 q758 q2038 (sg_of K q759) rfl rfl dX6_known_6) (locw K q759 q97) ⟨by decide, by decide⟩ hl.1 dX6_known_6 (Nat.le_of_ble_eq_true rfl) ⟨Nat.le_refl _, Nat.le_refl _⟩ (fun σ9 _ _ hq8 hw10 => ?_) (fun x σx _ _ hx0 hqx hwx => ?_)
  rotate_left
  · obtain ⟨htx, hkx, h⟩ := hqx
    have h := h hkx
    exact z_out K hwx hx0 ⟨htx, kp_trans wo_X6_known hk hkx (fun _ q => q) (by decide), h⟩ (no_cov hex 6)
  obtain ⟨hk11, h⟩ := hq8
  have h := h hk11
  have hk12 := kp_trans wo_X6_known hk hk11 (fun _ q => q) (by decide)
  have hg13 : tg σ9 a0 = 7 := kp_tg hk11 wo_X6_must ht0 (by decide)
  have hg14 : tg σ9 o1 = 4 := kp_tg hk11 wo_X6_must ht1 (by decide)
  rw [show σ o1 k1 (-1) = σ9 o1 k1 (-1) from ptr_k hk11 ht1 (by decide)] at hl
  refine z_aload_n (pc := 9) K dX6_known_9 rfl (lv_at hl 0 rfl) ?_
  refine z_aload_n (pc := 10) K dX6_known_10 rfl (lv_at hl 1 rfl) ?_
  refine lv_iload_n (pc := 11) K.x K.b dX6_known_11 rfl (lv_at hl 2 rfl) ?_
  refine zr_i (pc := 12) (maxL := 4) K hw10 (met_X6_of_7_1 X l σ9 a0 o1 k1 n1 x2 hg13 hg14 hfa1 hna1 hka1 hx2 _ h) (i_V (n := 2) (t := 7) (As := [jR X (σ9 o1 k1 (-1)), jI x2]) K hw10 (ob hg13) zq7 (by decide) q864 q791 q2048 (sg_of K q792) rfl rfl dX6_known_12) (locw K q792 q97) ⟨by decide, by decide⟩ hl.1 dX6_known_12 (Nat.le_of_ble_eq_true rfl) ⟨Nat.le_refl _, Nat.le_refl _⟩ (fun r15 _ _ hr16 h hw19 => ?_)
  refine lv_istore_n (pc := 15) (lv' := [(3, jI r15), (0, jR X a0), (1, jR X (σ9 o1 k1 (-1))), (2, jI x2)]) K.x K.b dX6_known_15 rfl hl (by decide) rfl (fun ls hl => ?_)
  refine z_aload_n (pc := 16) K dX6_known_16 rfl (lv_at hl 1 rfl) ?_
  refine lv_iload_n (pc := 17) K.x K.b dX6_known_17 rfl (lv_at hl 0 rfl) ?_
  refine z_iconst (pc := 18) K dX6_known_18 ?_
  refine z_icmp_eq (pc := 19) (tgt := 26) K hr16 ⟨by decide, by decide⟩ dX6_known_19 (by decide) (fun hc20 => ?_) (fun hc20 => ?_)
  · have h := ite_t h hc20
    refine z_iconst (pc := 26) K dX6_known_26 ?_
    exact wk_X6_known_b27_7_1 a0 o1 k1 n1 x2 Q E σ K hex hfa1 hna1 hka1 hx2 σ9 r15 0 _ _ _ h hw19 hk12 hg13 hr16 ⟨by decide, by decide⟩ (lv_sub hl [1, 0] rfl)
  · have h := ite_f h hc20
    refine z_iconst (pc := 22) K dX6_known_22 ?_
    refine z_goto (pc := 23) (tgt := 27) K dX6_known_23 (by decide) ?_
    exact wk_X6_known_b27_7_1 a0 o1 k1 n1 x2 Q E σ K hex hfa1 hna1 hka1 hx2 σ9 r15 1 _ _ _ h hw19 hk12 hg13 hr16 ⟨by decide, by decide⟩ (lv_sub hl [1, 0] rfl)
set_option maxHeartbeats 4000000 in
theorem wk_X6_known_b27_8_0 {X : Cxt} {p : Program} {l : Launch} {e : Env} {s : State} {m : MethodId} {args : Array Value} {below : List Frame} {meth : Method} {c : Code} (a0 : Int) (o1 : Int) (k1 : Nat) (n1 : Int) (x2 : Int) (Q : Int → St → Prop) (E : Int → St → Prop) (σ0 : St) (K : MCx X p s m args meth c cX6_known 4 "CombTable$Reader" (some .int)) (hex : c.exceptionTable.isEmpty = true) (hfa1 : kf 4 k1 = 15) (hna1 : ((kl 4 k1 : Nat) : Int) = n1) (hka1 : kt 4 k1 = 11) (hx2 : rng x2) : ∀ (σ : St) (v3 : Int) (s1 : Int) (H : Heap) (locs : List Loc) (ls : Array Slot), wp_X6_known_b27 a0 o1 k1 n1 x2 Q E σ0 σ v3 s1 → Wc X σ s.heap H locs → Kp ws_X6_known σ0 σ → tg σ a0 = 8 → rng v3 → (0 ≤ s1 ∧ s1 ≤ 1) → lv_has ls 4 [(0, jR X a0), (3, jI v3)] → W p l e (zrm 8 0 0) s m args below meth c H locs 0 0 (MQT below (ZQ X (qI (fun r σ' => Kp ws_X6_known σ0 σ' ∧ Q r σ')) (fun x σ' => tg σ' x = 2 ∧ Kp ws_X6_known σ0 σ' ∧ E x σ')) args s 0 0 (zA X)) (F0 m 27 ls [jI s1, jR X a0]) := by
  intro σ v3 s1 H locs ls h hw hk ht0 hv3 hs1 hl
  refine z_iconst (pc := 27) K dX6_known_27 ?_
  refine zt_v (pc := 28) (maxL := 3) K hw (met_X6_must_8 X l σ a0 s1 3 ht0 hs1 ⟨by decide, by decide⟩ _ _ h) (i_V (n := 2) (t := 8) (As := [jI s1, jI 3]) K hw (ob ht0) zq8 (by decide) q801 q758 q2035 (sg_of K q759) rfl rfl dX6_known_28) (locw K q759 q97) ⟨by decide, by decide⟩ hl.1 dX6_known_28 (Nat.le_of_ble_eq_true rfl) ⟨Nat.le_refl _, Nat.le_refl _⟩ (fun σ4 _ _ hq3 hw5 => ?_) (fun x σx _ _ hx0 hqx hwx => ?_)
  rotate_left
  · obtain ⟨htx, hkx, h⟩ := hqx
    have h := h hkx
    exact z_out K hwx hx0 ⟨htx, kp_trans wo_X6_known hk hkx (fun _ q => q) (by decide), h⟩ (no_cov hex 28)
  obtain ⟨hk6, h⟩ := hq3
  have h := h hk6
  have hk7 := kp_trans wo_X6_known hk hk6 (fun _ q => q) (by decide)
  have hg8 : tg σ4 a0 = 8 := kp_tg hk6 wo_X6_must ht0 (by decide)
  refine z_aload_n (pc := 31) K dX6_known_31 rfl (lv_at hl 0 rfl) ?_
  refine zc_v (pc := 32) (maxL := 2) K hw5 (met_X6_next_8 X l σ4 a0 hg8 _ h) (i_V (n := 0) (t := 8) (As := []) K hw5 (ob hg8) zq8 (by decide) q665 q666 q668 (sg_of K q672) rfl rfl dX6_known_32) (locw K q672 q97) ⟨by decide, by decide⟩ hl.1 dX6_known_32 (Nat.le_of_ble_eq_true rfl) ⟨Nat.le_refl _, Nat.le_refl _⟩ (fun σ12 _ _ hq11 hw13 => ?_)
  obtain ⟨hk14, h⟩ := hq11
  have h := h hk14
  have hk15 := kp_trans wo_X6_known hk7 hk14 (fun _ q => q) (by decide)
  have hg16 : tg σ12 a0 = 8 := kp_tg hk14 wo_X6_next hg8 (by decide)
  refine lv_iload_n (pc := 35) K.x K.b dX6_known_35 rfl (lv_at hl 1 rfl) ?_
  exact z_iret (pc := 36) K hw13 hv3 ⟨hk15, h⟩ dX6_known_36
set_option maxHeartbeats 4000000 in
theorem met_X6_known_8_0 (X : Cxt) (l : Launch) (σ : St) (a0 : Int) (o1 : Int) (k1 : Nat) (n1 : Int) (x2 : Int) (ht0 : tg σ a0 = 8) (ht1 : tg σ o1 = 4) (hfa1 : kf 4 k1 = 15) (hna1 : ((kl 4 k1 : Nat) : Int) = n1) (hka1 : kt 4 k1 = 11) (hx2 : rng x2) (Q : Int → St → Prop) (E : Int → St → Prop) (h : wp_X6_known σ a0 o1 k1 n1 x2 Q E) : MetT l yX6_known (ws_ yX6_known cX6_known 4 (some .int)) (zrm 8 0 0) (ZP X σ [jR X a0, jR X (σ o1 k1 (-1)), jI x2]) (ZQ X (qI (fun r σ' => Kp ws_X6_known σ σ' ∧ Q r σ')) (fun x σ' => tg σ' x = 2 ∧ Kp ws_X6_known σ σ' ∧ E x σ')) 0 0 (zA X) := by
  refine z_start (own := "CombTable$Reader") (lv := [(0, jR X a0), (1, jR X (σ o1 k1 (-1))), (2, jI x2)]) (by decide) rfl (by simp [lv_args, jR_cat, jI_cat, jL_cat]) (by simp [lg_sl, jR_cat, jI_cat, jL_cat]) (fun p e s m below meth c ls K hex _ hw hl => ?_)
  have hk : Kp ws_X6_known σ σ := kp_rf σ
  refine z_aload_n (pc := 0) K dX6_known_0 rfl (lv_at hl 0 rfl) ?_
  refine z_aload_n (pc := 1) K dX6_known_1 rfl (lv_at hl 0 rfl) ?_
  refine zr_z (pc := 2) (maxL := 1) K hw (met_X6_isName_8 X l σ a0 ht0 _ h) (i_V (n := 0) (t := 8) (As := []) K hw (ob ht0) zq8 (by decide) q863 q784 q2040 (sg_of K q785) rfl rfl dX6_known_2) (locw K q785 q97) ⟨by decide, by decide⟩ hl.1 dX6_known_2 (Nat.le_of_ble_eq_true rfl) ⟨Nat.le_refl _, Nat.le_refl _⟩ (fun r1 _ _ hr2 h hw5 => ?_)
  refine z_iconst (pc := 5) K dX6_known_5 ?_
  refine zt_v (pc := 6) (maxL := 3) K hw5 (met_X6_must_8 X l σ a0 r1 1 ht0 hr2 ⟨by decide, by decide⟩ _ _ h) (i_V (n := 2) (t := 8) (As := [jI r1, jI 1]) K hw5 (ob ht0) zq8 (by decide) q801 q758 q2035 (sg_of K q759) rfl rfl dX6_known_6) (locw K q759 q97) ⟨by decide, by decide⟩ hl.1 dX6_known_6 (Nat.le_of_ble_eq_true rfl) ⟨Nat.le_refl _, Nat.le_refl _⟩ (fun σ9 _ _ hq8 hw10 => ?_) (fun x σx _ _ hx0 hqx hwx => ?_)
  rotate_left
  · obtain ⟨htx, hkx, h⟩ := hqx
    have h := h hkx
    exact z_out K hwx hx0 ⟨htx, kp_trans wo_X6_known hk hkx (fun _ q => q) (by decide), h⟩ (no_cov hex 6)
  obtain ⟨hk11, h⟩ := hq8
  have h := h hk11
  have hk12 := kp_trans wo_X6_known hk hk11 (fun _ q => q) (by decide)
  have hg13 : tg σ9 a0 = 8 := kp_tg hk11 wo_X6_must ht0 (by decide)
  have hg14 : tg σ9 o1 = 4 := kp_tg hk11 wo_X6_must ht1 (by decide)
  rw [show σ o1 k1 (-1) = σ9 o1 k1 (-1) from ptr_k hk11 ht1 (by decide)] at hl
  refine z_aload_n (pc := 9) K dX6_known_9 rfl (lv_at hl 0 rfl) ?_
  refine z_aload_n (pc := 10) K dX6_known_10 rfl (lv_at hl 1 rfl) ?_
  refine lv_iload_n (pc := 11) K.x K.b dX6_known_11 rfl (lv_at hl 2 rfl) ?_
  refine zr_i (pc := 12) (maxL := 4) K hw10 (met_X6_of_8_0 X l σ9 a0 o1 k1 n1 x2 hg13 hg14 hfa1 hna1 hka1 hx2 _ h) (i_V (n := 2) (t := 8) (As := [jR X (σ9 o1 k1 (-1)), jI x2]) K hw10 (ob hg13) zq8 (by decide) q864 q791 q2045 (sg_of K q792) rfl rfl dX6_known_12) (locw K q792 q97) ⟨by decide, by decide⟩ hl.1 dX6_known_12 (Nat.le_of_ble_eq_true rfl) ⟨Nat.le_refl _, Nat.le_refl _⟩ (fun r15 _ _ hr16 h hw19 => ?_)
  refine lv_istore_n (pc := 15) (lv' := [(3, jI r15), (0, jR X a0), (1, jR X (σ9 o1 k1 (-1))), (2, jI x2)]) K.x K.b dX6_known_15 rfl hl (by decide) rfl (fun ls hl => ?_)
  refine z_aload_n (pc := 16) K dX6_known_16 rfl (lv_at hl 1 rfl) ?_
  refine lv_iload_n (pc := 17) K.x K.b dX6_known_17 rfl (lv_at hl 0 rfl) ?_
  refine z_iconst (pc := 18) K dX6_known_18 ?_
  refine z_icmp_eq (pc := 19) (tgt := 26) K hr16 ⟨by decide, by decide⟩ dX6_known_19 (by decide) (fun hc20 => ?_) (fun hc20 => ?_)
  · have h := ite_t h hc20
    refine z_iconst (pc := 26) K dX6_known_26 ?_
    exact wk_X6_known_b27_8_0 a0 o1 k1 n1 x2 Q E σ K hex hfa1 hna1 hka1 hx2 σ9 r15 0 _ _ _ h hw19 hk12 hg13 hr16 ⟨by decide, by decide⟩ (lv_sub hl [1, 0] rfl)
  · have h := ite_f h hc20
    refine z_iconst (pc := 22) K dX6_known_22 ?_
    refine z_goto (pc := 23) (tgt := 27) K dX6_known_23 (by decide) ?_
    exact wk_X6_known_b27_8_0 a0 o1 k1 n1 x2 Q E σ K hex hfa1 hna1 hka1 hx2 σ9 r15 1 _ _ _ h hw19 hk12 hg13 hr16 ⟨by decide, by decide⟩ (lv_sub hl [1, 0] rfl)
set_option maxHeartbeats 4000000 in
theorem wk_X6_known_b27_8_1 {X : Cxt} {p : Program} {l : Launch} {e : Env} {s : State} {m : MethodId} {args : Array Value} {below : List Frame} {meth : Method} {c : Code} (a0 : Int) (o1 : Int) (k1 : Nat) (n1 : Int) (x2 : Int) (Q : Int → St → Prop) (E : Int → St → Prop) (σ0 : St) (K : MCx X p s m args meth c cX6_known 4 "CombTable$Reader" (some .int)) (hex : c.exceptionTable.isEmpty = true) (hfa1 : kf 4 k1 = 16) (hna1 : ((kl 4 k1 : Nat) : Int) = n1) (hka1 : kt 4 k1 = 12) (hx2 : rng x2) : ∀ (σ : St) (v3 : Int) (s1 : Int) (H : Heap) (locs : List Loc) (ls : Array Slot), wp_X6_known_b27 a0 o1 k1 n1 x2 Q E σ0 σ v3 s1 → Wc X σ s.heap H locs → Kp ws_X6_known σ0 σ → tg σ a0 = 8 → rng v3 → (0 ≤ s1 ∧ s1 ≤ 1) → lv_has ls 4 [(0, jR X a0), (3, jI v3)] → W p l e (zrm 8 0 0) s m args below meth c H locs 0 0 (MQT below (ZQ X (qI (fun r σ' => Kp ws_X6_known σ0 σ' ∧ Q r σ')) (fun x σ' => tg σ' x = 2 ∧ Kp ws_X6_known σ0 σ' ∧ E x σ')) args s 0 0 (zA X)) (F0 m 27 ls [jI s1, jR X a0]) := by
  intro σ v3 s1 H locs ls h hw hk ht0 hv3 hs1 hl
  refine z_iconst (pc := 27) K dX6_known_27 ?_
  refine zt_v (pc := 28) (maxL := 3) K hw (met_X6_must_8 X l σ a0 s1 3 ht0 hs1 ⟨by decide, by decide⟩ _ _ h) (i_V (n := 2) (t := 8) (As := [jI s1, jI 3]) K hw (ob ht0) zq8 (by decide) q801 q758 q2035 (sg_of K q759) rfl rfl dX6_known_28) (locw K q759 q97) ⟨by decide, by decide⟩ hl.1 dX6_known_28 (Nat.le_of_ble_eq_true rfl) ⟨Nat.le_refl _, Nat.le_refl _⟩ (fun σ4 _ _ hq3 hw5 => ?_) (fun x σx _ _ hx0 hqx hwx => ?_)
  rotate_left
  · obtain ⟨htx, hkx, h⟩ := hqx
    have h := h hkx
    exact z_out K hwx hx0 ⟨htx, kp_trans wo_X6_known hk hkx (fun _ q => q) (by decide), h⟩ (no_cov hex 28)
  obtain ⟨hk6, h⟩ := hq3
  have h := h hk6
  have hk7 := kp_trans wo_X6_known hk hk6 (fun _ q => q) (by decide)
  have hg8 : tg σ4 a0 = 8 := kp_tg hk6 wo_X6_must ht0 (by decide)
  refine z_aload_n (pc := 31) K dX6_known_31 rfl (lv_at hl 0 rfl) ?_
  refine zc_v (pc := 32) (maxL := 2) K hw5 (met_X6_next_8 X l σ4 a0 hg8 _ h) (i_V (n := 0) (t := 8) (As := []) K hw5 (ob hg8) zq8 (by decide) q665 q666 q668 (sg_of K q672) rfl rfl dX6_known_32) (locw K q672 q97) ⟨by decide, by decide⟩ hl.1 dX6_known_32 (Nat.le_of_ble_eq_true rfl) ⟨Nat.le_refl _, Nat.le_refl _⟩ (fun σ12 _ _ hq11 hw13 => ?_)
  obtain ⟨hk14, h⟩ := hq11
  have h := h hk14
  have hk15 := kp_trans wo_X6_known hk7 hk14 (fun _ q => q) (by decide)
  have hg16 : tg σ12 a0 = 8 := kp_tg hk14 wo_X6_next hg8 (by decide)
  refine lv_iload_n (pc := 35) K.x K.b dX6_known_35 rfl (lv_at hl 1 rfl) ?_
  exact z_iret (pc := 36) K hw13 hv3 ⟨hk15, h⟩ dX6_known_36
set_option maxHeartbeats 4000000 in
theorem met_X6_known_8_1 (X : Cxt) (l : Launch) (σ : St) (a0 : Int) (o1 : Int) (k1 : Nat) (n1 : Int) (x2 : Int) (ht0 : tg σ a0 = 8) (ht1 : tg σ o1 = 4) (hfa1 : kf 4 k1 = 16) (hna1 : ((kl 4 k1 : Nat) : Int) = n1) (hka1 : kt 4 k1 = 12) (hx2 : rng x2) (Q : Int → St → Prop) (E : Int → St → Prop) (h : wp_X6_known σ a0 o1 k1 n1 x2 Q E) : MetT l yX6_known (ws_ yX6_known cX6_known 4 (some .int)) (zrm 8 0 0) (ZP X σ [jR X a0, jR X (σ o1 k1 (-1)), jI x2]) (ZQ X (qI (fun r σ' => Kp ws_X6_known σ σ' ∧ Q r σ')) (fun x σ' => tg σ' x = 2 ∧ Kp ws_X6_known σ σ' ∧ E x σ')) 0 0 (zA X) := by
  refine z_start (own := "CombTable$Reader") (lv := [(0, jR X a0), (1, jR X (σ o1 k1 (-1))), (2, jI x2)]) (by decide) rfl (by simp [lv_args, jR_cat, jI_cat, jL_cat]) (by simp [lg_sl, jR_cat, jI_cat, jL_cat]) (fun p e s m below meth c ls K hex _ hw hl => ?_)
  have hk : Kp ws_X6_known σ σ := kp_rf σ
  refine z_aload_n (pc := 0) K dX6_known_0 rfl (lv_at hl 0 rfl) ?_
  refine z_aload_n (pc := 1) K dX6_known_1 rfl (lv_at hl 0 rfl) ?_
  refine zr_z (pc := 2) (maxL := 1) K hw (met_X6_isName_8 X l σ a0 ht0 _ h) (i_V (n := 0) (t := 8) (As := []) K hw (ob ht0) zq8 (by decide) q863 q784 q2040 (sg_of K q785) rfl rfl dX6_known_2) (locw K q785 q97) ⟨by decide, by decide⟩ hl.1 dX6_known_2 (Nat.le_of_ble_eq_true rfl) ⟨Nat.le_refl _, Nat.le_refl _⟩ (fun r1 _ _ hr2 h hw5 => ?_)
  refine z_iconst (pc := 5) K dX6_known_5 ?_
  refine zt_v (pc := 6) (maxL := 3) K hw5 (met_X6_must_8 X l σ a0 r1 1 ht0 hr2 ⟨by decide, by decide⟩ _ _ h) (i_V (n := 2) (t := 8) (As := [jI r1, jI 1]) K hw5 (ob ht0) zq8 (by decide) q801 q758 q2035 (sg_of K q759) rfl rfl dX6_known_6) (locw K q759 q97) ⟨by decide, by decide⟩ hl.1 dX6_known_6 (Nat.le_of_ble_eq_true rfl) ⟨Nat.le_refl _, Nat.le_refl _⟩ (fun σ9 _ _ hq8 hw10 => ?_) (fun x σx _ _ hx0 hqx hwx => ?_)
  rotate_left
  · obtain ⟨htx, hkx, h⟩ := hqx
    have h := h hkx
    exact z_out K hwx hx0 ⟨htx, kp_trans wo_X6_known hk hkx (fun _ q => q) (by decide), h⟩ (no_cov hex 6)
  obtain ⟨hk11, h⟩ := hq8
  have h := h hk11
  have hk12 := kp_trans wo_X6_known hk hk11 (fun _ q => q) (by decide)
  have hg13 : tg σ9 a0 = 8 := kp_tg hk11 wo_X6_must ht0 (by decide)
  have hg14 : tg σ9 o1 = 4 := kp_tg hk11 wo_X6_must ht1 (by decide)
  rw [show σ o1 k1 (-1) = σ9 o1 k1 (-1) from ptr_k hk11 ht1 (by decide)] at hl
  refine z_aload_n (pc := 9) K dX6_known_9 rfl (lv_at hl 0 rfl) ?_
  refine z_aload_n (pc := 10) K dX6_known_10 rfl (lv_at hl 1 rfl) ?_
  refine lv_iload_n (pc := 11) K.x K.b dX6_known_11 rfl (lv_at hl 2 rfl) ?_
  refine zr_i (pc := 12) (maxL := 4) K hw10 (met_X6_of_8_1 X l σ9 a0 o1 k1 n1 x2 hg13 hg14 hfa1 hna1 hka1 hx2 _ h) (i_V (n := 2) (t := 8) (As := [jR X (σ9 o1 k1 (-1)), jI x2]) K hw10 (ob hg13) zq8 (by decide) q864 q791 q2045 (sg_of K q792) rfl rfl dX6_known_12) (locw K q792 q97) ⟨by decide, by decide⟩ hl.1 dX6_known_12 (Nat.le_of_ble_eq_true rfl) ⟨Nat.le_refl _, Nat.le_refl _⟩ (fun r15 _ _ hr16 h hw19 => ?_)
  refine lv_istore_n (pc := 15) (lv' := [(3, jI r15), (0, jR X a0), (1, jR X (σ9 o1 k1 (-1))), (2, jI x2)]) K.x K.b dX6_known_15 rfl hl (by decide) rfl (fun ls hl => ?_)
  refine z_aload_n (pc := 16) K dX6_known_16 rfl (lv_at hl 1 rfl) ?_
  refine lv_iload_n (pc := 17) K.x K.b dX6_known_17 rfl (lv_at hl 0 rfl) ?_
  refine z_iconst (pc := 18) K dX6_known_18 ?_
  refine z_icmp_eq (pc := 19) (tgt := 26) K hr16 ⟨by decide, by decide⟩ dX6_known_19 (by decide) (fun hc20 => ?_) (fun hc20 => ?_)
  · have h := ite_t h hc20
    refine z_iconst (pc := 26) K dX6_known_26 ?_
    exact wk_X6_known_b27_8_1 a0 o1 k1 n1 x2 Q E σ K hex hfa1 hna1 hka1 hx2 σ9 r15 0 _ _ _ h hw19 hk12 hg13 hr16 ⟨by decide, by decide⟩ (lv_sub hl [1, 0] rfl)
  · have h := ite_f h hc20
    refine z_iconst (pc := 22) K dX6_known_22 ?_
    refine z_goto (pc := 23) (tgt := 27) K dX6_known_23 (by decide) ?_
    exact wk_X6_known_b27_8_1 a0 o1 k1 n1 x2 Q E σ K hex hfa1 hna1 hka1 hx2 σ9 r15 1 _ _ _ h hw19 hk12 hg13 hr16 ⟨by decide, by decide⟩ (lv_sub hl [1, 0] rfl)
set_option maxHeartbeats 4000000 in
theorem wk_X6_known_b27_9_0 {X : Cxt} {p : Program} {l : Launch} {e : Env} {s : State} {m : MethodId} {args : Array Value} {below : List Frame} {meth : Method} {c : Code} (a0 : Int) (o1 : Int) (k1 : Nat) (n1 : Int) (x2 : Int) (Q : Int → St → Prop) (E : Int → St → Prop) (σ0 : St) (K : MCx X p s m args meth c cX6_known 4 "CombTable$Reader" (some .int)) (hex : c.exceptionTable.isEmpty = true) (hfa1 : kf 4 k1 = 15) (hna1 : ((kl 4 k1 : Nat) : Int) = n1) (hka1 : kt 4 k1 = 11) (hx2 : rng x2) : ∀ (σ : St) (v3 : Int) (s1 : Int) (H : Heap) (locs : List Loc) (ls : Array Slot), wp_X6_known_b27 a0 o1 k1 n1 x2 Q E σ0 σ v3 s1 → Wc X σ s.heap H locs → Kp ws_X6_known σ0 σ → tg σ a0 = 9 → rng v3 → (0 ≤ s1 ∧ s1 ≤ 1) → lv_has ls 4 [(0, jR X a0), (3, jI v3)] → W p l e (zrm 8 0 0) s m args below meth c H locs 0 0 (MQT below (ZQ X (qI (fun r σ' => Kp ws_X6_known σ0 σ' ∧ Q r σ')) (fun x σ' => tg σ' x = 2 ∧ Kp ws_X6_known σ0 σ' ∧ E x σ')) args s 0 0 (zA X)) (F0 m 27 ls [jI s1, jR X a0]) := by
  intro σ v3 s1 H locs ls h hw hk ht0 hv3 hs1 hl
  refine z_iconst (pc := 27) K dX6_known_27 ?_
  refine zt_v (pc := 28) (maxL := 3) K hw (met_X6_must_9 X l σ a0 s1 3 ht0 hs1 ⟨by decide, by decide⟩ _ _ h) (i_V (n := 2) (t := 9) (As := [jI s1, jI 3]) K hw (ob ht0) zq9 (by decide) q801 q758 q2036 (sg_of K q759) rfl rfl dX6_known_28) (locw K q759 q97) ⟨by decide, by decide⟩ hl.1 dX6_known_28 (Nat.le_of_ble_eq_true rfl) ⟨Nat.le_refl _, Nat.le_refl _⟩ (fun σ4 _ _ hq3 hw5 => ?_) (fun x σx _ _ hx0 hqx hwx => ?_)
  rotate_left
  · obtain ⟨htx, hkx, h⟩ := hqx
    have h := h hkx
    exact z_out K hwx hx0 ⟨htx, kp_trans wo_X6_known hk hkx (fun _ q => q) (by decide), h⟩ (no_cov hex 28)
  obtain ⟨hk6, h⟩ := hq3
  have h := h hk6
  have hk7 := kp_trans wo_X6_known hk hk6 (fun _ q => q) (by decide)
  have hg8 : tg σ4 a0 = 9 := kp_tg hk6 wo_X6_must ht0 (by decide)
  refine z_aload_n (pc := 31) K dX6_known_31 rfl (lv_at hl 0 rfl) ?_
  refine zc_v (pc := 32) (maxL := 2) K hw5 (met_X6_next_9 X l σ4 a0 hg8 _ h) (i_V (n := 0) (t := 9) (As := []) K hw5 (ob hg8) zq9 (by decide) q665 q666 q669 (sg_of K q672) rfl rfl dX6_known_32) (locw K q672 q97) ⟨by decide, by decide⟩ hl.1 dX6_known_32 (Nat.le_of_ble_eq_true rfl) ⟨Nat.le_refl _, Nat.le_refl _⟩ (fun σ12 _ _ hq11 hw13 => ?_)
  obtain ⟨hk14, h⟩ := hq11
  have h := h hk14
  have hk15 := kp_trans wo_X6_known hk7 hk14 (fun _ q => q) (by decide)
  have hg16 : tg σ12 a0 = 9 := kp_tg hk14 wo_X6_next hg8 (by decide)
  refine lv_iload_n (pc := 35) K.x K.b dX6_known_35 rfl (lv_at hl 1 rfl) ?_
  exact z_iret (pc := 36) K hw13 hv3 ⟨hk15, h⟩ dX6_known_36
set_option maxHeartbeats 4000000 in
theorem met_X6_known_9_0 (X : Cxt) (l : Launch) (σ : St) (a0 : Int) (o1 : Int) (k1 : Nat) (n1 : Int) (x2 : Int) (ht0 : tg σ a0 = 9) (ht1 : tg σ o1 = 4) (hfa1 : kf 4 k1 = 15) (hna1 : ((kl 4 k1 : Nat) : Int) = n1) (hka1 : kt 4 k1 = 11) (hx2 : rng x2) (Q : Int → St → Prop) (E : Int → St → Prop) (h : wp_X6_known σ a0 o1 k1 n1 x2 Q E) : MetT l yX6_known (ws_ yX6_known cX6_known 4 (some .int)) (zrm 8 0 0) (ZP X σ [jR X a0, jR X (σ o1 k1 (-1)), jI x2]) (ZQ X (qI (fun r σ' => Kp ws_X6_known σ σ' ∧ Q r σ')) (fun x σ' => tg σ' x = 2 ∧ Kp ws_X6_known σ σ' ∧ E x σ')) 0 0 (zA X) := by
  refine z_start (own := "CombTable$Reader") (lv := [(0, jR X a0), (1, jR X (σ o1 k1 (-1))), (2, jI x2)]) (by decide) rfl (by simp [lv_args, jR_cat, jI_cat, jL_cat]) (by simp [lg_sl, jR_cat, jI_cat, jL_cat]) (fun p e s m below meth c ls K hex _ hw hl => ?_)
  have hk : Kp ws_X6_known σ σ := kp_rf σ
  refine z_aload_n (pc := 0) K dX6_known_0 rfl (lv_at hl 0 rfl) ?_
  refine z_aload_n (pc := 1) K dX6_known_1 rfl (lv_at hl 0 rfl) ?_
  refine zr_z (pc := 2) (maxL := 1) K hw (met_X6_isName_9 X l σ a0 ht0 _ h) (i_V (n := 0) (t := 9) (As := []) K hw (ob ht0) zq9 (by decide) q863 q784 q2041 (sg_of K q785) rfl rfl dX6_known_2) (locw K q785 q97) ⟨by decide, by decide⟩ hl.1 dX6_known_2 (Nat.le_of_ble_eq_true rfl) ⟨Nat.le_refl _, Nat.le_refl _⟩ (fun r1 _ _ hr2 h hw5 => ?_)
  refine z_iconst (pc := 5) K dX6_known_5 ?_
  refine zt_v (pc := 6) (maxL := 3) K hw5 (met_X6_must_9 X l σ a0 r1 1 ht0 hr2 ⟨by decide, by decide⟩ _ _ h) (i_V (n := 2) (t := 9) (As := [jI r1, jI 1]) K hw5 (ob ht0) zq9 (by decide) q801 q758 q2036 (sg_of K q759) rfl rfl dX6_known_6) (locw K q759 q97) ⟨by decide, by decide⟩ hl.1 dX6_known_6 (Nat.le_of_ble_eq_true rfl) ⟨Nat.le_refl _, Nat.le_refl _⟩ (fun σ9 _ _ hq8 hw10 => ?_) (fun x σx _ _ hx0 hqx hwx => ?_)
  rotate_left
  · obtain ⟨htx, hkx, h⟩ := hqx
    have h := h hkx
    exact z_out K hwx hx0 ⟨htx, kp_trans wo_X6_known hk hkx (fun _ q => q) (by decide), h⟩ (no_cov hex 6)
  obtain ⟨hk11, h⟩ := hq8
  have h := h hk11
  have hk12 := kp_trans wo_X6_known hk hk11 (fun _ q => q) (by decide)
  have hg13 : tg σ9 a0 = 9 := kp_tg hk11 wo_X6_must ht0 (by decide)
  have hg14 : tg σ9 o1 = 4 := kp_tg hk11 wo_X6_must ht1 (by decide)
  rw [show σ o1 k1 (-1) = σ9 o1 k1 (-1) from ptr_k hk11 ht1 (by decide)] at hl
  refine z_aload_n (pc := 9) K dX6_known_9 rfl (lv_at hl 0 rfl) ?_
  refine z_aload_n (pc := 10) K dX6_known_10 rfl (lv_at hl 1 rfl) ?_
  refine lv_iload_n (pc := 11) K.x K.b dX6_known_11 rfl (lv_at hl 2 rfl) ?_
  refine zr_i (pc := 12) (maxL := 4) K hw10 (met_X6_of_9_0 X l σ9 a0 o1 k1 n1 x2 hg13 hg14 hfa1 hna1 hka1 hx2 _ h) (i_V (n := 2) (t := 9) (As := [jR X (σ9 o1 k1 (-1)), jI x2]) K hw10 (ob hg13) zq9 (by decide) q864 q791 q2046 (sg_of K q792) rfl rfl dX6_known_12) (locw K q792 q97) ⟨by decide, by decide⟩ hl.1 dX6_known_12 (Nat.le_of_ble_eq_true rfl) ⟨Nat.le_refl _, Nat.le_refl _⟩ (fun r15 _ _ hr16 h hw19 => ?_)
  refine lv_istore_n (pc := 15) (lv' := [(3, jI r15), (0, jR X a0), (1, jR X (σ9 o1 k1 (-1))), (2, jI x2)]) K.x K.b dX6_known_15 rfl hl (by decide) rfl (fun ls hl => ?_)
  refine z_aload_n (pc := 16) K dX6_known_16 rfl (lv_at hl 1 rfl) ?_
  refine lv_iload_n (pc := 17) K.x K.b dX6_known_17 rfl (lv_at hl 0 rfl) ?_
  refine z_iconst (pc := 18) K dX6_known_18 ?_
  refine z_icmp_eq (pc := 19) (tgt := 26) K hr16 ⟨by decide, by decide⟩ dX6_known_19 (by decide) (fun hc20 => ?_) (fun hc20 => ?_)
  · have h := ite_t h hc20
    refine z_iconst (pc := 26) K dX6_known_26 ?_
    exact wk_X6_known_b27_9_0 a0 o1 k1 n1 x2 Q E σ K hex hfa1 hna1 hka1 hx2 σ9 r15 0 _ _ _ h hw19 hk12 hg13 hr16 ⟨by decide, by decide⟩ (lv_sub hl [1, 0] rfl)
  · have h := ite_f h hc20
    refine z_iconst (pc := 22) K dX6_known_22 ?_
    refine z_goto (pc := 23) (tgt := 27) K dX6_known_23 (by decide) ?_
    exact wk_X6_known_b27_9_0 a0 o1 k1 n1 x2 Q E σ K hex hfa1 hna1 hka1 hx2 σ9 r15 1 _ _ _ h hw19 hk12 hg13 hr16 ⟨by decide, by decide⟩ (lv_sub hl [1, 0] rfl)
set_option maxHeartbeats 4000000 in
theorem wk_X6_known_b27_9_1 {X : Cxt} {p : Program} {l : Launch} {e : Env} {s : State} {m : MethodId} {args : Array Value} {below : List Frame} {meth : Method} {c : Code} (a0 : Int) (o1 : Int) (k1 : Nat) (n1 : Int) (x2 : Int) (Q : Int → St → Prop) (E : Int → St → Prop) (σ0 : St) (K : MCx X p s m args meth c cX6_known 4 "CombTable$Reader" (some .int)) (hex : c.exceptionTable.isEmpty = true) (hfa1 : kf 4 k1 = 16) (hna1 : ((kl 4 k1 : Nat) : Int) = n1) (hka1 : kt 4 k1 = 12) (hx2 : rng x2) : ∀ (σ : St) (v3 : Int) (s1 : Int) (H : Heap) (locs : List Loc) (ls : Array Slot), wp_X6_known_b27 a0 o1 k1 n1 x2 Q E σ0 σ v3 s1 → Wc X σ s.heap H locs → Kp ws_X6_known σ0 σ → tg σ a0 = 9 → rng v3 → (0 ≤ s1 ∧ s1 ≤ 1) → lv_has ls 4 [(0, jR X a0), (3, jI v3)] → W p l e (zrm 8 0 0) s m args below meth c H locs 0 0 (MQT below (ZQ X (qI (fun r σ' => Kp ws_X6_known σ0 σ' ∧ Q r σ')) (fun x σ' => tg σ' x = 2 ∧ Kp ws_X6_known σ0 σ' ∧ E x σ')) args s 0 0 (zA X)) (F0 m 27 ls [jI s1, jR X a0]) := by
  intro σ v3 s1 H locs ls h hw hk ht0 hv3 hs1 hl
  refine z_iconst (pc := 27) K dX6_known_27 ?_
  refine zt_v (pc := 28) (maxL := 3) K hw (met_X6_must_9 X l σ a0 s1 3 ht0 hs1 ⟨by decide, by decide⟩ _ _ h) (i_V (n := 2) (t := 9) (As := [jI s1, jI 3]) K hw (ob ht0) zq9 (by decide) q801 q758 q2036 (sg_of K q759) rfl rfl dX6_known_28) (locw K q759 q97) ⟨by decide, by decide⟩ hl.1 dX6_known_28 (Nat.le_of_ble_eq_true rfl) ⟨Nat.le_refl _, Nat.le_refl _⟩ (fun σ4 _ _ hq3 hw5 => ?_) (fun x σx _ _ hx0 hqx hwx => ?_)
  rotate_left
  · obtain ⟨htx, hkx, h⟩ := hqx
    have h := h hkx
    exact z_out K hwx hx0 ⟨htx, kp_trans wo_X6_known hk hkx (fun _ q => q) (by decide), h⟩ (no_cov hex 28)
  obtain ⟨hk6, h⟩ := hq3
  have h := h hk6
  have hk7 := kp_trans wo_X6_known hk hk6 (fun _ q => q) (by decide)
  have hg8 : tg σ4 a0 = 9 := kp_tg hk6 wo_X6_must ht0 (by decide)
  refine z_aload_n (pc := 31) K dX6_known_31 rfl (lv_at hl 0 rfl) ?_
  refine zc_v (pc := 32) (maxL := 2) K hw5 (met_X6_next_9 X l σ4 a0 hg8 _ h) (i_V (n := 0) (t := 9) (As := []) K hw5 (ob hg8) zq9 (by decide) q665 q666 q669 (sg_of K q672) rfl rfl dX6_known_32) (locw K q672 q97) ⟨by decide, by decide⟩ hl.1 dX6_known_32 (Nat.le_of_ble_eq_true rfl) ⟨Nat.le_refl _, Nat.le_refl _⟩ (fun σ12 _ _ hq11 hw13 => ?_)
  obtain ⟨hk14, h⟩ := hq11
  have h := h hk14
  have hk15 := kp_trans wo_X6_known hk7 hk14 (fun _ q => q) (by decide)
  have hg16 : tg σ12 a0 = 9 := kp_tg hk14 wo_X6_next hg8 (by decide)
  refine lv_iload_n (pc := 35) K.x K.b dX6_known_35 rfl (lv_at hl 1 rfl) ?_
  exact z_iret (pc := 36) K hw13 hv3 ⟨hk15, h⟩ dX6_known_36
set_option maxHeartbeats 4000000 in
theorem met_X6_known_9_1 (X : Cxt) (l : Launch) (σ : St) (a0 : Int) (o1 : Int) (k1 : Nat) (n1 : Int) (x2 : Int) (ht0 : tg σ a0 = 9) (ht1 : tg σ o1 = 4) (hfa1 : kf 4 k1 = 16) (hna1 : ((kl 4 k1 : Nat) : Int) = n1) (hka1 : kt 4 k1 = 12) (hx2 : rng x2) (Q : Int → St → Prop) (E : Int → St → Prop) (h : wp_X6_known σ a0 o1 k1 n1 x2 Q E) : MetT l yX6_known (ws_ yX6_known cX6_known 4 (some .int)) (zrm 8 0 0) (ZP X σ [jR X a0, jR X (σ o1 k1 (-1)), jI x2]) (ZQ X (qI (fun r σ' => Kp ws_X6_known σ σ' ∧ Q r σ')) (fun x σ' => tg σ' x = 2 ∧ Kp ws_X6_known σ σ' ∧ E x σ')) 0 0 (zA X) := by
  refine z_start (own := "CombTable$Reader") (lv := [(0, jR X a0), (1, jR X (σ o1 k1 (-1))), (2, jI x2)]) (by decide) rfl (by simp [lv_args, jR_cat, jI_cat, jL_cat]) (by simp [lg_sl, jR_cat, jI_cat, jL_cat]) (fun p e s m below meth c ls K hex _ hw hl => ?_)
  have hk : Kp ws_X6_known σ σ := kp_rf σ
  refine z_aload_n (pc := 0) K dX6_known_0 rfl (lv_at hl 0 rfl) ?_
  refine z_aload_n (pc := 1) K dX6_known_1 rfl (lv_at hl 0 rfl) ?_
  refine zr_z (pc := 2) (maxL := 1) K hw (met_X6_isName_9 X l σ a0 ht0 _ h) (i_V (n := 0) (t := 9) (As := []) K hw (ob ht0) zq9 (by decide) q863 q784 q2041 (sg_of K q785) rfl rfl dX6_known_2) (locw K q785 q97) ⟨by decide, by decide⟩ hl.1 dX6_known_2 (Nat.le_of_ble_eq_true rfl) ⟨Nat.le_refl _, Nat.le_refl _⟩ (fun r1 _ _ hr2 h hw5 => ?_)
  refine z_iconst (pc := 5) K dX6_known_5 ?_
  refine zt_v (pc := 6) (maxL := 3) K hw5 (met_X6_must_9 X l σ a0 r1 1 ht0 hr2 ⟨by decide, by decide⟩ _ _ h) (i_V (n := 2) (t := 9) (As := [jI r1, jI 1]) K hw5 (ob ht0) zq9 (by decide) q801 q758 q2036 (sg_of K q759) rfl rfl dX6_known_6) (locw K q759 q97) ⟨by decide, by decide⟩ hl.1 dX6_known_6 (Nat.le_of_ble_eq_true rfl) ⟨Nat.le_refl _, Nat.le_refl _⟩ (fun σ9 _ _ hq8 hw10 => ?_) (fun x σx _ _ hx0 hqx hwx => ?_)
  rotate_left
  · obtain ⟨htx, hkx, h⟩ := hqx
    have h := h hkx
    exact z_out K hwx hx0 ⟨htx, kp_trans wo_X6_known hk hkx (fun _ q => q) (by decide), h⟩ (no_cov hex 6)
  obtain ⟨hk11, h⟩ := hq8
  have h := h hk11
  have hk12 := kp_trans wo_X6_known hk hk11 (fun _ q => q) (by decide)
  have hg13 : tg σ9 a0 = 9 := kp_tg hk11 wo_X6_must ht0 (by decide)
  have hg14 : tg σ9 o1 = 4 := kp_tg hk11 wo_X6_must ht1 (by decide)
  rw [show σ o1 k1 (-1) = σ9 o1 k1 (-1) from ptr_k hk11 ht1 (by decide)] at hl
  refine z_aload_n (pc := 9) K dX6_known_9 rfl (lv_at hl 0 rfl) ?_
  refine z_aload_n (pc := 10) K dX6_known_10 rfl (lv_at hl 1 rfl) ?_
  refine lv_iload_n (pc := 11) K.x K.b dX6_known_11 rfl (lv_at hl 2 rfl) ?_
  refine zr_i (pc := 12) (maxL := 4) K hw10 (met_X6_of_9_1 X l σ9 a0 o1 k1 n1 x2 hg13 hg14 hfa1 hna1 hka1 hx2 _ h) (i_V (n := 2) (t := 9) (As := [jR X (σ9 o1 k1 (-1)), jI x2]) K hw10 (ob hg13) zq9 (by decide) q864 q791 q2046 (sg_of K q792) rfl rfl dX6_known_12) (locw K q792 q97) ⟨by decide, by decide⟩ hl.1 dX6_known_12 (Nat.le_of_ble_eq_true rfl) ⟨Nat.le_refl _, Nat.le_refl _⟩ (fun r15 _ _ hr16 h hw19 => ?_)
  refine lv_istore_n (pc := 15) (lv' := [(3, jI r15), (0, jR X a0), (1, jR X (σ9 o1 k1 (-1))), (2, jI x2)]) K.x K.b dX6_known_15 rfl hl (by decide) rfl (fun ls hl => ?_)
  refine z_aload_n (pc := 16) K dX6_known_16 rfl (lv_at hl 1 rfl) ?_
  refine lv_iload_n (pc := 17) K.x K.b dX6_known_17 rfl (lv_at hl 0 rfl) ?_
  refine z_iconst (pc := 18) K dX6_known_18 ?_
  refine z_icmp_eq (pc := 19) (tgt := 26) K hr16 ⟨by decide, by decide⟩ dX6_known_19 (by decide) (fun hc20 => ?_) (fun hc20 => ?_)
  · have h := ite_t h hc20
    refine z_iconst (pc := 26) K dX6_known_26 ?_
    exact wk_X6_known_b27_9_1 a0 o1 k1 n1 x2 Q E σ K hex hfa1 hna1 hka1 hx2 σ9 r15 0 _ _ _ h hw19 hk12 hg13 hr16 ⟨by decide, by decide⟩ (lv_sub hl [1, 0] rfl)
  · have h := ite_f h hc20
    refine z_iconst (pc := 22) K dX6_known_22 ?_
    refine z_goto (pc := 23) (tgt := 27) K dX6_known_23 (by decide) ?_
    exact wk_X6_known_b27_9_1 a0 o1 k1 n1 x2 Q E σ K hex hfa1 hna1 hka1 hx2 σ9 r15 1 _ _ _ h hw19 hk12 hg13 hr16 ⟨by decide, by decide⟩ (lv_sub hl [1, 0] rfl)
def ws_X6_begin : List (Int × Nat) := [(6, 1), (6, 2), (6, 3), (6, 4), (6, 5), (6, 6), (7, 1), (7, 2), (7, 3), (7, 4), (7, 5), (7, 6), (8, 1), (8, 2), (8, 3), (8, 4), (8, 5), (8, 6), (9, 1), (9, 2), (9, 3), (9, 4), (9, 5), (9, 6)]
theorem wo_X6_begin : wsOk ws_X6_begin = true := rfl
def wp_X6_begin (σ : St) (a0 : Int) (Q : St → Prop) : Prop :=
  ∀ σ2 : St, σ2 = st σ a0 1 0 0 → wp_X6_next σ2 a0 (fun σ9 => Kp ws_X6_next σ2 σ9 → Q σ9)
set_option maxHeartbeats 4000000 in
theorem met_X6_begin_6 (X : Cxt) (l : Launch) (σ : St) (a0 : Int) (ht0 : tg σ a0 = 6) (Q : St → Prop) (h : wp_X6_begin σ a0 Q) : MetT l yX6_begin (ws_ yX6_begin cX6_begin 1 (none)) (zrm 5 0 0) (ZP X σ [jR X a0]) (ZQ X (qV (fun σ' => Kp ws_X6_begin σ σ' ∧ Q σ')) (fun _ _ => False)) 0 0 (zA X) := by
  refine z_start (own := "CombTable$Reader") (lv := [(0, jR X a0)]) (by decide) rfl (by simp [lv_args, jR_cat, jI_cat, jL_cat]) (by simp [lg_sl, jR_cat, jI_cat, jL_cat]) (fun p e s m below meth c ls K _ _ hw hl => ?_)
  have hk : Kp ws_X6_begin σ σ := kp_rf σ
  refine z_aload_n (pc := 0) K dX6_begin_0 rfl (lv_at hl 0 rfl) ?_
  refine z_iconst (pc := 1) K dX6_begin_1 ?_
  refine z_puti (pc := 2) (t := 6) 1 K hw (ob ht0) zq6 (by decide) kf_6_1 zt_6_1 ⟨by decide, by decide⟩ q382 (fun _ h => h) rfl dX6_begin_2 (fun _ _ hw1 => ?_)
  obtain ⟨σ2, e3⟩ : ∃ z, z = st σ a0 1 0 0 := ⟨_, rfl⟩
  have h := h σ2 e3
  have hw1 := wc_e e3 hw1
  have hk4 := kp_e e3 hk wo_X6_begin (by decide) ht0 (t := 6) (by decide)
  have hg5 : tg σ2 a0 = 6 := (tg_e e3 (by decide)).trans ht0
  refine z_aload_n (pc := 5) K dX6_begin_5 rfl (lv_at hl 0 rfl) ?_
  refine zc_v (pc := 6) (maxL := 2) K hw1 (met_X6_next_6 X l σ2 a0 hg5 _ h) (i_V (n := 0) (t := 6) (As := []) K hw1 (ob hg5) zq6 (by decide) q665 q666 q670 (sg_of K q672) rfl rfl dX6_begin_6) (locw K q672 q97) ⟨by decide, by decide⟩ hl.1 dX6_begin_6 (Nat.le_of_ble_eq_true rfl) ⟨Nat.le_refl _, Nat.le_refl _⟩ (fun σ9 _ _ hq8 hw10 => ?_)
  obtain ⟨hk11, h⟩ := hq8
  have h := h hk11
  have hk12 := kp_trans wo_X6_begin hk4 hk11 (fun _ q => q) (by decide)
  have hg13 : tg σ9 a0 = 6 := kp_tg hk11 wo_X6_next hg5 (by decide)
  exact z_vret (pc := 9) K hw10 ⟨hk12, h⟩ dX6_begin_9
set_option maxHeartbeats 4000000 in
theorem met_X6_begin_7 (X : Cxt) (l : Launch) (σ : St) (a0 : Int) (ht0 : tg σ a0 = 7) (Q : St → Prop) (h : wp_X6_begin σ a0 Q) : MetT l yX6_begin (ws_ yX6_begin cX6_begin 1 (none)) (zrm 5 0 0) (ZP X σ [jR X a0]) (ZQ X (qV (fun σ' => Kp ws_X6_begin σ σ' ∧ Q σ')) (fun _ _ => False)) 0 0 (zA X) := by
  refine z_start (own := "CombTable$Reader") (lv := [(0, jR X a0)]) (by decide) rfl (by simp [lv_args, jR_cat, jI_cat, jL_cat]) (by simp [lg_sl, jR_cat, jI_cat, jL_cat]) (fun p e s m below meth c ls K _ _ hw hl => ?_)
  have hk : Kp ws_X6_begin σ σ := kp_rf σ
  refine z_aload_n (pc := 0) K dX6_begin_0 rfl (lv_at hl 0 rfl) ?_
  refine z_iconst (pc := 1) K dX6_begin_1 ?_
  refine z_puti (pc := 2) (t := 7) 1 K hw (ob ht0) zq7 (by decide) kf_7_1 zt_7_1 ⟨by decide, by decide⟩ q382 (fun _ h => h) rfl dX6_begin_2 (fun _ _ hw1 => ?_)
  obtain ⟨σ2, e3⟩ : ∃ z, z = st σ a0 1 0 0 := ⟨_, rfl⟩
  have h := h σ2 e3
  have hw1 := wc_e e3 hw1
  have hk4 := kp_e e3 hk wo_X6_begin (by decide) ht0 (t := 7) (by decide)
  have hg5 : tg σ2 a0 = 7 := (tg_e e3 (by decide)).trans ht0
  refine z_aload_n (pc := 5) K dX6_begin_5 rfl (lv_at hl 0 rfl) ?_
  refine zc_v (pc := 6) (maxL := 2) K hw1 (met_X6_next_7 X l σ2 a0 hg5 _ h) (i_V (n := 0) (t := 7) (As := []) K hw1 (ob hg5) zq7 (by decide) q665 q666 q671 (sg_of K q672) rfl rfl dX6_begin_6) (locw K q672 q97) ⟨by decide, by decide⟩ hl.1 dX6_begin_6 (Nat.le_of_ble_eq_true rfl) ⟨Nat.le_refl _, Nat.le_refl _⟩ (fun σ9 _ _ hq8 hw10 => ?_)
  obtain ⟨hk11, h⟩ := hq8
  have h := h hk11
  have hk12 := kp_trans wo_X6_begin hk4 hk11 (fun _ q => q) (by decide)
  have hg13 : tg σ9 a0 = 7 := kp_tg hk11 wo_X6_next hg5 (by decide)
  exact z_vret (pc := 9) K hw10 ⟨hk12, h⟩ dX6_begin_9
set_option maxHeartbeats 4000000 in
theorem met_X6_begin_8 (X : Cxt) (l : Launch) (σ : St) (a0 : Int) (ht0 : tg σ a0 = 8) (Q : St → Prop) (h : wp_X6_begin σ a0 Q) : MetT l yX6_begin (ws_ yX6_begin cX6_begin 1 (none)) (zrm 5 0 0) (ZP X σ [jR X a0]) (ZQ X (qV (fun σ' => Kp ws_X6_begin σ σ' ∧ Q σ')) (fun _ _ => False)) 0 0 (zA X) := by
  refine z_start (own := "CombTable$Reader") (lv := [(0, jR X a0)]) (by decide) rfl (by simp [lv_args, jR_cat, jI_cat, jL_cat]) (by simp [lg_sl, jR_cat, jI_cat, jL_cat]) (fun p e s m below meth c ls K _ _ hw hl => ?_)
  have hk : Kp ws_X6_begin σ σ := kp_rf σ
  refine z_aload_n (pc := 0) K dX6_begin_0 rfl (lv_at hl 0 rfl) ?_
  refine z_iconst (pc := 1) K dX6_begin_1 ?_
  refine z_puti (pc := 2) (t := 8) 1 K hw (ob ht0) zq8 (by decide) kf_8_1 zt_8_1 ⟨by decide, by decide⟩ q382 (fun _ h => h) rfl dX6_begin_2 (fun _ _ hw1 => ?_)
  obtain ⟨σ2, e3⟩ : ∃ z, z = st σ a0 1 0 0 := ⟨_, rfl⟩
  have h := h σ2 e3
  have hw1 := wc_e e3 hw1
  have hk4 := kp_e e3 hk wo_X6_begin (by decide) ht0 (t := 8) (by decide)
  have hg5 : tg σ2 a0 = 8 := (tg_e e3 (by decide)).trans ht0
  refine z_aload_n (pc := 5) K dX6_begin_5 rfl (lv_at hl 0 rfl) ?_
  refine zc_v (pc := 6) (maxL := 2) K hw1 (met_X6_next_8 X l σ2 a0 hg5 _ h) (i_V (n := 0) (t := 8) (As := []) K hw1 (ob hg5) zq8 (by decide) q665 q666 q668 (sg_of K q672) rfl rfl dX6_begin_6) (locw K q672 q97) ⟨by decide, by decide⟩ hl.1 dX6_begin_6 (Nat.le_of_ble_eq_true rfl) ⟨Nat.le_refl _, Nat.le_refl _⟩ (fun σ9 _ _ hq8 hw10 => ?_)
  obtain ⟨hk11, h⟩ := hq8
  have h := h hk11
  have hk12 := kp_trans wo_X6_begin hk4 hk11 (fun _ q => q) (by decide)
  have hg13 : tg σ9 a0 = 8 := kp_tg hk11 wo_X6_next hg5 (by decide)
  exact z_vret (pc := 9) K hw10 ⟨hk12, h⟩ dX6_begin_9
set_option maxHeartbeats 4000000 in
theorem met_X6_begin_9 (X : Cxt) (l : Launch) (σ : St) (a0 : Int) (ht0 : tg σ a0 = 9) (Q : St → Prop) (h : wp_X6_begin σ a0 Q) : MetT l yX6_begin (ws_ yX6_begin cX6_begin 1 (none)) (zrm 5 0 0) (ZP X σ [jR X a0]) (ZQ X (qV (fun σ' => Kp ws_X6_begin σ σ' ∧ Q σ')) (fun _ _ => False)) 0 0 (zA X) := by
  refine z_start (own := "CombTable$Reader") (lv := [(0, jR X a0)]) (by decide) rfl (by simp [lv_args, jR_cat, jI_cat, jL_cat]) (by simp [lg_sl, jR_cat, jI_cat, jL_cat]) (fun p e s m below meth c ls K _ _ hw hl => ?_)
  have hk : Kp ws_X6_begin σ σ := kp_rf σ
  refine z_aload_n (pc := 0) K dX6_begin_0 rfl (lv_at hl 0 rfl) ?_
  refine z_iconst (pc := 1) K dX6_begin_1 ?_
  refine z_puti (pc := 2) (t := 9) 1 K hw (ob ht0) zq9 (by decide) kf_9_1 zt_9_1 ⟨by decide, by decide⟩ q382 (fun _ h => h) rfl dX6_begin_2 (fun _ _ hw1 => ?_)
  obtain ⟨σ2, e3⟩ : ∃ z, z = st σ a0 1 0 0 := ⟨_, rfl⟩
  have h := h σ2 e3
  have hw1 := wc_e e3 hw1
  have hk4 := kp_e e3 hk wo_X6_begin (by decide) ht0 (t := 9) (by decide)
  have hg5 : tg σ2 a0 = 9 := (tg_e e3 (by decide)).trans ht0
  refine z_aload_n (pc := 5) K dX6_begin_5 rfl (lv_at hl 0 rfl) ?_
  refine zc_v (pc := 6) (maxL := 2) K hw1 (met_X6_next_9 X l σ2 a0 hg5 _ h) (i_V (n := 0) (t := 9) (As := []) K hw1 (ob hg5) zq9 (by decide) q665 q666 q669 (sg_of K q672) rfl rfl dX6_begin_6) (locw K q672 q97) ⟨by decide, by decide⟩ hl.1 dX6_begin_6 (Nat.le_of_ble_eq_true rfl) ⟨Nat.le_refl _, Nat.le_refl _⟩ (fun σ9 _ _ hq8 hw10 => ?_)
  obtain ⟨hk11, h⟩ := hq8
  have h := h hk11
  have hk12 := kp_trans wo_X6_begin hk4 hk11 (fun _ q => q) (by decide)
  have hg13 : tg σ9 a0 = 9 := kp_tg hk11 wo_X6_next hg5 (by decide)
  exact z_vret (pc := 9) K hw10 ⟨hk12, h⟩ dX6_begin_9
def wp_X6_is_2 (σ : St) (a0 : Int) (x1 : Int) (Q : Int → Prop) : Prop :=
  (if σ a0 3 0 = 3 then
    (if σ a0 4 0 = x1 then
      Q 1
      else
      Q 0)
    else
    Q 0)
set_option maxHeartbeats 4000000 in
theorem met_X6_is_2_6 (X : Cxt) (l : Launch) (σ : St) (a0 : Int) (x1 : Int) (ht0 : tg σ a0 = 6) (hx1 : rng x1) (Q : Int → Prop) (h : wp_X6_is_2 σ a0 x1 Q) : MetT l yX6_is_2 (ws_ yX6_is_2 cX6_is_2 2 (some .boolean)) (zrm 1 0 0) (ZP X σ [jR X a0, jI x1]) (ZQ X (qZ (fun r σ' => σ' = σ ∧ Q r)) (fun _ _ => False)) 0 0 (zA X) := by
  refine z_start (own := "CombTable$Reader") (lv := [(0, jR X a0), (1, jI x1)]) (by decide) rfl (by simp [lv_args, jR_cat, jI_cat, jL_cat]) (by simp [lg_sl, jR_cat, jI_cat, jL_cat]) (fun p e s m below meth c ls K _ _ hw hl => ?_)
  refine z_aload_n (pc := 0) K dX6_is_2_0 rfl (lv_at hl 0 rfl) ?_
  refine z_get (pc := 1) (t := 6) (k := 3) K hw (ob (t := 6) ht0) zq6 (by decide) q394 (fun _ h => h) dX6_is_2_1 (zval_i kf_6_3) ?_
  refine z_iconst (pc := 4) K dX6_is_2_4 ?_
  refine z_icmp_ne (pc := 5) (tgt := 20) K (z_rI hw (ob (t := 6) ht0) kf_6_3) ⟨by decide, by decide⟩ dX6_is_2_5 (by decide) (fun hc1 => ?_) (fun hc1 => ?_)
  · have h := ite_t h hc1
    refine z_aload_n (pc := 8) K dX6_is_2_8 rfl (lv_at hl 0 rfl) ?_
    refine z_get (pc := 9) (t := 6) (k := 4) K hw (ob (t := 6) ht0) zq6 (by decide) q397 (fun _ h => h) dX6_is_2_9 (zval_i kf_6_4) ?_
    refine lv_iload_n (pc := 12) K.x K.b dX6_is_2_12 rfl (lv_at hl 1 rfl) ?_
    refine z_icmp_ne (pc := 13) (tgt := 20) K (z_rI hw (ob (t := 6) ht0) kf_6_4) hx1 dX6_is_2_13 (by decide) (fun hc2 => ?_) (fun hc2 => ?_)
    · have h := ite_t h hc2
      refine z_iconst (pc := 16) K dX6_is_2_16 ?_
      refine z_goto (pc := 17) (tgt := 21) K dX6_is_2_17 (by decide) ?_
      exact z_zret (pc := 21) K hw ⟨by decide, by decide⟩ ⟨rfl, h⟩ dX6_is_2_21
    · have h := ite_f h hc2
      refine z_iconst (pc := 20) K dX6_is_2_20 ?_
      exact z_zret (pc := 21) K hw ⟨by decide, by decide⟩ ⟨rfl, h⟩ dX6_is_2_21
  · have h := ite_f h hc1
    refine z_iconst (pc := 20) K dX6_is_2_20 ?_
    exact z_zret (pc := 21) K hw ⟨by decide, by decide⟩ ⟨rfl, h⟩ dX6_is_2_21
set_option maxHeartbeats 4000000 in
theorem met_X6_is_2_7 (X : Cxt) (l : Launch) (σ : St) (a0 : Int) (x1 : Int) (ht0 : tg σ a0 = 7) (hx1 : rng x1) (Q : Int → Prop) (h : wp_X6_is_2 σ a0 x1 Q) : MetT l yX6_is_2 (ws_ yX6_is_2 cX6_is_2 2 (some .boolean)) (zrm 1 0 0) (ZP X σ [jR X a0, jI x1]) (ZQ X (qZ (fun r σ' => σ' = σ ∧ Q r)) (fun _ _ => False)) 0 0 (zA X) := by
  refine z_start (own := "CombTable$Reader") (lv := [(0, jR X a0), (1, jI x1)]) (by decide) rfl (by simp [lv_args, jR_cat, jI_cat, jL_cat]) (by simp [lg_sl, jR_cat, jI_cat, jL_cat]) (fun p e s m below meth c ls K _ _ hw hl => ?_)
  refine z_aload_n (pc := 0) K dX6_is_2_0 rfl (lv_at hl 0 rfl) ?_
  refine z_get (pc := 1) (t := 7) (k := 3) K hw (ob (t := 7) ht0) zq7 (by decide) q394 (fun _ h => h) dX6_is_2_1 (zval_i kf_7_3) ?_
  refine z_iconst (pc := 4) K dX6_is_2_4 ?_
  refine z_icmp_ne (pc := 5) (tgt := 20) K (z_rI hw (ob (t := 7) ht0) kf_7_3) ⟨by decide, by decide⟩ dX6_is_2_5 (by decide) (fun hc1 => ?_) (fun hc1 => ?_)
  · have h := ite_t h hc1
    refine z_aload_n (pc := 8) K dX6_is_2_8 rfl (lv_at hl 0 rfl) ?_
    refine z_get (pc := 9) (t := 7) (k := 4) K hw (ob (t := 7) ht0) zq7 (by decide) q397 (fun _ h => h) dX6_is_2_9 (zval_i kf_7_4) ?_
    refine lv_iload_n (pc := 12) K.x K.b dX6_is_2_12 rfl (lv_at hl 1 rfl) ?_
    refine z_icmp_ne (pc := 13) (tgt := 20) K (z_rI hw (ob (t := 7) ht0) kf_7_4) hx1 dX6_is_2_13 (by decide) (fun hc2 => ?_) (fun hc2 => ?_)
    · have h := ite_t h hc2
      refine z_iconst (pc := 16) K dX6_is_2_16 ?_
      refine z_goto (pc := 17) (tgt := 21) K dX6_is_2_17 (by decide) ?_
      exact z_zret (pc := 21) K hw ⟨by decide, by decide⟩ ⟨rfl, h⟩ dX6_is_2_21
    · have h := ite_f h hc2
      refine z_iconst (pc := 20) K dX6_is_2_20 ?_
      exact z_zret (pc := 21) K hw ⟨by decide, by decide⟩ ⟨rfl, h⟩ dX6_is_2_21
  · have h := ite_f h hc1
    refine z_iconst (pc := 20) K dX6_is_2_20 ?_
    exact z_zret (pc := 21) K hw ⟨by decide, by decide⟩ ⟨rfl, h⟩ dX6_is_2_21
set_option maxHeartbeats 4000000 in
theorem met_X6_is_2_8 (X : Cxt) (l : Launch) (σ : St) (a0 : Int) (x1 : Int) (ht0 : tg σ a0 = 8) (hx1 : rng x1) (Q : Int → Prop) (h : wp_X6_is_2 σ a0 x1 Q) : MetT l yX6_is_2 (ws_ yX6_is_2 cX6_is_2 2 (some .boolean)) (zrm 1 0 0) (ZP X σ [jR X a0, jI x1]) (ZQ X (qZ (fun r σ' => σ' = σ ∧ Q r)) (fun _ _ => False)) 0 0 (zA X) := by
  refine z_start (own := "CombTable$Reader") (lv := [(0, jR X a0), (1, jI x1)]) (by decide) rfl (by simp [lv_args, jR_cat, jI_cat, jL_cat]) (by simp [lg_sl, jR_cat, jI_cat, jL_cat]) (fun p e s m below meth c ls K _ _ hw hl => ?_)
  refine z_aload_n (pc := 0) K dX6_is_2_0 rfl (lv_at hl 0 rfl) ?_
  refine z_get (pc := 1) (t := 8) (k := 3) K hw (ob (t := 8) ht0) zq8 (by decide) q394 (fun _ h => h) dX6_is_2_1 (zval_i kf_8_3) ?_
  refine z_iconst (pc := 4) K dX6_is_2_4 ?_
  refine z_icmp_ne (pc := 5) (tgt := 20) K (z_rI hw (ob (t := 8) ht0) kf_8_3) ⟨by decide, by decide⟩ dX6_is_2_5 (by decide) (fun hc1 => ?_) (fun hc1 => ?_)
  · have h := ite_t h hc1
    refine z_aload_n (pc := 8) K dX6_is_2_8 rfl (lv_at hl 0 rfl) ?_
    refine z_get (pc := 9) (t := 8) (k := 4) K hw (ob (t := 8) ht0) zq8 (by decide) q397 (fun _ h => h) dX6_is_2_9 (zval_i kf_8_4) ?_
    refine lv_iload_n (pc := 12) K.x K.b dX6_is_2_12 rfl (lv_at hl 1 rfl) ?_
    refine z_icmp_ne (pc := 13) (tgt := 20) K (z_rI hw (ob (t := 8) ht0) kf_8_4) hx1 dX6_is_2_13 (by decide) (fun hc2 => ?_) (fun hc2 => ?_)
    · have h := ite_t h hc2
      refine z_iconst (pc := 16) K dX6_is_2_16 ?_
      refine z_goto (pc := 17) (tgt := 21) K dX6_is_2_17 (by decide) ?_
      exact z_zret (pc := 21) K hw ⟨by decide, by decide⟩ ⟨rfl, h⟩ dX6_is_2_21
    · have h := ite_f h hc2
      refine z_iconst (pc := 20) K dX6_is_2_20 ?_
      exact z_zret (pc := 21) K hw ⟨by decide, by decide⟩ ⟨rfl, h⟩ dX6_is_2_21
  · have h := ite_f h hc1
    refine z_iconst (pc := 20) K dX6_is_2_20 ?_
    exact z_zret (pc := 21) K hw ⟨by decide, by decide⟩ ⟨rfl, h⟩ dX6_is_2_21
set_option maxHeartbeats 4000000 in
theorem met_X6_is_2_9 (X : Cxt) (l : Launch) (σ : St) (a0 : Int) (x1 : Int) (ht0 : tg σ a0 = 9) (hx1 : rng x1) (Q : Int → Prop) (h : wp_X6_is_2 σ a0 x1 Q) : MetT l yX6_is_2 (ws_ yX6_is_2 cX6_is_2 2 (some .boolean)) (zrm 1 0 0) (ZP X σ [jR X a0, jI x1]) (ZQ X (qZ (fun r σ' => σ' = σ ∧ Q r)) (fun _ _ => False)) 0 0 (zA X) := by
  refine z_start (own := "CombTable$Reader") (lv := [(0, jR X a0), (1, jI x1)]) (by decide) rfl (by simp [lv_args, jR_cat, jI_cat, jL_cat]) (by simp [lg_sl, jR_cat, jI_cat, jL_cat]) (fun p e s m below meth c ls K _ _ hw hl => ?_)
  refine z_aload_n (pc := 0) K dX6_is_2_0 rfl (lv_at hl 0 rfl) ?_
  refine z_get (pc := 1) (t := 9) (k := 3) K hw (ob (t := 9) ht0) zq9 (by decide) q394 (fun _ h => h) dX6_is_2_1 (zval_i kf_9_3) ?_
  refine z_iconst (pc := 4) K dX6_is_2_4 ?_
  refine z_icmp_ne (pc := 5) (tgt := 20) K (z_rI hw (ob (t := 9) ht0) kf_9_3) ⟨by decide, by decide⟩ dX6_is_2_5 (by decide) (fun hc1 => ?_) (fun hc1 => ?_)
  · have h := ite_t h hc1
    refine z_aload_n (pc := 8) K dX6_is_2_8 rfl (lv_at hl 0 rfl) ?_
    refine z_get (pc := 9) (t := 9) (k := 4) K hw (ob (t := 9) ht0) zq9 (by decide) q397 (fun _ h => h) dX6_is_2_9 (zval_i kf_9_4) ?_
    refine lv_iload_n (pc := 12) K.x K.b dX6_is_2_12 rfl (lv_at hl 1 rfl) ?_
    refine z_icmp_ne (pc := 13) (tgt := 20) K (z_rI hw (ob (t := 9) ht0) kf_9_4) hx1 dX6_is_2_13 (by decide) (fun hc2 => ?_) (fun hc2 => ?_)
    · have h := ite_t h hc2
      refine z_iconst (pc := 16) K dX6_is_2_16 ?_
      refine z_goto (pc := 17) (tgt := 21) K dX6_is_2_17 (by decide) ?_
      exact z_zret (pc := 21) K hw ⟨by decide, by decide⟩ ⟨rfl, h⟩ dX6_is_2_21
    · have h := ite_f h hc2
      refine z_iconst (pc := 20) K dX6_is_2_20 ?_
      exact z_zret (pc := 21) K hw ⟨by decide, by decide⟩ ⟨rfl, h⟩ dX6_is_2_21
  · have h := ite_f h hc1
    refine z_iconst (pc := 20) K dX6_is_2_20 ?_
    exact z_zret (pc := 21) K hw ⟨by decide, by decide⟩ ⟨rfl, h⟩ dX6_is_2_21
def ws_X6_sign : List (Int × Nat) := [(2, 6), (2, 7), (6, 1), (6, 2), (6, 3), (6, 4), (6, 5), (6, 6), (7, 1), (7, 2), (7, 3), (7, 4), (7, 5), (7, 6), (8, 1), (8, 2), (8, 3), (8, 4), (8, 5), (8, 6), (9, 1), (9, 2), (9, 3), (9, 4), (9, 5), (9, 6)]
theorem wo_X6_sign : wsOk ws_X6_sign = true := rfl
def wp_X6_sign (σ : St) (a0 : Int) (x1 : Int) (Q : St → Prop) (E : Int → St → Prop) : Prop :=
  wp_X6_is_2 σ a0 x1 (fun r1 => wp_X6_must σ a0 r1 1 (fun σ9 => Kp ws_X6_must σ σ9 → wp_X6_next σ9 a0 (fun σ17 => Kp ws_X6_next σ9 σ17 → Q σ17)) (fun x σx => Kp ws_X6_must σ σx → E x σx))
set_option maxHeartbeats 4000000 in
theorem met_X6_sign_6 (X : Cxt) (l : Launch) (σ : St) (a0 : Int) (x1 : Int) (ht0 : tg σ a0 = 6) (hx1 : rng x1) (Q : St → Prop) (E : Int → St → Prop) (h : wp_X6_sign σ a0 x1 Q E) : MetT l yX6_sign (ws_ yX6_sign cX6_sign 2 (none)) (zrm 5 0 0) (ZP X σ [jR X a0, jI x1]) (ZQ X (qV (fun σ' => Kp ws_X6_sign σ σ' ∧ Q σ')) (fun x σ' => tg σ' x = 2 ∧ Kp ws_X6_sign σ σ' ∧ E x σ')) 0 0 (zA X) := by
  refine z_start (own := "CombTable$Reader") (lv := [(0, jR X a0), (1, jI x1)]) (by decide) rfl (by simp [lv_args, jR_cat, jI_cat, jL_cat]) (by simp [lg_sl, jR_cat, jI_cat, jL_cat]) (fun p e s m below meth c ls K hex _ hw hl => ?_)
  have hk : Kp ws_X6_sign σ σ := kp_rf σ
  refine z_aload_n (pc := 0) K dX6_sign_0 rfl (lv_at hl 0 rfl) ?_
  refine z_aload_n (pc := 1) K dX6_sign_1 rfl (lv_at hl 0 rfl) ?_
  refine lv_iload_n (pc := 2) K.x K.b dX6_sign_2 rfl (lv_at hl 1 rfl) ?_
  refine zr_z (pc := 3) (maxL := 2) K hw (met_X6_is_2_6 X l σ a0 x1 ht0 hx1 _ h) (i_V (n := 1) (t := 6) (As := [jI x1]) K hw (ob ht0) zq6 (by decide) q878 q879 q883 (sg_of K q885) rfl rfl dX6_sign_3) (locw K q885 q97) ⟨by decide, by decide⟩ hl.1 dX6_sign_3 (Nat.le_of_ble_eq_true rfl) ⟨Nat.le_refl _, Nat.le_refl _⟩ (fun r1 _ _ hr2 h hw5 => ?_)
  refine z_iconst (pc := 6) K dX6_sign_6 ?_
  refine zt_v (pc := 7) (maxL := 3) K hw5 (met_X6_must_6 X l σ a0 r1 1 ht0 hr2 ⟨by decide, by decide⟩ _ _ h) (i_V (n := 2) (t := 6) (As := [jI r1, jI 1]) K hw5 (ob ht0) zq6 (by decide) q801 q758 q2037 (sg_of K q759) rfl rfl dX6_sign_7) (locw K q759 q97) ⟨by decide, by decide⟩ hl.1 dX6_sign_7 (Nat.le_of_ble_eq_true rfl) ⟨Nat.le_refl _, Nat.le_refl _⟩ (fun σ9 _ _ hq8 hw10 => ?_) (fun x σx _ _ hx0 hqx hwx => ?_)
  rotate_left
  · obtain ⟨htx, hkx, h⟩ := hqx
    have h := h hkx
    exact z_out K hwx hx0 ⟨htx, kp_trans wo_X6_sign hk hkx (fun _ q => q) (by decide), h⟩ (no_cov hex 7)
  obtain ⟨hk11, h⟩ := hq8
  have h := h hk11
  have hk12 := kp_trans wo_X6_sign hk hk11 (fun _ q => q) (by decide)
  have hg13 : tg σ9 a0 = 6 := kp_tg hk11 wo_X6_must ht0 (by decide)
  refine z_aload_n (pc := 10) K dX6_sign_10 rfl (lv_at hl 0 rfl) ?_
  refine zc_v (pc := 11) (maxL := 2) K hw10 (met_X6_next_6 X l σ9 a0 hg13 _ h) (i_V (n := 0) (t := 6) (As := []) K hw10 (ob hg13) zq6 (by decide) q665 q666 q670 (sg_of K q672) rfl rfl dX6_sign_11) (locw K q672 q97) ⟨by decide, by decide⟩ hl.1 dX6_sign_11 (Nat.le_of_ble_eq_true rfl) ⟨Nat.le_refl _, Nat.le_refl _⟩ (fun σ17 _ _ hq16 hw18 => ?_)
  obtain ⟨hk19, h⟩ := hq16
  have h := h hk19
  have hk20 := kp_trans wo_X6_sign hk12 hk19 (fun _ q => q) (by decide)
  have hg21 : tg σ17 a0 = 6 := kp_tg hk19 wo_X6_next hg13 (by decide)
  exact z_vret (pc := 14) K hw18 ⟨hk20, h⟩ dX6_sign_14
set_option maxHeartbeats 4000000 in
theorem met_X6_sign_7 (X : Cxt) (l : Launch) (σ : St) (a0 : Int) (x1 : Int) (ht0 : tg σ a0 = 7) (hx1 : rng x1) (Q : St → Prop) (E : Int → St → Prop) (h : wp_X6_sign σ a0 x1 Q E) : MetT l yX6_sign (ws_ yX6_sign cX6_sign 2 (none)) (zrm 5 0 0) (ZP X σ [jR X a0, jI x1]) (ZQ X (qV (fun σ' => Kp ws_X6_sign σ σ' ∧ Q σ')) (fun x σ' => tg σ' x = 2 ∧ Kp ws_X6_sign σ σ' ∧ E x σ')) 0 0 (zA X) := by
  refine z_start (own := "CombTable$Reader") (lv := [(0, jR X a0), (1, jI x1)]) (by decide) rfl (by simp [lv_args, jR_cat, jI_cat, jL_cat]) (by simp [lg_sl, jR_cat, jI_cat, jL_cat]) (fun p e s m below meth c ls K hex _ hw hl => ?_)
  have hk : Kp ws_X6_sign σ σ := kp_rf σ
  refine z_aload_n (pc := 0) K dX6_sign_0 rfl (lv_at hl 0 rfl) ?_
  refine z_aload_n (pc := 1) K dX6_sign_1 rfl (lv_at hl 0 rfl) ?_
  refine lv_iload_n (pc := 2) K.x K.b dX6_sign_2 rfl (lv_at hl 1 rfl) ?_
  refine zr_z (pc := 3) (maxL := 2) K hw (met_X6_is_2_7 X l σ a0 x1 ht0 hx1 _ h) (i_V (n := 1) (t := 7) (As := [jI x1]) K hw (ob ht0) zq7 (by decide) q878 q879 q884 (sg_of K q885) rfl rfl dX6_sign_3) (locw K q885 q97) ⟨by decide, by decide⟩ hl.1 dX6_sign_3 (Nat.le_of_ble_eq_true rfl) ⟨Nat.le_refl _, Nat.le_refl _⟩ (fun r1 _ _ hr2 h hw5 => ?_)
  refine z_iconst (pc := 6) K dX6_sign_6 ?_
  refine zt_v (pc := 7) (maxL := 3) K hw5 (met_X6_must_7 X l σ a0 r1 1 ht0 hr2 ⟨by decide, by decide⟩ _ _ h) (i_V (n := 2) (t := 7) (As := [jI r1, jI 1]) K hw5 (ob ht0) zq7 (by decide) q801 q758 q2038 (sg_of K q759) rfl rfl dX6_sign_7) (locw K q759 q97) ⟨by decide, by decide⟩ hl.1 dX6_sign_7 (Nat.le_of_ble_eq_true rfl) ⟨Nat.le_refl _, Nat.le_refl _⟩ (fun σ9 _ _ hq8 hw10 => ?_) (fun x σx _ _ hx0 hqx hwx => ?_)
  rotate_left
  · obtain ⟨htx, hkx, h⟩ := hqx
    have h := h hkx
    exact z_out K hwx hx0 ⟨htx, kp_trans wo_X6_sign hk hkx (fun _ q => q) (by decide), h⟩ (no_cov hex 7)
  obtain ⟨hk11, h⟩ := hq8
  have h := h hk11
  have hk12 := kp_trans wo_X6_sign hk hk11 (fun _ q => q) (by decide)
  have hg13 : tg σ9 a0 = 7 := kp_tg hk11 wo_X6_must ht0 (by decide)
  refine z_aload_n (pc := 10) K dX6_sign_10 rfl (lv_at hl 0 rfl) ?_
  refine zc_v (pc := 11) (maxL := 2) K hw10 (met_X6_next_7 X l σ9 a0 hg13 _ h) (i_V (n := 0) (t := 7) (As := []) K hw10 (ob hg13) zq7 (by decide) q665 q666 q671 (sg_of K q672) rfl rfl dX6_sign_11) (locw K q672 q97) ⟨by decide, by decide⟩ hl.1 dX6_sign_11 (Nat.le_of_ble_eq_true rfl) ⟨Nat.le_refl _, Nat.le_refl _⟩ (fun σ17 _ _ hq16 hw18 => ?_)
  obtain ⟨hk19, h⟩ := hq16
  have h := h hk19
  have hk20 := kp_trans wo_X6_sign hk12 hk19 (fun _ q => q) (by decide)
  have hg21 : tg σ17 a0 = 7 := kp_tg hk19 wo_X6_next hg13 (by decide)
  exact z_vret (pc := 14) K hw18 ⟨hk20, h⟩ dX6_sign_14
set_option maxHeartbeats 4000000 in
theorem met_X6_sign_8 (X : Cxt) (l : Launch) (σ : St) (a0 : Int) (x1 : Int) (ht0 : tg σ a0 = 8) (hx1 : rng x1) (Q : St → Prop) (E : Int → St → Prop) (h : wp_X6_sign σ a0 x1 Q E) : MetT l yX6_sign (ws_ yX6_sign cX6_sign 2 (none)) (zrm 5 0 0) (ZP X σ [jR X a0, jI x1]) (ZQ X (qV (fun σ' => Kp ws_X6_sign σ σ' ∧ Q σ')) (fun x σ' => tg σ' x = 2 ∧ Kp ws_X6_sign σ σ' ∧ E x σ')) 0 0 (zA X) := by
  refine z_start (own := "CombTable$Reader") (lv := [(0, jR X a0), (1, jI x1)]) (by decide) rfl (by simp [lv_args, jR_cat, jI_cat, jL_cat]) (by simp [lg_sl, jR_cat, jI_cat, jL_cat]) (fun p e s m below meth c ls K hex _ hw hl => ?_)
  have hk : Kp ws_X6_sign σ σ := kp_rf σ
  refine z_aload_n (pc := 0) K dX6_sign_0 rfl (lv_at hl 0 rfl) ?_
  refine z_aload_n (pc := 1) K dX6_sign_1 rfl (lv_at hl 0 rfl) ?_
  refine lv_iload_n (pc := 2) K.x K.b dX6_sign_2 rfl (lv_at hl 1 rfl) ?_
  refine zr_z (pc := 3) (maxL := 2) K hw (met_X6_is_2_8 X l σ a0 x1 ht0 hx1 _ h) (i_V (n := 1) (t := 8) (As := [jI x1]) K hw (ob ht0) zq8 (by decide) q878 q879 q881 (sg_of K q885) rfl rfl dX6_sign_3) (locw K q885 q97) ⟨by decide, by decide⟩ hl.1 dX6_sign_3 (Nat.le_of_ble_eq_true rfl) ⟨Nat.le_refl _, Nat.le_refl _⟩ (fun r1 _ _ hr2 h hw5 => ?_)
  refine z_iconst (pc := 6) K dX6_sign_6 ?_
  refine zt_v (pc := 7) (maxL := 3) K hw5 (met_X6_must_8 X l σ a0 r1 1 ht0 hr2 ⟨by decide, by decide⟩ _ _ h) (i_V (n := 2) (t := 8) (As := [jI r1, jI 1]) K hw5 (ob ht0) zq8 (by decide) q801 q758 q2035 (sg_of K q759) rfl rfl dX6_sign_7) (locw K q759 q97) ⟨by decide, by decide⟩ hl.1 dX6_sign_7 (Nat.le_of_ble_eq_true rfl) ⟨Nat.le_refl _, Nat.le_refl _⟩ (fun σ9 _ _ hq8 hw10 => ?_) (fun x σx _ _ hx0 hqx hwx => ?_)
  rotate_left
  · obtain ⟨htx, hkx, h⟩ := hqx
    have h := h hkx
    exact z_out K hwx hx0 ⟨htx, kp_trans wo_X6_sign hk hkx (fun _ q => q) (by decide), h⟩ (no_cov hex 7)
  obtain ⟨hk11, h⟩ := hq8
  have h := h hk11
  have hk12 := kp_trans wo_X6_sign hk hk11 (fun _ q => q) (by decide)
  have hg13 : tg σ9 a0 = 8 := kp_tg hk11 wo_X6_must ht0 (by decide)
  refine z_aload_n (pc := 10) K dX6_sign_10 rfl (lv_at hl 0 rfl) ?_
  refine zc_v (pc := 11) (maxL := 2) K hw10 (met_X6_next_8 X l σ9 a0 hg13 _ h) (i_V (n := 0) (t := 8) (As := []) K hw10 (ob hg13) zq8 (by decide) q665 q666 q668 (sg_of K q672) rfl rfl dX6_sign_11) (locw K q672 q97) ⟨by decide, by decide⟩ hl.1 dX6_sign_11 (Nat.le_of_ble_eq_true rfl) ⟨Nat.le_refl _, Nat.le_refl _⟩ (fun σ17 _ _ hq16 hw18 => ?_)
  obtain ⟨hk19, h⟩ := hq16
  have h := h hk19
  have hk20 := kp_trans wo_X6_sign hk12 hk19 (fun _ q => q) (by decide)
  have hg21 : tg σ17 a0 = 8 := kp_tg hk19 wo_X6_next hg13 (by decide)
  exact z_vret (pc := 14) K hw18 ⟨hk20, h⟩ dX6_sign_14
set_option maxHeartbeats 4000000 in
theorem met_X6_sign_9 (X : Cxt) (l : Launch) (σ : St) (a0 : Int) (x1 : Int) (ht0 : tg σ a0 = 9) (hx1 : rng x1) (Q : St → Prop) (E : Int → St → Prop) (h : wp_X6_sign σ a0 x1 Q E) : MetT l yX6_sign (ws_ yX6_sign cX6_sign 2 (none)) (zrm 5 0 0) (ZP X σ [jR X a0, jI x1]) (ZQ X (qV (fun σ' => Kp ws_X6_sign σ σ' ∧ Q σ')) (fun x σ' => tg σ' x = 2 ∧ Kp ws_X6_sign σ σ' ∧ E x σ')) 0 0 (zA X) := by
  refine z_start (own := "CombTable$Reader") (lv := [(0, jR X a0), (1, jI x1)]) (by decide) rfl (by simp [lv_args, jR_cat, jI_cat, jL_cat]) (by simp [lg_sl, jR_cat, jI_cat, jL_cat]) (fun p e s m below meth c ls K hex _ hw hl => ?_)
  have hk : Kp ws_X6_sign σ σ := kp_rf σ
  refine z_aload_n (pc := 0) K dX6_sign_0 rfl (lv_at hl 0 rfl) ?_
  refine z_aload_n (pc := 1) K dX6_sign_1 rfl (lv_at hl 0 rfl) ?_
  refine lv_iload_n (pc := 2) K.x K.b dX6_sign_2 rfl (lv_at hl 1 rfl) ?_
  refine zr_z (pc := 3) (maxL := 2) K hw (met_X6_is_2_9 X l σ a0 x1 ht0 hx1 _ h) (i_V (n := 1) (t := 9) (As := [jI x1]) K hw (ob ht0) zq9 (by decide) q878 q879 q882 (sg_of K q885) rfl rfl dX6_sign_3) (locw K q885 q97) ⟨by decide, by decide⟩ hl.1 dX6_sign_3 (Nat.le_of_ble_eq_true rfl) ⟨Nat.le_refl _, Nat.le_refl _⟩ (fun r1 _ _ hr2 h hw5 => ?_)
  refine z_iconst (pc := 6) K dX6_sign_6 ?_
  refine zt_v (pc := 7) (maxL := 3) K hw5 (met_X6_must_9 X l σ a0 r1 1 ht0 hr2 ⟨by decide, by decide⟩ _ _ h) (i_V (n := 2) (t := 9) (As := [jI r1, jI 1]) K hw5 (ob ht0) zq9 (by decide) q801 q758 q2036 (sg_of K q759) rfl rfl dX6_sign_7) (locw K q759 q97) ⟨by decide, by decide⟩ hl.1 dX6_sign_7 (Nat.le_of_ble_eq_true rfl) ⟨Nat.le_refl _, Nat.le_refl _⟩ (fun σ9 _ _ hq8 hw10 => ?_) (fun x σx _ _ hx0 hqx hwx => ?_)
  rotate_left
  · obtain ⟨htx, hkx, h⟩ := hqx
    have h := h hkx
    exact z_out K hwx hx0 ⟨htx, kp_trans wo_X6_sign hk hkx (fun _ q => q) (by decide), h⟩ (no_cov hex 7)
  obtain ⟨hk11, h⟩ := hq8
  have h := h hk11
  have hk12 := kp_trans wo_X6_sign hk hk11 (fun _ q => q) (by decide)
  have hg13 : tg σ9 a0 = 9 := kp_tg hk11 wo_X6_must ht0 (by decide)
  refine z_aload_n (pc := 10) K dX6_sign_10 rfl (lv_at hl 0 rfl) ?_
  refine zc_v (pc := 11) (maxL := 2) K hw10 (met_X6_next_9 X l σ9 a0 hg13 _ h) (i_V (n := 0) (t := 9) (As := []) K hw10 (ob hg13) zq9 (by decide) q665 q666 q669 (sg_of K q672) rfl rfl dX6_sign_11) (locw K q672 q97) ⟨by decide, by decide⟩ hl.1 dX6_sign_11 (Nat.le_of_ble_eq_true rfl) ⟨Nat.le_refl _, Nat.le_refl _⟩ (fun σ17 _ _ hq16 hw18 => ?_)
  obtain ⟨hk19, h⟩ := hq16
  have h := h hk19
  have hk20 := kp_trans wo_X6_sign hk12 hk19 (fun _ q => q) (by decide)
  have hg21 : tg σ17 a0 = 9 := kp_tg hk19 wo_X6_next hg13 (by decide)
  exact z_vret (pc := 14) K hw18 ⟨hk20, h⟩ dX6_sign_14
def ws_X6_number : List (Int × Nat) := [(2, 6), (2, 7), (6, 1), (6, 2), (6, 3), (6, 4), (6, 5), (6, 6), (7, 1), (7, 2), (7, 3), (7, 4), (7, 5), (7, 6), (8, 1), (8, 2), (8, 3), (8, 4), (8, 5), (8, 6), (9, 1), (9, 2), (9, 3), (9, 4), (9, 5), (9, 6)]
theorem wo_X6_number : wsOk ws_X6_number = true := rfl
def wp_X6_number_b14 (a0 : Int) (x1 : Int) (x2 : Int) (Q : Int → St → Prop) (E : Int → St → Prop) (σ0 : St) (σ : St) (s1 : Int) : Prop :=
  wp_X6_must σ a0 s1 1 (fun σ4 => Kp ws_X6_must σ σ4 → wp_X1_isIn σ4 (σ4 a0 4 0) x1 x2 (fun r9 => wp_X6_must σ4 a0 r9 2 (fun σ17 => Kp ws_X6_must σ4 σ17 → wp_X6_next σ17 a0 (fun σ25 => Kp ws_X6_next σ17 σ25 → Q (σ17 a0 4 0) σ25)) (fun x σx => Kp ws_X6_must σ4 σx → E x σx))) (fun x σx => Kp ws_X6_must σ σx → E x σx)
def wp_X6_number (σ : St) (a0 : Int) (x1 : Int) (x2 : Int) (Q : Int → St → Prop) (E : Int → St → Prop) : Prop :=
  (if σ a0 3 0 = 2 then
    (wp_X6_number_b14 a0 x1 x2 Q E σ σ 1)
    else
    (wp_X6_number_b14 a0 x1 x2 Q E σ σ 0))
set_option maxHeartbeats 4000000 in
theorem wk_X6_number_b14_6 {X : Cxt} {p : Program} {l : Launch} {e : Env} {s : State} {m : MethodId} {args : Array Value} {below : List Frame} {meth : Method} {c : Code} (a0 : Int) (x1 : Int) (x2 : Int) (Q : Int → St → Prop) (E : Int → St → Prop) (σ0 : St) (K : MCx X p s m args meth c cX6_number 4 "CombTable$Reader" (some .int)) (hex : c.exceptionTable.isEmpty = true) (hx1 : rng x1) (hx2 : rng x2) : ∀ (σ : St) (s1 : Int) (H : Heap) (locs : List Loc) (ls : Array Slot), wp_X6_number_b14 a0 x1 x2 Q E σ0 σ s1 → Wc X σ s.heap H locs → Kp ws_X6_number σ0 σ → tg σ a0 = 6 → (0 ≤ s1 ∧ s1 ≤ 1) → lv_has ls 4 [(0, jR X a0), (1, jI x1), (2, jI x2)] → W p l e (zrm 5 0 0) s m args below meth c H locs 0 0 (MQT below (ZQ X (qI (fun r σ' => Kp ws_X6_number σ0 σ' ∧ Q r σ')) (fun x σ' => tg σ' x = 2 ∧ Kp ws_X6_number σ0 σ' ∧ E x σ')) args s 0 0 (zA X)) (F0 m 14 ls [jI s1, jR X a0]) := by
  intro σ s1 H locs ls h hw hk ht0 hs1 hl
  refine z_iconst (pc := 14) K dX6_number_14 ?_
  refine zt_v (pc := 15) (maxL := 3) K hw (met_X6_must_6 X l σ a0 s1 1 ht0 hs1 ⟨by decide, by decide⟩ _ _ h) (i_V (n := 2) (t := 6) (As := [jI s1, jI 1]) K hw (ob ht0) zq6 (by decide) q801 q758 q2037 (sg_of K q759) rfl rfl dX6_number_15) (locw K q759 q97) ⟨by decide, by decide⟩ hl.1 dX6_number_15 (Nat.le_of_ble_eq_true rfl) ⟨Nat.le_refl _, Nat.le_refl _⟩ (fun σ4 _ _ hq3 hw5 => ?_) (fun x σx _ _ hx0 hqx hwx => ?_)
  rotate_left
  · obtain ⟨htx, hkx, h⟩ := hqx
    have h := h hkx
    exact z_out K hwx hx0 ⟨htx, kp_trans wo_X6_number hk hkx (fun _ q => q) (by decide), h⟩ (no_cov hex 15)
  obtain ⟨hk6, h⟩ := hq3
  have h := h hk6
  have hk7 := kp_trans wo_X6_number hk hk6 (fun _ q => q) (by decide)
  have hg8 : tg σ4 a0 = 6 := kp_tg hk6 wo_X6_must ht0 (by decide)
  refine z_aload_n (pc := 18) K dX6_number_18 rfl (lv_at hl 0 rfl) ?_
  refine z_aload_n (pc := 19) K dX6_number_19 rfl (lv_at hl 0 rfl) ?_
  refine z_get (pc := 20) (t := 6) (k := 4) K hw5 (ob (t := 6) hg8) zq6 (by decide) q397 (fun _ h => h) dX6_number_20 (zval_i kf_6_4) ?_
  refine lv_iload_n (pc := 23) K.x K.b dX6_number_23 rfl (lv_at hl 1 rfl) ?_
  refine lv_iload_n (pc := 24) K.x K.b dX6_number_24 rfl (lv_at hl 2 rfl) ?_
  refine zr_z (pc := 25) (maxL := 3) K hw5 (met_X1_isIn X l σ4 (σ4 a0 4 0) x1 x2 (z_rI hw5 (ob (t := 6) hg8) kf_6_4) hx1 hx2 _ h) (i_SN (n := 3) (As := [jI (σ4 a0 4 0), jI x1, jI x2]) K (by decide) q681 q682 q90 (sg_of K q683) rfl rfl dX6_number_25) (locw K q683 q90) ⟨by decide, by decide⟩ hl.1 dX6_number_25 (Nat.le_of_ble_eq_true rfl) ⟨Nat.le_refl _, Nat.le_refl _⟩ (fun r9 _ _ hr10 h hw13 => ?_)
  refine z_iconst (pc := 28) K dX6_number_28 ?_
  refine zt_v (pc := 29) (maxL := 3) K hw13 (met_X6_must_6 X l σ4 a0 r9 2 hg8 hr10 ⟨by decide, by decide⟩ _ _ h) (i_V (n := 2) (t := 6) (As := [jI r9, jI 2]) K hw13 (ob hg8) zq6 (by decide) q801 q758 q2037 (sg_of K q759) rfl rfl dX6_number_29) (locw K q759 q97) ⟨by decide, by decide⟩ hl.1 dX6_number_29 (Nat.le_of_ble_eq_true rfl) ⟨Nat.le_refl _, Nat.le_refl _⟩ (fun σ17 _ _ hq16 hw18 => ?_) (fun x σx _ _ hx0 hqx hwx => ?_)
  rotate_left
  · obtain ⟨htx, hkx, h⟩ := hqx
    have h := h hkx
    exact z_out K hwx hx0 ⟨htx, kp_trans wo_X6_number hk7 hkx (fun _ q => q) (by decide), h⟩ (no_cov hex 29)
  obtain ⟨hk19, h⟩ := hq16
  have h := h hk19
  have hk20 := kp_trans wo_X6_number hk7 hk19 (fun _ q => q) (by decide)
  have hg21 : tg σ17 a0 = 6 := kp_tg hk19 wo_X6_must hg8 (by decide)
  refine z_aload_n (pc := 32) K dX6_number_32 rfl (lv_at hl 0 rfl) ?_
  refine z_get (pc := 33) (t := 6) (k := 4) K hw18 (ob (t := 6) hg21) zq6 (by decide) q397 (fun _ h => h) dX6_number_33 (zval_i kf_6_4) ?_
  refine lv_istore_n (pc := 36) (lv' := [(3, jI (σ17 a0 4 0)), (0, jR X a0), (1, jI x1), (2, jI x2)]) K.x K.b dX6_number_36 rfl hl (by decide) rfl (fun ls hl => ?_)
  refine z_aload_n (pc := 37) K dX6_number_37 rfl (lv_at hl 1 rfl) ?_
  refine zc_v (pc := 38) (maxL := 2) K hw18 (met_X6_next_6 X l σ17 a0 hg21 _ h) (i_V (n := 0) (t := 6) (As := []) K hw18 (ob hg21) zq6 (by decide) q665 q666 q670 (sg_of K q672) rfl rfl dX6_number_38) (locw K q672 q97) ⟨by decide, by decide⟩ hl.1 dX6_number_38 (Nat.le_of_ble_eq_true rfl) ⟨Nat.le_refl _, Nat.le_refl _⟩ (fun σ25 _ _ hq24 hw26 => ?_)
  obtain ⟨hk27, h⟩ := hq24
  have h := h hk27
  have hk28 := kp_trans wo_X6_number hk20 hk27 (fun _ q => q) (by decide)
  have hg29 : tg σ25 a0 = 6 := kp_tg hk27 wo_X6_next hg21 (by decide)
  refine lv_iload_n (pc := 41) K.x K.b dX6_number_41 rfl (lv_at hl 0 rfl) ?_
  exact z_iret (pc := 42) K hw26 (z_rI hw18 (ob (t := 6) hg21) kf_6_4) ⟨hk28, h⟩ dX6_number_42
set_option maxHeartbeats 4000000 in
theorem met_X6_number_6 (X : Cxt) (l : Launch) (σ : St) (a0 : Int) (x1 : Int) (x2 : Int) (ht0 : tg σ a0 = 6) (hx1 : rng x1) (hx2 : rng x2) (Q : Int → St → Prop) (E : Int → St → Prop) (h : wp_X6_number σ a0 x1 x2 Q E) : MetT l yX6_number (ws_ yX6_number cX6_number 4 (some .int)) (zrm 5 0 0) (ZP X σ [jR X a0, jI x1, jI x2]) (ZQ X (qI (fun r σ' => Kp ws_X6_number σ σ' ∧ Q r σ')) (fun x σ' => tg σ' x = 2 ∧ Kp ws_X6_number σ σ' ∧ E x σ')) 0 0 (zA X) := by
  refine z_start (own := "CombTable$Reader") (lv := [(0, jR X a0), (1, jI x1), (2, jI x2)]) (by decide) rfl (by simp [lv_args, jR_cat, jI_cat, jL_cat]) (by simp [lg_sl, jR_cat, jI_cat, jL_cat]) (fun p e s m below meth c ls K hex _ hw hl => ?_)
  have hk : Kp ws_X6_number σ σ := kp_rf σ
  refine z_aload_n (pc := 0) K dX6_number_0 rfl (lv_at hl 0 rfl) ?_
  refine z_aload_n (pc := 1) K dX6_number_1 rfl (lv_at hl 0 rfl) ?_
  refine z_get (pc := 2) (t := 6) (k := 3) K hw (ob (t := 6) ht0) zq6 (by decide) q394 (fun _ h => h) dX6_number_2 (zval_i kf_6_3) ?_
  refine z_iconst (pc := 5) K dX6_number_5 ?_
  refine z_icmp_ne (pc := 6) (tgt := 13) K (z_rI hw (ob (t := 6) ht0) kf_6_3) ⟨by decide, by decide⟩ dX6_number_6 (by decide) (fun hc1 => ?_) (fun hc1 => ?_)
  · have h := ite_t h hc1
    refine z_iconst (pc := 9) K dX6_number_9 ?_
    refine z_goto (pc := 10) (tgt := 14) K dX6_number_10 (by decide) ?_
    exact wk_X6_number_b14_6 a0 x1 x2 Q E σ K hex hx1 hx2 σ 1 _ _ _ h hw hk ht0 ⟨by decide, by decide⟩ (lv_sub hl [0, 1, 2] rfl)
  · have h := ite_f h hc1
    refine z_iconst (pc := 13) K dX6_number_13 ?_
    exact wk_X6_number_b14_6 a0 x1 x2 Q E σ K hex hx1 hx2 σ 0 _ _ _ h hw hk ht0 ⟨by decide, by decide⟩ (lv_sub hl [0, 1, 2] rfl)
set_option maxHeartbeats 4000000 in
theorem wk_X6_number_b14_7 {X : Cxt} {p : Program} {l : Launch} {e : Env} {s : State} {m : MethodId} {args : Array Value} {below : List Frame} {meth : Method} {c : Code} (a0 : Int) (x1 : Int) (x2 : Int) (Q : Int → St → Prop) (E : Int → St → Prop) (σ0 : St) (K : MCx X p s m args meth c cX6_number 4 "CombTable$Reader" (some .int)) (hex : c.exceptionTable.isEmpty = true) (hx1 : rng x1) (hx2 : rng x2) : ∀ (σ : St) (s1 : Int) (H : Heap) (locs : List Loc) (ls : Array Slot), wp_X6_number_b14 a0 x1 x2 Q E σ0 σ s1 → Wc X σ s.heap H locs → Kp ws_X6_number σ0 σ → tg σ a0 = 7 → (0 ≤ s1 ∧ s1 ≤ 1) → lv_has ls 4 [(0, jR X a0), (1, jI x1), (2, jI x2)] → W p l e (zrm 5 0 0) s m args below meth c H locs 0 0 (MQT below (ZQ X (qI (fun r σ' => Kp ws_X6_number σ0 σ' ∧ Q r σ')) (fun x σ' => tg σ' x = 2 ∧ Kp ws_X6_number σ0 σ' ∧ E x σ')) args s 0 0 (zA X)) (F0 m 14 ls [jI s1, jR X a0]) := by
  intro σ s1 H locs ls h hw hk ht0 hs1 hl
  refine z_iconst (pc := 14) K dX6_number_14 ?_
  refine zt_v (pc := 15) (maxL := 3) K hw (met_X6_must_7 X l σ a0 s1 1 ht0 hs1 ⟨by decide, by decide⟩ _ _ h) (i_V (n := 2) (t := 7) (As := [jI s1, jI 1]) K hw (ob ht0) zq7 (by decide) q801 q758 q2038 (sg_of K q759) rfl rfl dX6_number_15) (locw K q759 q97) ⟨by decide, by decide⟩ hl.1 dX6_number_15 (Nat.le_of_ble_eq_true rfl) ⟨Nat.le_refl _, Nat.le_refl _⟩ (fun σ4 _ _ hq3 hw5 => ?_) (fun x σx _ _ hx0 hqx hwx => ?_)
  rotate_left
  · obtain ⟨htx, hkx, h⟩ := hqx
    have h := h hkx
    exact z_out K hwx hx0 ⟨htx, kp_trans wo_X6_number hk hkx (fun _ q => q) (by decide), h⟩ (no_cov hex 15)
  obtain ⟨hk6, h⟩ := hq3
  have h := h hk6
  have hk7 := kp_trans wo_X6_number hk hk6 (fun _ q => q) (by decide)
  have hg8 : tg σ4 a0 = 7 := kp_tg hk6 wo_X6_must ht0 (by decide)
  refine z_aload_n (pc := 18) K dX6_number_18 rfl (lv_at hl 0 rfl) ?_
  refine z_aload_n (pc := 19) K dX6_number_19 rfl (lv_at hl 0 rfl) ?_
  refine z_get (pc := 20) (t := 7) (k := 4) K hw5 (ob (t := 7) hg8) zq7 (by decide) q397 (fun _ h => h) dX6_number_20 (zval_i kf_7_4) ?_
  refine lv_iload_n (pc := 23) K.x K.b dX6_number_23 rfl (lv_at hl 1 rfl) ?_
  refine lv_iload_n (pc := 24) K.x K.b dX6_number_24 rfl (lv_at hl 2 rfl) ?_
  refine zr_z (pc := 25) (maxL := 3) K hw5 (met_X1_isIn X l σ4 (σ4 a0 4 0) x1 x2 (z_rI hw5 (ob (t := 7) hg8) kf_7_4) hx1 hx2 _ h) (i_SN (n := 3) (As := [jI (σ4 a0 4 0), jI x1, jI x2]) K (by decide) q681 q682 q90 (sg_of K q683) rfl rfl dX6_number_25) (locw K q683 q90) ⟨by decide, by decide⟩ hl.1 dX6_number_25 (Nat.le_of_ble_eq_true rfl) ⟨Nat.le_refl _, Nat.le_refl _⟩ (fun r9 _ _ hr10 h hw13 => ?_)
  refine z_iconst (pc := 28) K dX6_number_28 ?_
  refine zt_v (pc := 29) (maxL := 3) K hw13 (met_X6_must_7 X l σ4 a0 r9 2 hg8 hr10 ⟨by decide, by decide⟩ _ _ h) (i_V (n := 2) (t := 7) (As := [jI r9, jI 2]) K hw13 (ob hg8) zq7 (by decide) q801 q758 q2038 (sg_of K q759) rfl rfl dX6_number_29) (locw K q759 q97) ⟨by decide, by decide⟩ hl.1 dX6_number_29 (Nat.le_of_ble_eq_true rfl) ⟨Nat.le_refl _, Nat.le_refl _⟩ (fun σ17 _ _ hq16 hw18 => ?_) (fun x σx _ _ hx0 hqx hwx => ?_)
  rotate_left
  · obtain ⟨htx, hkx, h⟩ := hqx
    have h := h hkx
    exact z_out K hwx hx0 ⟨htx, kp_trans wo_X6_number hk7 hkx (fun _ q => q) (by decide), h⟩ (no_cov hex 29)
  obtain ⟨hk19, h⟩ := hq16
  have h := h hk19
  have hk20 := kp_trans wo_X6_number hk7 hk19 (fun _ q => q) (by decide)
  have hg21 : tg σ17 a0 = 7 := kp_tg hk19 wo_X6_must hg8 (by decide)
  refine z_aload_n (pc := 32) K dX6_number_32 rfl (lv_at hl 0 rfl) ?_
  refine z_get (pc := 33) (t := 7) (k := 4) K hw18 (ob (t := 7) hg21) zq7 (by decide) q397 (fun _ h => h) dX6_number_33 (zval_i kf_7_4) ?_
  refine lv_istore_n (pc := 36) (lv' := [(3, jI (σ17 a0 4 0)), (0, jR X a0), (1, jI x1), (2, jI x2)]) K.x K.b dX6_number_36 rfl hl (by decide) rfl (fun ls hl => ?_)
  refine z_aload_n (pc := 37) K dX6_number_37 rfl (lv_at hl 1 rfl) ?_
  refine zc_v (pc := 38) (maxL := 2) K hw18 (met_X6_next_7 X l σ17 a0 hg21 _ h) (i_V (n := 0) (t := 7) (As := []) K hw18 (ob hg21) zq7 (by decide) q665 q666 q671 (sg_of K q672) rfl rfl dX6_number_38) (locw K q672 q97) ⟨by decide, by decide⟩ hl.1 dX6_number_38 (Nat.le_of_ble_eq_true rfl) ⟨Nat.le_refl _, Nat.le_refl _⟩ (fun σ25 _ _ hq24 hw26 => ?_)
  obtain ⟨hk27, h⟩ := hq24
  have h := h hk27
  have hk28 := kp_trans wo_X6_number hk20 hk27 (fun _ q => q) (by decide)
  have hg29 : tg σ25 a0 = 7 := kp_tg hk27 wo_X6_next hg21 (by decide)
  refine lv_iload_n (pc := 41) K.x K.b dX6_number_41 rfl (lv_at hl 0 rfl) ?_
  exact z_iret (pc := 42) K hw26 (z_rI hw18 (ob (t := 7) hg21) kf_7_4) ⟨hk28, h⟩ dX6_number_42
set_option maxHeartbeats 4000000 in
theorem met_X6_number_7 (X : Cxt) (l : Launch) (σ : St) (a0 : Int) (x1 : Int) (x2 : Int) (ht0 : tg σ a0 = 7) (hx1 : rng x1) (hx2 : rng x2) (Q : Int → St → Prop) (E : Int → St → Prop) (h : wp_X6_number σ a0 x1 x2 Q E) : MetT l yX6_number (ws_ yX6_number cX6_number 4 (some .int)) (zrm 5 0 0) (ZP X σ [jR X a0, jI x1, jI x2]) (ZQ X (qI (fun r σ' => Kp ws_X6_number σ σ' ∧ Q r σ')) (fun x σ' => tg σ' x = 2 ∧ Kp ws_X6_number σ σ' ∧ E x σ')) 0 0 (zA X) := by
  refine z_start (own := "CombTable$Reader") (lv := [(0, jR X a0), (1, jI x1), (2, jI x2)]) (by decide) rfl (by simp [lv_args, jR_cat, jI_cat, jL_cat]) (by simp [lg_sl, jR_cat, jI_cat, jL_cat]) (fun p e s m below meth c ls K hex _ hw hl => ?_)
  have hk : Kp ws_X6_number σ σ := kp_rf σ
  refine z_aload_n (pc := 0) K dX6_number_0 rfl (lv_at hl 0 rfl) ?_
  refine z_aload_n (pc := 1) K dX6_number_1 rfl (lv_at hl 0 rfl) ?_
  refine z_get (pc := 2) (t := 7) (k := 3) K hw (ob (t := 7) ht0) zq7 (by decide) q394 (fun _ h => h) dX6_number_2 (zval_i kf_7_3) ?_
  refine z_iconst (pc := 5) K dX6_number_5 ?_
  refine z_icmp_ne (pc := 6) (tgt := 13) K (z_rI hw (ob (t := 7) ht0) kf_7_3) ⟨by decide, by decide⟩ dX6_number_6 (by decide) (fun hc1 => ?_) (fun hc1 => ?_)
  · have h := ite_t h hc1
    refine z_iconst (pc := 9) K dX6_number_9 ?_
    refine z_goto (pc := 10) (tgt := 14) K dX6_number_10 (by decide) ?_
    exact wk_X6_number_b14_7 a0 x1 x2 Q E σ K hex hx1 hx2 σ 1 _ _ _ h hw hk ht0 ⟨by decide, by decide⟩ (lv_sub hl [0, 1, 2] rfl)
  · have h := ite_f h hc1
    refine z_iconst (pc := 13) K dX6_number_13 ?_
    exact wk_X6_number_b14_7 a0 x1 x2 Q E σ K hex hx1 hx2 σ 0 _ _ _ h hw hk ht0 ⟨by decide, by decide⟩ (lv_sub hl [0, 1, 2] rfl)
set_option maxHeartbeats 4000000 in
theorem wk_X6_number_b14_8 {X : Cxt} {p : Program} {l : Launch} {e : Env} {s : State} {m : MethodId} {args : Array Value} {below : List Frame} {meth : Method} {c : Code} (a0 : Int) (x1 : Int) (x2 : Int) (Q : Int → St → Prop) (E : Int → St → Prop) (σ0 : St) (K : MCx X p s m args meth c cX6_number 4 "CombTable$Reader" (some .int)) (hex : c.exceptionTable.isEmpty = true) (hx1 : rng x1) (hx2 : rng x2) : ∀ (σ : St) (s1 : Int) (H : Heap) (locs : List Loc) (ls : Array Slot), wp_X6_number_b14 a0 x1 x2 Q E σ0 σ s1 → Wc X σ s.heap H locs → Kp ws_X6_number σ0 σ → tg σ a0 = 8 → (0 ≤ s1 ∧ s1 ≤ 1) → lv_has ls 4 [(0, jR X a0), (1, jI x1), (2, jI x2)] → W p l e (zrm 5 0 0) s m args below meth c H locs 0 0 (MQT below (ZQ X (qI (fun r σ' => Kp ws_X6_number σ0 σ' ∧ Q r σ')) (fun x σ' => tg σ' x = 2 ∧ Kp ws_X6_number σ0 σ' ∧ E x σ')) args s 0 0 (zA X)) (F0 m 14 ls [jI s1, jR X a0]) := by
  intro σ s1 H locs ls h hw hk ht0 hs1 hl
  refine z_iconst (pc := 14) K dX6_number_14 ?_
  refine zt_v (pc := 15) (maxL := 3) K hw (met_X6_must_8 X l σ a0 s1 1 ht0 hs1 ⟨by decide, by decide⟩ _ _ h) (i_V (n := 2) (t := 8) (As := [jI s1, jI 1]) K hw (ob ht0) zq8 (by decide) q801 q758 q2035 (sg_of K q759) rfl rfl dX6_number_15) (locw K q759 q97) ⟨by decide, by decide⟩ hl.1 dX6_number_15 (Nat.le_of_ble_eq_true rfl) ⟨Nat.le_refl _, Nat.le_refl _⟩ (fun σ4 _ _ hq3 hw5 => ?_) (fun x σx _ _ hx0 hqx hwx => ?_)
  rotate_left
  · obtain ⟨htx, hkx, h⟩ := hqx
    have h := h hkx
    exact z_out K hwx hx0 ⟨htx, kp_trans wo_X6_number hk hkx (fun _ q => q) (by decide), h⟩ (no_cov hex 15)
  obtain ⟨hk6, h⟩ := hq3
  have h := h hk6
  have hk7 := kp_trans wo_X6_number hk hk6 (fun _ q => q) (by decide)
  have hg8 : tg σ4 a0 = 8 := kp_tg hk6 wo_X6_must ht0 (by decide)
  refine z_aload_n (pc := 18) K dX6_number_18 rfl (lv_at hl 0 rfl) ?_
  refine z_aload_n (pc := 19) K dX6_number_19 rfl (lv_at hl 0 rfl) ?_
  refine z_get (pc := 20) (t := 8) (k := 4) K hw5 (ob (t := 8) hg8) zq8 (by decide) q397 (fun _ h => h) dX6_number_20 (zval_i kf_8_4) ?_
  refine lv_iload_n (pc := 23) K.x K.b dX6_number_23 rfl (lv_at hl 1 rfl) ?_
  refine lv_iload_n (pc := 24) K.x K.b dX6_number_24 rfl (lv_at hl 2 rfl) ?_
  refine zr_z (pc := 25) (maxL := 3) K hw5 (met_X1_isIn X l σ4 (σ4 a0 4 0) x1 x2 (z_rI hw5 (ob (t := 8) hg8) kf_8_4) hx1 hx2 _ h) (i_SN (n := 3) (As := [jI (σ4 a0 4 0), jI x1, jI x2]) K (by decide) q681 q682 q90 (sg_of K q683) rfl rfl dX6_number_25) (locw K q683 q90) ⟨by decide, by decide⟩ hl.1 dX6_number_25 (Nat.le_of_ble_eq_true rfl) ⟨Nat.le_refl _, Nat.le_refl _⟩ (fun r9 _ _ hr10 h hw13 => ?_)
  refine z_iconst (pc := 28) K dX6_number_28 ?_
  refine zt_v (pc := 29) (maxL := 3) K hw13 (met_X6_must_8 X l σ4 a0 r9 2 hg8 hr10 ⟨by decide, by decide⟩ _ _ h) (i_V (n := 2) (t := 8) (As := [jI r9, jI 2]) K hw13 (ob hg8) zq8 (by decide) q801 q758 q2035 (sg_of K q759) rfl rfl dX6_number_29) (locw K q759 q97) ⟨by decide, by decide⟩ hl.1 dX6_number_29 (Nat.le_of_ble_eq_true rfl) ⟨Nat.le_refl _, Nat.le_refl _⟩ (fun σ17 _ _ hq16 hw18 => ?_) (fun x σx _ _ hx0 hqx hwx => ?_)
  rotate_left
  · obtain ⟨htx, hkx, h⟩ := hqx
    have h := h hkx
    exact z_out K hwx hx0 ⟨htx, kp_trans wo_X6_number hk7 hkx (fun _ q => q) (by decide), h⟩ (no_cov hex 29)
  obtain ⟨hk19, h⟩ := hq16
  have h := h hk19
  have hk20 := kp_trans wo_X6_number hk7 hk19 (fun _ q => q) (by decide)
  have hg21 : tg σ17 a0 = 8 := kp_tg hk19 wo_X6_must hg8 (by decide)
  refine z_aload_n (pc := 32) K dX6_number_32 rfl (lv_at hl 0 rfl) ?_
  refine z_get (pc := 33) (t := 8) (k := 4) K hw18 (ob (t := 8) hg21) zq8 (by decide) q397 (fun _ h => h) dX6_number_33 (zval_i kf_8_4) ?_
  refine lv_istore_n (pc := 36) (lv' := [(3, jI (σ17 a0 4 0)), (0, jR X a0), (1, jI x1), (2, jI x2)]) K.x K.b dX6_number_36 rfl hl (by decide) rfl (fun ls hl => ?_)
  refine z_aload_n (pc := 37) K dX6_number_37 rfl (lv_at hl 1 rfl) ?_
  refine zc_v (pc := 38) (maxL := 2) K hw18 (met_X6_next_8 X l σ17 a0 hg21 _ h) (i_V (n := 0) (t := 8) (As := []) K hw18 (ob hg21) zq8 (by decide) q665 q666 q668 (sg_of K q672) rfl rfl dX6_number_38) (locw K q672 q97) ⟨by decide, by decide⟩ hl.1 dX6_number_38 (Nat.le_of_ble_eq_true rfl) ⟨Nat.le_refl _, Nat.le_refl _⟩ (fun σ25 _ _ hq24 hw26 => ?_)
  obtain ⟨hk27, h⟩ := hq24
  have h := h hk27
  have hk28 := kp_trans wo_X6_number hk20 hk27 (fun _ q => q) (by decide)
  have hg29 : tg σ25 a0 = 8 := kp_tg hk27 wo_X6_next hg21 (by decide)
  refine lv_iload_n (pc := 41) K.x K.b dX6_number_41 rfl (lv_at hl 0 rfl) ?_
  exact z_iret (pc := 42) K hw26 (z_rI hw18 (ob (t := 8) hg21) kf_8_4) ⟨hk28, h⟩ dX6_number_42
set_option maxHeartbeats 4000000 in
theorem met_X6_number_8 (X : Cxt) (l : Launch) (σ : St) (a0 : Int) (x1 : Int) (x2 : Int) (ht0 : tg σ a0 = 8) (hx1 : rng x1) (hx2 : rng x2) (Q : Int → St → Prop) (E : Int → St → Prop) (h : wp_X6_number σ a0 x1 x2 Q E) : MetT l yX6_number (ws_ yX6_number cX6_number 4 (some .int)) (zrm 5 0 0) (ZP X σ [jR X a0, jI x1, jI x2]) (ZQ X (qI (fun r σ' => Kp ws_X6_number σ σ' ∧ Q r σ')) (fun x σ' => tg σ' x = 2 ∧ Kp ws_X6_number σ σ' ∧ E x σ')) 0 0 (zA X) := by
  refine z_start (own := "CombTable$Reader") (lv := [(0, jR X a0), (1, jI x1), (2, jI x2)]) (by decide) rfl (by simp [lv_args, jR_cat, jI_cat, jL_cat]) (by simp [lg_sl, jR_cat, jI_cat, jL_cat]) (fun p e s m below meth c ls K hex _ hw hl => ?_)
  have hk : Kp ws_X6_number σ σ := kp_rf σ
  refine z_aload_n (pc := 0) K dX6_number_0 rfl (lv_at hl 0 rfl) ?_
  refine z_aload_n (pc := 1) K dX6_number_1 rfl (lv_at hl 0 rfl) ?_
  refine z_get (pc := 2) (t := 8) (k := 3) K hw (ob (t := 8) ht0) zq8 (by decide) q394 (fun _ h => h) dX6_number_2 (zval_i kf_8_3) ?_
  refine z_iconst (pc := 5) K dX6_number_5 ?_
  refine z_icmp_ne (pc := 6) (tgt := 13) K (z_rI hw (ob (t := 8) ht0) kf_8_3) ⟨by decide, by decide⟩ dX6_number_6 (by decide) (fun hc1 => ?_) (fun hc1 => ?_)
  · have h := ite_t h hc1
    refine z_iconst (pc := 9) K dX6_number_9 ?_
    refine z_goto (pc := 10) (tgt := 14) K dX6_number_10 (by decide) ?_
    exact wk_X6_number_b14_8 a0 x1 x2 Q E σ K hex hx1 hx2 σ 1 _ _ _ h hw hk ht0 ⟨by decide, by decide⟩ (lv_sub hl [0, 1, 2] rfl)
  · have h := ite_f h hc1
    refine z_iconst (pc := 13) K dX6_number_13 ?_
    exact wk_X6_number_b14_8 a0 x1 x2 Q E σ K hex hx1 hx2 σ 0 _ _ _ h hw hk ht0 ⟨by decide, by decide⟩ (lv_sub hl [0, 1, 2] rfl)
set_option maxHeartbeats 4000000 in
theorem wk_X6_number_b14_9 {X : Cxt} {p : Program} {l : Launch} {e : Env} {s : State} {m : MethodId} {args : Array Value} {below : List Frame} {meth : Method} {c : Code} (a0 : Int) (x1 : Int) (x2 : Int) (Q : Int → St → Prop) (E : Int → St → Prop) (σ0 : St) (K : MCx X p s m args meth c cX6_number 4 "CombTable$Reader" (some .int)) (hex : c.exceptionTable.isEmpty = true) (hx1 : rng x1) (hx2 : rng x2) : ∀ (σ : St) (s1 : Int) (H : Heap) (locs : List Loc) (ls : Array Slot), wp_X6_number_b14 a0 x1 x2 Q E σ0 σ s1 → Wc X σ s.heap H locs → Kp ws_X6_number σ0 σ → tg σ a0 = 9 → (0 ≤ s1 ∧ s1 ≤ 1) → lv_has ls 4 [(0, jR X a0), (1, jI x1), (2, jI x2)] → W p l e (zrm 5 0 0) s m args below meth c H locs 0 0 (MQT below (ZQ X (qI (fun r σ' => Kp ws_X6_number σ0 σ' ∧ Q r σ')) (fun x σ' => tg σ' x = 2 ∧ Kp ws_X6_number σ0 σ' ∧ E x σ')) args s 0 0 (zA X)) (F0 m 14 ls [jI s1, jR X a0]) := by
  intro σ s1 H locs ls h hw hk ht0 hs1 hl
  refine z_iconst (pc := 14) K dX6_number_14 ?_
  refine zt_v (pc := 15) (maxL := 3) K hw (met_X6_must_9 X l σ a0 s1 1 ht0 hs1 ⟨by decide, by decide⟩ _ _ h) (i_V (n := 2) (t := 9) (As := [jI s1, jI 1]) K hw (ob ht0) zq9 (by decide) q801 q758 q2036 (sg_of K q759) rfl rfl dX6_number_15) (locw K q759 q97) ⟨by decide, by decide⟩ hl.1 dX6_number_15 (Nat.le_of_ble_eq_true rfl) ⟨Nat.le_refl _, Nat.le_refl _⟩ (fun σ4 _ _ hq3 hw5 => ?_) (fun x σx _ _ hx0 hqx hwx => ?_)
  rotate_left
  · obtain ⟨htx, hkx, h⟩ := hqx
    have h := h hkx
    exact z_out K hwx hx0 ⟨htx, kp_trans wo_X6_number hk hkx (fun _ q => q) (by decide), h⟩ (no_cov hex 15)
  obtain ⟨hk6, h⟩ := hq3
  have h := h hk6
  have hk7 := kp_trans wo_X6_number hk hk6 (fun _ q => q) (by decide)
  have hg8 : tg σ4 a0 = 9 := kp_tg hk6 wo_X6_must ht0 (by decide)
  refine z_aload_n (pc := 18) K dX6_number_18 rfl (lv_at hl 0 rfl) ?_
  refine z_aload_n (pc := 19) K dX6_number_19 rfl (lv_at hl 0 rfl) ?_
  refine z_get (pc := 20) (t := 9) (k := 4) K hw5 (ob (t := 9) hg8) zq9 (by decide) q397 (fun _ h => h) dX6_number_20 (zval_i kf_9_4) ?_
  refine lv_iload_n (pc := 23) K.x K.b dX6_number_23 rfl (lv_at hl 1 rfl) ?_
  refine lv_iload_n (pc := 24) K.x K.b dX6_number_24 rfl (lv_at hl 2 rfl) ?_
  refine zr_z (pc := 25) (maxL := 3) K hw5 (met_X1_isIn X l σ4 (σ4 a0 4 0) x1 x2 (z_rI hw5 (ob (t := 9) hg8) kf_9_4) hx1 hx2 _ h) (i_SN (n := 3) (As := [jI (σ4 a0 4 0), jI x1, jI x2]) K (by decide) q681 q682 q90 (sg_of K q683) rfl rfl dX6_number_25) (locw K q683 q90) ⟨by decide, by decide⟩ hl.1 dX6_number_25 (Nat.le_of_ble_eq_true rfl) ⟨Nat.le_refl _, Nat.le_refl _⟩ (fun r9 _ _ hr10 h hw13 => ?_)
  refine z_iconst (pc := 28) K dX6_number_28 ?_
  refine zt_v (pc := 29) (maxL := 3) K hw13 (met_X6_must_9 X l σ4 a0 r9 2 hg8 hr10 ⟨by decide, by decide⟩ _ _ h) (i_V (n := 2) (t := 9) (As := [jI r9, jI 2]) K hw13 (ob hg8) zq9 (by decide) q801 q758 q2036 (sg_of K q759) rfl rfl dX6_number_29) (locw K q759 q97) ⟨by decide, by decide⟩ hl.1 dX6_number_29 (Nat.le_of_ble_eq_true rfl) ⟨Nat.le_refl _, Nat.le_refl _⟩ (fun σ17 _ _ hq16 hw18 => ?_) (fun x σx _ _ hx0 hqx hwx => ?_)
  rotate_left
  · obtain ⟨htx, hkx, h⟩ := hqx
    have h := h hkx
    exact z_out K hwx hx0 ⟨htx, kp_trans wo_X6_number hk7 hkx (fun _ q => q) (by decide), h⟩ (no_cov hex 29)
  obtain ⟨hk19, h⟩ := hq16
  have h := h hk19
  have hk20 := kp_trans wo_X6_number hk7 hk19 (fun _ q => q) (by decide)
  have hg21 : tg σ17 a0 = 9 := kp_tg hk19 wo_X6_must hg8 (by decide)
  refine z_aload_n (pc := 32) K dX6_number_32 rfl (lv_at hl 0 rfl) ?_
  refine z_get (pc := 33) (t := 9) (k := 4) K hw18 (ob (t := 9) hg21) zq9 (by decide) q397 (fun _ h => h) dX6_number_33 (zval_i kf_9_4) ?_
  refine lv_istore_n (pc := 36) (lv' := [(3, jI (σ17 a0 4 0)), (0, jR X a0), (1, jI x1), (2, jI x2)]) K.x K.b dX6_number_36 rfl hl (by decide) rfl (fun ls hl => ?_)
  refine z_aload_n (pc := 37) K dX6_number_37 rfl (lv_at hl 1 rfl) ?_
  refine zc_v (pc := 38) (maxL := 2) K hw18 (met_X6_next_9 X l σ17 a0 hg21 _ h) (i_V (n := 0) (t := 9) (As := []) K hw18 (ob hg21) zq9 (by decide) q665 q666 q669 (sg_of K q672) rfl rfl dX6_number_38) (locw K q672 q97) ⟨by decide, by decide⟩ hl.1 dX6_number_38 (Nat.le_of_ble_eq_true rfl) ⟨Nat.le_refl _, Nat.le_refl _⟩ (fun σ25 _ _ hq24 hw26 => ?_)
  obtain ⟨hk27, h⟩ := hq24
  have h := h hk27
  have hk28 := kp_trans wo_X6_number hk20 hk27 (fun _ q => q) (by decide)
  have hg29 : tg σ25 a0 = 9 := kp_tg hk27 wo_X6_next hg21 (by decide)
  refine lv_iload_n (pc := 41) K.x K.b dX6_number_41 rfl (lv_at hl 0 rfl) ?_
  exact z_iret (pc := 42) K hw26 (z_rI hw18 (ob (t := 9) hg21) kf_9_4) ⟨hk28, h⟩ dX6_number_42
set_option maxHeartbeats 4000000 in
theorem met_X6_number_9 (X : Cxt) (l : Launch) (σ : St) (a0 : Int) (x1 : Int) (x2 : Int) (ht0 : tg σ a0 = 9) (hx1 : rng x1) (hx2 : rng x2) (Q : Int → St → Prop) (E : Int → St → Prop) (h : wp_X6_number σ a0 x1 x2 Q E) : MetT l yX6_number (ws_ yX6_number cX6_number 4 (some .int)) (zrm 5 0 0) (ZP X σ [jR X a0, jI x1, jI x2]) (ZQ X (qI (fun r σ' => Kp ws_X6_number σ σ' ∧ Q r σ')) (fun x σ' => tg σ' x = 2 ∧ Kp ws_X6_number σ σ' ∧ E x σ')) 0 0 (zA X) := by
  refine z_start (own := "CombTable$Reader") (lv := [(0, jR X a0), (1, jI x1), (2, jI x2)]) (by decide) rfl (by simp [lv_args, jR_cat, jI_cat, jL_cat]) (by simp [lg_sl, jR_cat, jI_cat, jL_cat]) (fun p e s m below meth c ls K hex _ hw hl => ?_)
  have hk : Kp ws_X6_number σ σ := kp_rf σ
  refine z_aload_n (pc := 0) K dX6_number_0 rfl (lv_at hl 0 rfl) ?_
  refine z_aload_n (pc := 1) K dX6_number_1 rfl (lv_at hl 0 rfl) ?_
  refine z_get (pc := 2) (t := 9) (k := 3) K hw (ob (t := 9) ht0) zq9 (by decide) q394 (fun _ h => h) dX6_number_2 (zval_i kf_9_3) ?_
  refine z_iconst (pc := 5) K dX6_number_5 ?_
  refine z_icmp_ne (pc := 6) (tgt := 13) K (z_rI hw (ob (t := 9) ht0) kf_9_3) ⟨by decide, by decide⟩ dX6_number_6 (by decide) (fun hc1 => ?_) (fun hc1 => ?_)
  · have h := ite_t h hc1
    refine z_iconst (pc := 9) K dX6_number_9 ?_
    refine z_goto (pc := 10) (tgt := 14) K dX6_number_10 (by decide) ?_
    exact wk_X6_number_b14_9 a0 x1 x2 Q E σ K hex hx1 hx2 σ 1 _ _ _ h hw hk ht0 ⟨by decide, by decide⟩ (lv_sub hl [0, 1, 2] rfl)
  · have h := ite_f h hc1
    refine z_iconst (pc := 13) K dX6_number_13 ?_
    exact wk_X6_number_b14_9 a0 x1 x2 Q E σ K hex hx1 hx2 σ 0 _ _ _ h hw hk ht0 ⟨by decide, by decide⟩ (lv_sub hl [0, 1, 2] rfl)
