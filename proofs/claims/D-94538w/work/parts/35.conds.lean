/-! printed by gen/walk2.py -/
set_option maxRecDepth 100000
def bd_X20_is (Rc : Nat → St → Int → Int → Int → (Int → Prop) → Prop) (σ : St) (a0 : Int) (o1 : Int) (x2 : Int) (Q : Int → Prop) : Prop :=
  (σ a0 0 0) ≠ -1 ∧ is5 Rc σ (σ a0 0 0) o1 x2 (fun r3 => (if r3 = 0 then
    (σ a0 1 0) ≠ -1 ∧ is5 Rc σ (σ a0 1 0) o1 x2 (fun r9 => (if r9 = 0 then
      Q 0
      else
      Q 1))
    else
    Q 1))
def bd_X19_is (Rc : Nat → St → Int → Int → Int → (Int → Prop) → Prop) (σ : St) (a0 : Int) (o1 : Int) (x2 : Int) (Q : Int → Prop) : Prop :=
  (σ a0 0 0) ≠ -1 ∧ is5 Rc σ (σ a0 0 0) o1 x2 (fun r3 => (if r3 = 0 then
    Q 0
    else
    (σ a0 1 0) ≠ -1 ∧ is5 Rc σ (σ a0 1 0) o1 x2 (fun r9 => (if r9 = 0 then
      Q 0
      else
      Q 1))))
def wp_X18_is_b50 (σ : St) (a0 : Int) (o1 : Int) (x2 : Int) (Q : Int → Prop) (Rc : Nat → St → Int → Int → Int → (Int → Prop) → Prop) (s0 : Int) : Prop :=
  (if σ a0 1 0 = 60 then
    (if s0 < σ a0 2 0 then
      Q 1
      else
      Q 0)
    else
    (if σ a0 1 0 = 61 then
      (if s0 = σ a0 2 0 then
        Q 1
        else
        Q 0)
      else
      (if σ a0 2 0 < s0 then
        Q 1
        else
        Q 0)))
def bd_X18_is (Rc : Nat → St → Int → Int → Int → (Int → Prop) → Prop) (σ : St) (a0 : Int) (o1 : Int) (x2 : Int) (Q : Int → Prop) : Prop :=
  (if σ a0 0 0 = 0 then
    (wp_X18_is_b50 σ a0 o1 x2 Q Rc x2)
    else
    (if σ a0 0 0 = 1 then
      (0 ≤ x2 ∧ x2 < 400) ∧ (wp_X18_is_b50 σ a0 o1 x2 Q Rc (σ o1 4 x2))
      else
      (if σ a0 0 0 = 2 then
        (0 ≤ x2 ∧ x2 < 400) ∧ (wp_X18_is_b50 σ a0 o1 x2 Q Rc (σ o1 5 x2))
        else
        wp_X3_stateOf σ o1 x2 (fun r6 => (wp_X18_is_b50 σ a0 o1 x2 Q Rc r6)))))
def bd_X17_is (Rc : Nat → St → Int → Int → Int → (Int → Prop) → Prop) (σ : St) (a0 : Int) (o1 : Int) (x2 : Int) (Q : Int → Prop) : Prop :=
  (if σ a0 0 0 = 0 then
    (0 ≤ x2 ∧ x2 < 400) ∧ (if σ o1 1 x2 = σ a0 1 0 then
      Q 1
      else
      Q 0)
    else
    (if σ a0 0 0 = 1 then
      (0 ≤ x2 ∧ x2 < 400) ∧ (if σ o1 3 x2 = (-1) then
        Q 0
        else
        wp_X3_to σ o1 x2 (fun r7 => (if r7 = σ a0 1 0 then
          Q 1
          else
          Q 0)))
      else
      (0 ≤ x2 ∧ x2 < 400) ∧ (if σ o1 2 x2 = σ a0 1 0 then
        Q 1
        else
        Q 0)))
def bd_X16_is (Rc : Nat → St → Int → Int → Int → (Int → Prop) → Prop) (σ : St) (a0 : Int) (o1 : Int) (x2 : Int) (Q : Int → Prop) : Prop :=
  (σ a0 0 0) ≠ -1 ∧ is5 Rc σ (σ a0 0 0) o1 x2 (fun r3 => (if r3 = 0 then
    Q 1
    else
    Q 0))
def wg_X20_is : Nat → Nat → St → Int → Int → Int → (Int → Prop) → Prop
  | 0 => fun _ _ _ _ _ _ => False
  | n + 1 => fun i => match i with
    | 0 => bd_X20_is (wg_X20_is n)
    | 1 => bd_X19_is (wg_X20_is n)
    | 2 => bd_X18_is (wg_X20_is n)
    | 3 => bd_X17_is (wg_X20_is n)
    | _ => bd_X16_is (wg_X20_is n)
set_option maxHeartbeats 4000000 in
theorem mb_X20_is (X : Cxt) (l : Launch) (nr : Nat) (Rc : Nat → St → Int → Int → Int → (Int → Prop) → Prop) (hRc0 : ∀ (σ : St) (a0 : Int) (o1 : Int) (x2 : Int) (ht0 : tg σ a0 = 17) (ht1 : tg σ o1 = 3) (hx2 : rng x2) (Q : Int → Prop), Rc 0 σ a0 o1 x2 Q → MetT l yX20_is (ws_ yX20_is cX20_is 3 (some .boolean)) (zrm (2 + nr) 0 0) (ZP X σ [jR X a0, jR X o1, jI x2]) (ZQ X (qZ (fun r σ' => σ' = σ ∧ Q r)) (fun _ _ => False)) 0 0 (zA X)) (hRc1 : ∀ (σ : St) (a0 : Int) (o1 : Int) (x2 : Int) (ht0 : tg σ a0 = 16) (ht1 : tg σ o1 = 3) (hx2 : rng x2) (Q : Int → Prop), Rc 1 σ a0 o1 x2 Q → MetT l yX19_is (ws_ yX19_is cX19_is 3 (some .boolean)) (zrm (2 + nr) 0 0) (ZP X σ [jR X a0, jR X o1, jI x2]) (ZQ X (qZ (fun r σ' => σ' = σ ∧ Q r)) (fun _ _ => False)) 0 0 (zA X)) (hRc2 : ∀ (σ : St) (a0 : Int) (o1 : Int) (x2 : Int) (ht0 : tg σ a0 = 15) (ht1 : tg σ o1 = 3) (hx2 : rng x2) (Q : Int → Prop), Rc 2 σ a0 o1 x2 Q → MetT l yX18_is (ws_ yX18_is cX18_is 4 (some .boolean)) (zrm (2 + nr) 0 0) (ZP X σ [jR X a0, jR X o1, jI x2]) (ZQ X (qZ (fun r σ' => σ' = σ ∧ Q r)) (fun _ _ => False)) 0 0 (zA X)) (hRc3 : ∀ (σ : St) (a0 : Int) (o1 : Int) (x2 : Int) (ht0 : tg σ a0 = 14) (ht1 : tg σ o1 = 3) (hx2 : rng x2) (Q : Int → Prop), Rc 3 σ a0 o1 x2 Q → MetT l yX17_is (ws_ yX17_is cX17_is 3 (some .boolean)) (zrm (2 + nr) 0 0) (ZP X σ [jR X a0, jR X o1, jI x2]) (ZQ X (qZ (fun r σ' => σ' = σ ∧ Q r)) (fun _ _ => False)) 0 0 (zA X)) (hRc4 : ∀ (σ : St) (a0 : Int) (o1 : Int) (x2 : Int) (ht0 : tg σ a0 = 13) (ht1 : tg σ o1 = 3) (hx2 : rng x2) (Q : Int → Prop), Rc 4 σ a0 o1 x2 Q → MetT l yX16_is (ws_ yX16_is cX16_is 3 (some .boolean)) (zrm (2 + nr) 0 0) (ZP X σ [jR X a0, jR X o1, jI x2]) (ZQ X (qZ (fun r σ' => σ' = σ ∧ Q r)) (fun _ _ => False)) 0 0 (zA X)) (σ : St) (a0 : Int) (o1 : Int) (x2 : Int) (ht0 : tg σ a0 = 17) (ht1 : tg σ o1 = 3) (hx2 : rng x2) (Q : Int → Prop) (h : bd_X20_is Rc σ a0 o1 x2 Q) : MetT l yX20_is (ws_ yX20_is cX20_is 3 (some .boolean)) (zrm (2 + nr + 1) 0 0) (ZP X σ [jR X a0, jR X o1, jI x2]) (ZQ X (qZ (fun r σ' => σ' = σ ∧ Q r)) (fun _ _ => False)) 0 0 (zA X) := by
  refine z_start (own := "CombTable$Any") (lv := [(0, jR X a0), (1, jR X o1), (2, jI x2)]) (by decide) rfl (by simp [lv_args, jR_cat, jI_cat, jL_cat]) (by simp [lg_sl, jR_cat, jI_cat, jL_cat]) (fun p e s m below meth c ls K _ _ hw hl => ?_)
  refine z_aload_n (pc := 0) K dX20_is_0 rfl (lv_at hl 0 rfl) ?_
  refine z_get (pc := 1) (t := 17) (k := 0) K hw (ob (t := 17) ht0) zq17 (by decide) q1318 (fun _ h => h) dX20_is_1 (zval_r kf_17_0) ?_
  refine z_aload_n (pc := 4) K dX20_is_4 rfl (lv_at hl 1 rfl) ?_
  refine lv_iload_n (pc := 5) K.x K.b dX20_is_5 rfl (lv_at hl 2 rfl) ?_
  obtain ⟨hn1, h⟩ := h
  have hcd2 := cond5 (((z_ok (t := 17) (r := 100) hw ht0 ⟨by decide, by decide⟩ kf_17_0 kt_17_0)).resolve_left hn1)
  refine z_is5b (pc := 6) (R0 := Rc) K hw hcd2 ht1 hx2 q1335 ⟨hRc0, hRc1, hRc2, hRc3, hRc4⟩ ⟨by show _ ≤ _ + _; omega, by show _ ≤ 40 * _; omega⟩ hl.1 dX20_is_6 (Nat.le_of_ble_eq_true rfl) ⟨Nat.le_refl _, Nat.le_refl _⟩ h (fun r3 _ _ hr4 h hw5 => ?_)
  refine z_if_ne (pc := 9) (tgt := 24) K (b01r hr4) dX20_is_9 (by decide) (fun hc6 => ?_) (fun hc6 => ?_)
  · have h := ite_t h hc6
    refine z_aload_n (pc := 12) K dX20_is_12 rfl (lv_at hl 0 rfl) ?_
    refine z_get (pc := 13) (t := 17) (k := 1) K hw5 (ob (t := 17) ht0) zq17 (by decide) q1319 (fun _ h => h) dX20_is_13 (zval_r kf_17_1) ?_
    refine z_aload_n (pc := 16) K dX20_is_16 rfl (lv_at hl 1 rfl) ?_
    refine lv_iload_n (pc := 17) K.x K.b dX20_is_17 rfl (lv_at hl 2 rfl) ?_
    obtain ⟨hn7, h⟩ := h
    have hcd8 := cond5 (((z_ok (t := 17) (r := 100) hw5 ht0 ⟨by decide, by decide⟩ kf_17_1 kt_17_1)).resolve_left hn7)
    refine z_is5b (pc := 18) (R0 := Rc) K hw5 hcd8 ht1 hx2 q1335 ⟨hRc0, hRc1, hRc2, hRc3, hRc4⟩ ⟨by show _ ≤ _ + _; omega, by show _ ≤ 40 * _; omega⟩ hl.1 dX20_is_18 (Nat.le_of_ble_eq_true rfl) ⟨Nat.le_refl _, Nat.le_refl _⟩ h (fun r9 _ _ hr10 h hw11 => ?_)
    refine z_if_eq (pc := 21) (tgt := 28) K (b01r hr10) dX20_is_21 (by decide) (fun hc12 => ?_) (fun hc12 => ?_)
    · have h := ite_t h hc12
      refine z_iconst (pc := 28) K dX20_is_28 ?_
      exact z_zret (pc := 29) K hw11 ⟨by decide, by decide⟩ ⟨rfl, h⟩ dX20_is_29
    · have h := ite_f h hc12
      refine z_iconst (pc := 24) K dX20_is_24 ?_
      refine z_goto (pc := 25) (tgt := 29) K dX20_is_25 (by decide) ?_
      exact z_zret (pc := 29) K hw11 ⟨by decide, by decide⟩ ⟨rfl, h⟩ dX20_is_29
  · have h := ite_f h hc6
    refine z_iconst (pc := 24) K dX20_is_24 ?_
    refine z_goto (pc := 25) (tgt := 29) K dX20_is_25 (by decide) ?_
    exact z_zret (pc := 29) K hw5 ⟨by decide, by decide⟩ ⟨rfl, h⟩ dX20_is_29
set_option maxHeartbeats 4000000 in
theorem mb_X19_is (X : Cxt) (l : Launch) (nr : Nat) (Rc : Nat → St → Int → Int → Int → (Int → Prop) → Prop) (hRc0 : ∀ (σ : St) (a0 : Int) (o1 : Int) (x2 : Int) (ht0 : tg σ a0 = 17) (ht1 : tg σ o1 = 3) (hx2 : rng x2) (Q : Int → Prop), Rc 0 σ a0 o1 x2 Q → MetT l yX20_is (ws_ yX20_is cX20_is 3 (some .boolean)) (zrm (2 + nr) 0 0) (ZP X σ [jR X a0, jR X o1, jI x2]) (ZQ X (qZ (fun r σ' => σ' = σ ∧ Q r)) (fun _ _ => False)) 0 0 (zA X)) (hRc1 : ∀ (σ : St) (a0 : Int) (o1 : Int) (x2 : Int) (ht0 : tg σ a0 = 16) (ht1 : tg σ o1 = 3) (hx2 : rng x2) (Q : Int → Prop), Rc 1 σ a0 o1 x2 Q → MetT l yX19_is (ws_ yX19_is cX19_is 3 (some .boolean)) (zrm (2 + nr) 0 0) (ZP X σ [jR X a0, jR X o1, jI x2]) (ZQ X (qZ (fun r σ' => σ' = σ ∧ Q r)) (fun _ _ => False)) 0 0 (zA X)) (hRc2 : ∀ (σ : St) (a0 : Int) (o1 : Int) (x2 : Int) (ht0 : tg σ a0 = 15) (ht1 : tg σ o1 = 3) (hx2 : rng x2) (Q : Int → Prop), Rc 2 σ a0 o1 x2 Q → MetT l yX18_is (ws_ yX18_is cX18_is 4 (some .boolean)) (zrm (2 + nr) 0 0) (ZP X σ [jR X a0, jR X o1, jI x2]) (ZQ X (qZ (fun r σ' => σ' = σ ∧ Q r)) (fun _ _ => False)) 0 0 (zA X)) (hRc3 : ∀ (σ : St) (a0 : Int) (o1 : Int) (x2 : Int) (ht0 : tg σ a0 = 14) (ht1 : tg σ o1 = 3) (hx2 : rng x2) (Q : Int → Prop), Rc 3 σ a0 o1 x2 Q → MetT l yX17_is (ws_ yX17_is cX17_is 3 (some .boolean)) (zrm (2 + nr) 0 0) (ZP X σ [jR X a0, jR X o1, jI x2]) (ZQ X (qZ (fun r σ' => σ' = σ ∧ Q r)) (fun _ _ => False)) 0 0 (zA X)) (hRc4 : ∀ (σ : St) (a0 : Int) (o1 : Int) (x2 : Int) (ht0 : tg σ a0 = 13) (ht1 : tg σ o1 = 3) (hx2 : rng x2) (Q : Int → Prop), Rc 4 σ a0 o1 x2 Q → MetT l yX16_is (ws_ yX16_is cX16_is 3 (some .boolean)) (zrm (2 + nr) 0 0) (ZP X σ [jR X a0, jR X o1, jI x2]) (ZQ X (qZ (fun r σ' => σ' = σ ∧ Q r)) (fun _ _ => False)) 0 0 (zA X)) (σ : St) (a0 : Int) (o1 : Int) (x2 : Int) (ht0 : tg σ a0 = 16) (ht1 : tg σ o1 = 3) (hx2 : rng x2) (Q : Int → Prop) (h : bd_X19_is Rc σ a0 o1 x2 Q) : MetT l yX19_is (ws_ yX19_is cX19_is 3 (some .boolean)) (zrm (2 + nr + 1) 0 0) (ZP X σ [jR X a0, jR X o1, jI x2]) (ZQ X (qZ (fun r σ' => σ' = σ ∧ Q r)) (fun _ _ => False)) 0 0 (zA X) := by
  refine z_start (own := "CombTable$Both") (lv := [(0, jR X a0), (1, jR X o1), (2, jI x2)]) (by decide) rfl (by simp [lv_args, jR_cat, jI_cat, jL_cat]) (by simp [lg_sl, jR_cat, jI_cat, jL_cat]) (fun p e s m below meth c ls K _ _ hw hl => ?_)
  refine z_aload_n (pc := 0) K dX19_is_0 rfl (lv_at hl 0 rfl) ?_
  refine z_get (pc := 1) (t := 16) (k := 0) K hw (ob (t := 16) ht0) zq16 (by decide) q1304 (fun _ h => h) dX19_is_1 (zval_r kf_16_0) ?_
  refine z_aload_n (pc := 4) K dX19_is_4 rfl (lv_at hl 1 rfl) ?_
  refine lv_iload_n (pc := 5) K.x K.b dX19_is_5 rfl (lv_at hl 2 rfl) ?_
  obtain ⟨hn1, h⟩ := h
  have hcd2 := cond5 (((z_ok (t := 16) (r := 100) hw ht0 ⟨by decide, by decide⟩ kf_16_0 kt_16_0)).resolve_left hn1)
  refine z_is5b (pc := 6) (R0 := Rc) K hw hcd2 ht1 hx2 q1338 ⟨hRc0, hRc1, hRc2, hRc3, hRc4⟩ ⟨by show _ ≤ _ + _; omega, by show _ ≤ 40 * _; omega⟩ hl.1 dX19_is_6 (Nat.le_of_ble_eq_true rfl) ⟨Nat.le_refl _, Nat.le_refl _⟩ h (fun r3 _ _ hr4 h hw5 => ?_)
  refine z_if_eq (pc := 9) (tgt := 28) K (b01r hr4) dX19_is_9 (by decide) (fun hc6 => ?_) (fun hc6 => ?_)
  · have h := ite_t h hc6
    refine z_iconst (pc := 28) K dX19_is_28 ?_
    exact z_zret (pc := 29) K hw5 ⟨by decide, by decide⟩ ⟨rfl, h⟩ dX19_is_29
  · have h := ite_f h hc6
    refine z_aload_n (pc := 12) K dX19_is_12 rfl (lv_at hl 0 rfl) ?_
    refine z_get (pc := 13) (t := 16) (k := 1) K hw5 (ob (t := 16) ht0) zq16 (by decide) q1305 (fun _ h => h) dX19_is_13 (zval_r kf_16_1) ?_
    refine z_aload_n (pc := 16) K dX19_is_16 rfl (lv_at hl 1 rfl) ?_
    refine lv_iload_n (pc := 17) K.x K.b dX19_is_17 rfl (lv_at hl 2 rfl) ?_
    obtain ⟨hn7, h⟩ := h
    have hcd8 := cond5 (((z_ok (t := 16) (r := 100) hw5 ht0 ⟨by decide, by decide⟩ kf_16_1 kt_16_1)).resolve_left hn7)
    refine z_is5b (pc := 18) (R0 := Rc) K hw5 hcd8 ht1 hx2 q1338 ⟨hRc0, hRc1, hRc2, hRc3, hRc4⟩ ⟨by show _ ≤ _ + _; omega, by show _ ≤ 40 * _; omega⟩ hl.1 dX19_is_18 (Nat.le_of_ble_eq_true rfl) ⟨Nat.le_refl _, Nat.le_refl _⟩ h (fun r9 _ _ hr10 h hw11 => ?_)
    refine z_if_eq (pc := 21) (tgt := 28) K (b01r hr10) dX19_is_21 (by decide) (fun hc12 => ?_) (fun hc12 => ?_)
    · have h := ite_t h hc12
      refine z_iconst (pc := 28) K dX19_is_28 ?_
      exact z_zret (pc := 29) K hw11 ⟨by decide, by decide⟩ ⟨rfl, h⟩ dX19_is_29
    · have h := ite_f h hc12
      refine z_iconst (pc := 24) K dX19_is_24 ?_
      refine z_goto (pc := 25) (tgt := 29) K dX19_is_25 (by decide) ?_
      exact z_zret (pc := 29) K hw11 ⟨by decide, by decide⟩ ⟨rfl, h⟩ dX19_is_29
set_option maxHeartbeats 4000000 in
theorem wk_X18_is_b50 {X : Cxt} {p : Program} {l : Launch} {e : Env} {s : State} {m : MethodId} {args : Array Value} {below : List Frame} {meth : Method} {c : Code} (σ : St) (a0 : Int) (o1 : Int) (x2 : Int) (Q : Int → Prop) (Rc : Nat → St → Int → Int → Int → (Int → Prop) → Prop) (K : MCx X p s m args meth c cX18_is 4 "CombTable$Counts" (some .boolean)) (hx2 : rng x2) (nr : Nat) (hRc0 : ∀ (σ : St) (a0 : Int) (o1 : Int) (x2 : Int) (ht0 : tg σ a0 = 17) (ht1 : tg σ o1 = 3) (hx2 : rng x2) (Q : Int → Prop), Rc 0 σ a0 o1 x2 Q → MetT l yX20_is (ws_ yX20_is cX20_is 3 (some .boolean)) (zrm (2 + nr) 0 0) (ZP X σ [jR X a0, jR X o1, jI x2]) (ZQ X (qZ (fun r σ' => σ' = σ ∧ Q r)) (fun _ _ => False)) 0 0 (zA X)) (hRc1 : ∀ (σ : St) (a0 : Int) (o1 : Int) (x2 : Int) (ht0 : tg σ a0 = 16) (ht1 : tg σ o1 = 3) (hx2 : rng x2) (Q : Int → Prop), Rc 1 σ a0 o1 x2 Q → MetT l yX19_is (ws_ yX19_is cX19_is 3 (some .boolean)) (zrm (2 + nr) 0 0) (ZP X σ [jR X a0, jR X o1, jI x2]) (ZQ X (qZ (fun r σ' => σ' = σ ∧ Q r)) (fun _ _ => False)) 0 0 (zA X)) (hRc2 : ∀ (σ : St) (a0 : Int) (o1 : Int) (x2 : Int) (ht0 : tg σ a0 = 15) (ht1 : tg σ o1 = 3) (hx2 : rng x2) (Q : Int → Prop), Rc 2 σ a0 o1 x2 Q → MetT l yX18_is (ws_ yX18_is cX18_is 4 (some .boolean)) (zrm (2 + nr) 0 0) (ZP X σ [jR X a0, jR X o1, jI x2]) (ZQ X (qZ (fun r σ' => σ' = σ ∧ Q r)) (fun _ _ => False)) 0 0 (zA X)) (hRc3 : ∀ (σ : St) (a0 : Int) (o1 : Int) (x2 : Int) (ht0 : tg σ a0 = 14) (ht1 : tg σ o1 = 3) (hx2 : rng x2) (Q : Int → Prop), Rc 3 σ a0 o1 x2 Q → MetT l yX17_is (ws_ yX17_is cX17_is 3 (some .boolean)) (zrm (2 + nr) 0 0) (ZP X σ [jR X a0, jR X o1, jI x2]) (ZQ X (qZ (fun r σ' => σ' = σ ∧ Q r)) (fun _ _ => False)) 0 0 (zA X)) (hRc4 : ∀ (σ : St) (a0 : Int) (o1 : Int) (x2 : Int) (ht0 : tg σ a0 = 13) (ht1 : tg σ o1 = 3) (hx2 : rng x2) (Q : Int → Prop), Rc 4 σ a0 o1 x2 Q → MetT l yX16_is (ws_ yX16_is cX16_is 3 (some .boolean)) (zrm (2 + nr) 0 0) (ZP X σ [jR X a0, jR X o1, jI x2]) (ZQ X (qZ (fun r σ' => σ' = σ ∧ Q r)) (fun _ _ => False)) 0 0 (zA X)) : ∀ (s0 : Int) (H : Heap) (locs : List Loc) (ls : Array Slot), wp_X18_is_b50 σ a0 o1 x2 Q Rc s0 → Wc X σ s.heap H locs → tg σ a0 = 15 → rng s0 → lv_has ls 4 [(0, jR X a0)] → W p l e (zrm (2 + nr + 1) 0 0) s m args below meth c H locs 0 0 (MQT below (ZQ X (qZ (fun r σ' => σ' = σ ∧ Q r)) (fun _ _ => False)) args s 0 0 (zA X)) (F0 m 50 ls [jI s0]) := by
  intro s0 H locs ls h hw ht0 hs0 hl
  refine lv_istore_n (pc := 50) (lv' := [(3, jI s0), (0, jR X a0)]) K.x K.b dX18_is_50 rfl hl (by decide) rfl (fun ls hl => ?_)
  refine z_aload_n (pc := 51) K dX18_is_51 rfl (lv_at hl 1 rfl) ?_
  refine z_get (pc := 52) (t := 15) (k := 1) K hw (ob (t := 15) ht0) zq15 (by decide) q1288 (fun _ h => h) dX18_is_52 (zval_i kf_15_1) ?_
  refine z_bipush (pc := 55) K dX18_is_55 (by decide) ?_
  refine z_icmp_ne (pc := 57) (tgt := 76) K (z_rI hw (ob (t := 15) ht0) kf_15_1) ⟨by decide, by decide⟩ dX18_is_57 (by decide) (fun hc1 => ?_) (fun hc1 => ?_)
  · have h := ite_t h hc1
    refine lv_iload_n (pc := 60) K.x K.b dX18_is_60 rfl (lv_at hl 0 rfl) ?_
    refine z_aload_n (pc := 61) K dX18_is_61 rfl (lv_at hl 1 rfl) ?_
    refine z_get (pc := 62) (t := 15) (k := 2) K hw (ob (t := 15) ht0) zq15 (by decide) q1289 (fun _ h => h) dX18_is_62 (zval_i kf_15_2) ?_
    refine z_icmp_ge (pc := 65) (tgt := 72) K hs0 (z_rI hw (ob (t := 15) ht0) kf_15_2) dX18_is_65 (by decide) (fun hc2 => ?_) (fun hc2 => ?_)
    · have h := ite_t h hc2
      refine z_iconst (pc := 68) K dX18_is_68 ?_
      refine z_goto (pc := 69) (tgt := 114) K dX18_is_69 (by decide) ?_
      exact z_zret (pc := 114) K hw ⟨by decide, by decide⟩ ⟨rfl, h⟩ dX18_is_114
    · have h := ite_f h hc2
      refine z_iconst (pc := 72) K dX18_is_72 ?_
      refine z_goto (pc := 73) (tgt := 114) K dX18_is_73 (by decide) ?_
      exact z_zret (pc := 114) K hw ⟨by decide, by decide⟩ ⟨rfl, h⟩ dX18_is_114
  · have h := ite_f h hc1
    refine z_aload_n (pc := 76) K dX18_is_76 rfl (lv_at hl 1 rfl) ?_
    refine z_get (pc := 77) (t := 15) (k := 1) K hw (ob (t := 15) ht0) zq15 (by decide) q1288 (fun _ h => h) dX18_is_77 (zval_i kf_15_1) ?_
    refine z_bipush (pc := 80) K dX18_is_80 (by decide) ?_
    refine z_icmp_ne (pc := 82) (tgt := 101) K (z_rI hw (ob (t := 15) ht0) kf_15_1) ⟨by decide, by decide⟩ dX18_is_82 (by decide) (fun hc3 => ?_) (fun hc3 => ?_)
    · have h := ite_t h hc3
      refine lv_iload_n (pc := 85) K.x K.b dX18_is_85 rfl (lv_at hl 0 rfl) ?_
      refine z_aload_n (pc := 86) K dX18_is_86 rfl (lv_at hl 1 rfl) ?_
      refine z_get (pc := 87) (t := 15) (k := 2) K hw (ob (t := 15) ht0) zq15 (by decide) q1289 (fun _ h => h) dX18_is_87 (zval_i kf_15_2) ?_
      refine z_icmp_ne (pc := 90) (tgt := 97) K hs0 (z_rI hw (ob (t := 15) ht0) kf_15_2) dX18_is_90 (by decide) (fun hc4 => ?_) (fun hc4 => ?_)
      · have h := ite_t h hc4
        refine z_iconst (pc := 93) K dX18_is_93 ?_
        refine z_goto (pc := 94) (tgt := 114) K dX18_is_94 (by decide) ?_
        exact z_zret (pc := 114) K hw ⟨by decide, by decide⟩ ⟨rfl, h⟩ dX18_is_114
      · have h := ite_f h hc4
        refine z_iconst (pc := 97) K dX18_is_97 ?_
        refine z_goto (pc := 98) (tgt := 114) K dX18_is_98 (by decide) ?_
        exact z_zret (pc := 114) K hw ⟨by decide, by decide⟩ ⟨rfl, h⟩ dX18_is_114
    · have h := ite_f h hc3
      refine lv_iload_n (pc := 101) K.x K.b dX18_is_101 rfl (lv_at hl 0 rfl) ?_
      refine z_aload_n (pc := 102) K dX18_is_102 rfl (lv_at hl 1 rfl) ?_
      refine z_get (pc := 103) (t := 15) (k := 2) K hw (ob (t := 15) ht0) zq15 (by decide) q1289 (fun _ h => h) dX18_is_103 (zval_i kf_15_2) ?_
      refine z_icmp_le (pc := 106) (tgt := 113) K hs0 (z_rI hw (ob (t := 15) ht0) kf_15_2) dX18_is_106 (by decide) (fun hc5 => ?_) (fun hc5 => ?_)
      · have h := ite_t h hc5
        refine z_iconst (pc := 109) K dX18_is_109 ?_
        refine z_goto (pc := 110) (tgt := 114) K dX18_is_110 (by decide) ?_
        exact z_zret (pc := 114) K hw ⟨by decide, by decide⟩ ⟨rfl, h⟩ dX18_is_114
      · have h := ite_f h hc5
        refine z_iconst (pc := 113) K dX18_is_113 ?_
        exact z_zret (pc := 114) K hw ⟨by decide, by decide⟩ ⟨rfl, h⟩ dX18_is_114
set_option maxHeartbeats 4000000 in
theorem mb_X18_is (X : Cxt) (l : Launch) (nr : Nat) (Rc : Nat → St → Int → Int → Int → (Int → Prop) → Prop) (hRc0 : ∀ (σ : St) (a0 : Int) (o1 : Int) (x2 : Int) (ht0 : tg σ a0 = 17) (ht1 : tg σ o1 = 3) (hx2 : rng x2) (Q : Int → Prop), Rc 0 σ a0 o1 x2 Q → MetT l yX20_is (ws_ yX20_is cX20_is 3 (some .boolean)) (zrm (2 + nr) 0 0) (ZP X σ [jR X a0, jR X o1, jI x2]) (ZQ X (qZ (fun r σ' => σ' = σ ∧ Q r)) (fun _ _ => False)) 0 0 (zA X)) (hRc1 : ∀ (σ : St) (a0 : Int) (o1 : Int) (x2 : Int) (ht0 : tg σ a0 = 16) (ht1 : tg σ o1 = 3) (hx2 : rng x2) (Q : Int → Prop), Rc 1 σ a0 o1 x2 Q → MetT l yX19_is (ws_ yX19_is cX19_is 3 (some .boolean)) (zrm (2 + nr) 0 0) (ZP X σ [jR X a0, jR X o1, jI x2]) (ZQ X (qZ (fun r σ' => σ' = σ ∧ Q r)) (fun _ _ => False)) 0 0 (zA X)) (hRc2 : ∀ (σ : St) (a0 : Int) (o1 : Int) (x2 : Int) (ht0 : tg σ a0 = 15) (ht1 : tg σ o1 = 3) (hx2 : rng x2) (Q : Int → Prop), Rc 2 σ a0 o1 x2 Q → MetT l yX18_is (ws_ yX18_is cX18_is 4 (some .boolean)) (zrm (2 + nr) 0 0) (ZP X σ [jR X a0, jR X o1, jI x2]) (ZQ X (qZ (fun r σ' => σ' = σ ∧ Q r)) (fun _ _ => False)) 0 0 (zA X)) (hRc3 : ∀ (σ : St) (a0 : Int) (o1 : Int) (x2 : Int) (ht0 : tg σ a0 = 14) (ht1 : tg σ o1 = 3) (hx2 : rng x2) (Q : Int → Prop), Rc 3 σ a0 o1 x2 Q → MetT l yX17_is (ws_ yX17_is cX17_is 3 (some .boolean)) (zrm (2 + nr) 0 0) (ZP X σ [jR X a0, jR X o1, jI x2]) (ZQ X (qZ (fun r σ' => σ' = σ ∧ Q r)) (fun _ _ => False)) 0 0 (zA X)) (hRc4 : ∀ (σ : St) (a0 : Int) (o1 : Int) (x2 : Int) (ht0 : tg σ a0 = 13) (ht1 : tg σ o1 = 3) (hx2 : rng x2) (Q : Int → Prop), Rc 4 σ a0 o1 x2 Q → MetT l yX16_is (ws_ yX16_is cX16_is 3 (some .boolean)) (zrm (2 + nr) 0 0) (ZP X σ [jR X a0, jR X o1, jI x2]) (ZQ X (qZ (fun r σ' => σ' = σ ∧ Q r)) (fun _ _ => False)) 0 0 (zA X)) (σ : St) (a0 : Int) (o1 : Int) (x2 : Int) (ht0 : tg σ a0 = 15) (ht1 : tg σ o1 = 3) (hx2 : rng x2) (Q : Int → Prop) (h : bd_X18_is Rc σ a0 o1 x2 Q) : MetT l yX18_is (ws_ yX18_is cX18_is 4 (some .boolean)) (zrm (2 + nr + 1) 0 0) (ZP X σ [jR X a0, jR X o1, jI x2]) (ZQ X (qZ (fun r σ' => σ' = σ ∧ Q r)) (fun _ _ => False)) 0 0 (zA X) := by
  refine z_start (own := "CombTable$Counts") (lv := [(0, jR X a0), (1, jR X o1), (2, jI x2)]) (by decide) rfl (by simp [lv_args, jR_cat, jI_cat, jL_cat]) (by simp [lg_sl, jR_cat, jI_cat, jL_cat]) (fun p e s m below meth c ls K _ _ hw hl => ?_)
  refine z_aload_n (pc := 0) K dX18_is_0 rfl (lv_at hl 0 rfl) ?_
  refine z_get (pc := 1) (t := 15) (k := 0) K hw (ob (t := 15) ht0) zq15 (by decide) q1287 (fun _ h => h) dX18_is_1 (zval_i kf_15_0) ?_
  refine z_if_ne (pc := 4) (tgt := 11) K (z_rI hw (ob (t := 15) ht0) kf_15_0) dX18_is_4 (by decide) (fun hc1 => ?_) (fun hc1 => ?_)
  · have h := ite_t h hc1
    refine lv_iload_n (pc := 7) K.x K.b dX18_is_7 rfl (lv_at hl 2 rfl) ?_
    refine z_goto (pc := 8) (tgt := 50) K dX18_is_8 (by decide) ?_
    exact wk_X18_is_b50 σ a0 o1 x2 Q Rc K hx2 nr hRc0 hRc1 hRc2 hRc3 hRc4 x2 _ _ _ h hw ht0 hx2 (lv_sub hl [0] rfl)
  · have h := ite_f h hc1
    refine z_aload_n (pc := 11) K dX18_is_11 rfl (lv_at hl 0 rfl) ?_
    refine z_get (pc := 12) (t := 15) (k := 0) K hw (ob (t := 15) ht0) zq15 (by decide) q1287 (fun _ h => h) dX18_is_12 (zval_i kf_15_0) ?_
    refine z_iconst (pc := 15) K dX18_is_15 ?_
    refine z_icmp_ne (pc := 16) (tgt := 28) K (z_rI hw (ob (t := 15) ht0) kf_15_0) ⟨by decide, by decide⟩ dX18_is_16 (by decide) (fun hc2 => ?_) (fun hc2 => ?_)
    · have h := ite_t h hc2
      refine z_aload_n (pc := 19) K dX18_is_19 rfl (lv_at hl 1 rfl) ?_
      refine z_getN (pc := 20) (t := 3) (k := 4) K hw (ob (t := 3) ht1) zq3 (by decide) q314 (fun _ h => h) dX18_is_20 (zval_p (κ := 1) kf_3_4) ?_
      refine lv_iload_n (pc := 23) K.x K.b dX18_is_23 rfl (lv_at hl 2 rfl) ?_
      obtain ⟨hj3, h⟩ := h
      refine z_iald (pc := 24) (t := 3) K hw ht1 ⟨by decide, by decide⟩ kf_3_4 kl_3_4 hj3 (by decide) dX18_is_24 ?_
      refine z_goto (pc := 25) (tgt := 50) K dX18_is_25 (by decide) ?_
      exact wk_X18_is_b50 σ a0 o1 x2 Q Rc K hx2 nr hRc0 hRc1 hRc2 hRc3 hRc4 (σ o1 4 x2) _ _ _ h hw ht0 (z_elI (t := 3) hw ht1 ⟨by decide, by decide⟩ kf_3_4 kl_3_4 hj3) (lv_sub hl [0] rfl)
    · have h := ite_f h hc2
      refine z_aload_n (pc := 28) K dX18_is_28 rfl (lv_at hl 0 rfl) ?_
      refine z_get (pc := 29) (t := 15) (k := 0) K hw (ob (t := 15) ht0) zq15 (by decide) q1287 (fun _ h => h) dX18_is_29 (zval_i kf_15_0) ?_
      refine z_iconst (pc := 32) K dX18_is_32 ?_
      refine z_icmp_ne (pc := 33) (tgt := 45) K (z_rI hw (ob (t := 15) ht0) kf_15_0) ⟨by decide, by decide⟩ dX18_is_33 (by decide) (fun hc4 => ?_) (fun hc4 => ?_)
      · have h := ite_t h hc4
        refine z_aload_n (pc := 36) K dX18_is_36 rfl (lv_at hl 1 rfl) ?_
        refine z_getN (pc := 37) (t := 3) (k := 5) K hw (ob (t := 3) ht1) zq3 (by decide) q317 (fun _ h => h) dX18_is_37 (zval_p (κ := 1) kf_3_5) ?_
        refine lv_iload_n (pc := 40) K.x K.b dX18_is_40 rfl (lv_at hl 2 rfl) ?_
        obtain ⟨hj5, h⟩ := h
        refine z_iald (pc := 41) (t := 3) K hw ht1 ⟨by decide, by decide⟩ kf_3_5 kl_3_5 hj5 (by decide) dX18_is_41 ?_
        refine z_goto (pc := 42) (tgt := 50) K dX18_is_42 (by decide) ?_
        exact wk_X18_is_b50 σ a0 o1 x2 Q Rc K hx2 nr hRc0 hRc1 hRc2 hRc3 hRc4 (σ o1 5 x2) _ _ _ h hw ht0 (z_elI (t := 3) hw ht1 ⟨by decide, by decide⟩ kf_3_5 kl_3_5 hj5) (lv_sub hl [0] rfl)
      · have h := ite_f h hc4
        refine z_aload_n (pc := 45) K dX18_is_45 rfl (lv_at hl 1 rfl) ?_
        refine lv_iload_n (pc := 46) K.x K.b dX18_is_46 rfl (lv_at hl 2 rfl) ?_
        refine zr_i (pc := 47) (maxL := 2) K hw (met_X3_stateOf X l σ o1 x2 ht1 hx2 _ h) (i_V (n := 1) (t := 3) (As := [jI x2]) K hw (ob ht1) zq3 (by decide) q1341 q1016 q1017 (sg_of K q1018) rfl rfl dX18_is_47) (locw K q1018 q94) (zr_ok2 (by omega) (by omega)) hl.1 dX18_is_47 (Nat.le_of_ble_eq_true rfl) ⟨Nat.le_refl _, Nat.le_refl _⟩ (fun r6 _ _ hr7 h hw10 => ?_)
        exact wk_X18_is_b50 σ a0 o1 x2 Q Rc K hx2 nr hRc0 hRc1 hRc2 hRc3 hRc4 r6 _ _ _ h hw10 ht0 hr7 (lv_sub hl [0] rfl)
set_option maxHeartbeats 4000000 in
theorem mb_X17_is (X : Cxt) (l : Launch) (nr : Nat) (Rc : Nat → St → Int → Int → Int → (Int → Prop) → Prop) (hRc0 : ∀ (σ : St) (a0 : Int) (o1 : Int) (x2 : Int) (ht0 : tg σ a0 = 17) (ht1 : tg σ o1 = 3) (hx2 : rng x2) (Q : Int → Prop), Rc 0 σ a0 o1 x2 Q → MetT l yX20_is (ws_ yX20_is cX20_is 3 (some .boolean)) (zrm (2 + nr) 0 0) (ZP X σ [jR X a0, jR X o1, jI x2]) (ZQ X (qZ (fun r σ' => σ' = σ ∧ Q r)) (fun _ _ => False)) 0 0 (zA X)) (hRc1 : ∀ (σ : St) (a0 : Int) (o1 : Int) (x2 : Int) (ht0 : tg σ a0 = 16) (ht1 : tg σ o1 = 3) (hx2 : rng x2) (Q : Int → Prop), Rc 1 σ a0 o1 x2 Q → MetT l yX19_is (ws_ yX19_is cX19_is 3 (some .boolean)) (zrm (2 + nr) 0 0) (ZP X σ [jR X a0, jR X o1, jI x2]) (ZQ X (qZ (fun r σ' => σ' = σ ∧ Q r)) (fun _ _ => False)) 0 0 (zA X)) (hRc2 : ∀ (σ : St) (a0 : Int) (o1 : Int) (x2 : Int) (ht0 : tg σ a0 = 15) (ht1 : tg σ o1 = 3) (hx2 : rng x2) (Q : Int → Prop), Rc 2 σ a0 o1 x2 Q → MetT l yX18_is (ws_ yX18_is cX18_is 4 (some .boolean)) (zrm (2 + nr) 0 0) (ZP X σ [jR X a0, jR X o1, jI x2]) (ZQ X (qZ (fun r σ' => σ' = σ ∧ Q r)) (fun _ _ => False)) 0 0 (zA X)) (hRc3 : ∀ (σ : St) (a0 : Int) (o1 : Int) (x2 : Int) (ht0 : tg σ a0 = 14) (ht1 : tg σ o1 = 3) (hx2 : rng x2) (Q : Int → Prop), Rc 3 σ a0 o1 x2 Q → MetT l yX17_is (ws_ yX17_is cX17_is 3 (some .boolean)) (zrm (2 + nr) 0 0) (ZP X σ [jR X a0, jR X o1, jI x2]) (ZQ X (qZ (fun r σ' => σ' = σ ∧ Q r)) (fun _ _ => False)) 0 0 (zA X)) (hRc4 : ∀ (σ : St) (a0 : Int) (o1 : Int) (x2 : Int) (ht0 : tg σ a0 = 13) (ht1 : tg σ o1 = 3) (hx2 : rng x2) (Q : Int → Prop), Rc 4 σ a0 o1 x2 Q → MetT l yX16_is (ws_ yX16_is cX16_is 3 (some .boolean)) (zrm (2 + nr) 0 0) (ZP X σ [jR X a0, jR X o1, jI x2]) (ZQ X (qZ (fun r σ' => σ' = σ ∧ Q r)) (fun _ _ => False)) 0 0 (zA X)) (σ : St) (a0 : Int) (o1 : Int) (x2 : Int) (ht0 : tg σ a0 = 14) (ht1 : tg σ o1 = 3) (hx2 : rng x2) (Q : Int → Prop) (h : bd_X17_is Rc σ a0 o1 x2 Q) : MetT l yX17_is (ws_ yX17_is cX17_is 3 (some .boolean)) (zrm (2 + nr + 1) 0 0) (ZP X σ [jR X a0, jR X o1, jI x2]) (ZQ X (qZ (fun r σ' => σ' = σ ∧ Q r)) (fun _ _ => False)) 0 0 (zA X) := by
  refine z_start (own := "CombTable$Has") (lv := [(0, jR X a0), (1, jR X o1), (2, jI x2)]) (by decide) rfl (by simp [lv_args, jR_cat, jI_cat, jL_cat]) (by simp [lg_sl, jR_cat, jI_cat, jL_cat]) (fun p e s m below meth c ls K _ _ hw hl => ?_)
  refine z_aload_n (pc := 0) K dX17_is_0 rfl (lv_at hl 0 rfl) ?_
  refine z_get (pc := 1) (t := 14) (k := 0) K hw (ob (t := 14) ht0) zq14 (by decide) q1274 (fun _ h => h) dX17_is_1 (zval_i kf_14_0) ?_
  refine z_if_ne (pc := 4) (tgt := 28) K (z_rI hw (ob (t := 14) ht0) kf_14_0) dX17_is_4 (by decide) (fun hc1 => ?_) (fun hc1 => ?_)
  · have h := ite_t h hc1
    refine z_aload_n (pc := 7) K dX17_is_7 rfl (lv_at hl 1 rfl) ?_
    refine z_getN (pc := 8) (t := 3) (k := 1) K hw (ob (t := 3) ht1) zq3 (by decide) q305 (fun _ h => h) dX17_is_8 (zval_p (κ := 1) kf_3_1) ?_
    refine lv_iload_n (pc := 11) K.x K.b dX17_is_11 rfl (lv_at hl 2 rfl) ?_
    obtain ⟨hj2, h⟩ := h
    refine z_iald (pc := 12) (t := 3) K hw ht1 ⟨by decide, by decide⟩ kf_3_1 kl_3_1 hj2 (by decide) dX17_is_12 ?_
    refine z_aload_n (pc := 13) K dX17_is_13 rfl (lv_at hl 0 rfl) ?_
    refine z_get (pc := 14) (t := 14) (k := 1) K hw (ob (t := 14) ht0) zq14 (by decide) q1275 (fun _ h => h) dX17_is_14 (zval_i kf_14_1) ?_
    refine z_icmp_ne (pc := 17) (tgt := 24) K (z_elI (t := 3) hw ht1 ⟨by decide, by decide⟩ kf_3_1 kl_3_1 hj2) (z_rI hw (ob (t := 14) ht0) kf_14_1) dX17_is_17 (by decide) (fun hc3 => ?_) (fun hc3 => ?_)
    · have h := ite_t h hc3
      refine z_iconst (pc := 20) K dX17_is_20 ?_
      refine z_goto (pc := 21) (tgt := 84) K dX17_is_21 (by decide) ?_
      exact z_zret (pc := 84) K hw ⟨by decide, by decide⟩ ⟨rfl, h⟩ dX17_is_84
    · have h := ite_f h hc3
      refine z_iconst (pc := 24) K dX17_is_24 ?_
      refine z_goto (pc := 25) (tgt := 84) K dX17_is_25 (by decide) ?_
      exact z_zret (pc := 84) K hw ⟨by decide, by decide⟩ ⟨rfl, h⟩ dX17_is_84
  · have h := ite_f h hc1
    refine z_aload_n (pc := 28) K dX17_is_28 rfl (lv_at hl 0 rfl) ?_
    refine z_get (pc := 29) (t := 14) (k := 0) K hw (ob (t := 14) ht0) zq14 (by decide) q1274 (fun _ h => h) dX17_is_29 (zval_i kf_14_0) ?_
    refine z_iconst (pc := 32) K dX17_is_32 ?_
    refine z_icmp_ne (pc := 33) (tgt := 66) K (z_rI hw (ob (t := 14) ht0) kf_14_0) ⟨by decide, by decide⟩ dX17_is_33 (by decide) (fun hc4 => ?_) (fun hc4 => ?_)
    · have h := ite_t h hc4
      refine z_aload_n (pc := 36) K dX17_is_36 rfl (lv_at hl 1 rfl) ?_
      refine z_getN (pc := 37) (t := 3) (k := 3) K hw (ob (t := 3) ht1) zq3 (by decide) q311 (fun _ h => h) dX17_is_37 (zval_p (κ := 1) kf_3_3) ?_
      refine lv_iload_n (pc := 40) K.x K.b dX17_is_40 rfl (lv_at hl 2 rfl) ?_
      obtain ⟨hj5, h⟩ := h
      refine z_iald (pc := 41) (t := 3) K hw ht1 ⟨by decide, by decide⟩ kf_3_3 kl_3_3 hj5 (by decide) dX17_is_41 ?_
      refine z_iconst (pc := 42) K dX17_is_42 ?_
      refine z_icmp_eq (pc := 43) (tgt := 62) K (z_elI (t := 3) hw ht1 ⟨by decide, by decide⟩ kf_3_3 kl_3_3 hj5) ⟨by decide, by decide⟩ dX17_is_43 (by decide) (fun hc6 => ?_) (fun hc6 => ?_)
      · have h := ite_t h hc6
        refine z_iconst (pc := 62) K dX17_is_62 ?_
        refine z_goto (pc := 63) (tgt := 84) K dX17_is_63 (by decide) ?_
        exact z_zret (pc := 84) K hw ⟨by decide, by decide⟩ ⟨rfl, h⟩ dX17_is_84
      · have h := ite_f h hc6
        refine z_aload_n (pc := 46) K dX17_is_46 rfl (lv_at hl 1 rfl) ?_
        refine lv_iload_n (pc := 47) K.x K.b dX17_is_47 rfl (lv_at hl 2 rfl) ?_
        refine zr_i (pc := 48) (maxL := 2) K hw (met_X3_to X l σ o1 x2 ht1 hx2 _ h) (i_V (n := 1) (t := 3) (As := [jI x2]) K hw (ob ht1) zq3 (by decide) q1344 q933 q934 (sg_of K q935) rfl rfl dX17_is_48) (locw K q935 q94) (zr_ok2 (by omega) (by omega)) hl.1 dX17_is_48 (Nat.le_of_ble_eq_true rfl) ⟨Nat.le_refl _, Nat.le_refl _⟩ (fun r7 _ _ hr8 h hw11 => ?_)
        refine z_aload_n (pc := 51) K dX17_is_51 rfl (lv_at hl 0 rfl) ?_
        refine z_get (pc := 52) (t := 14) (k := 1) K hw11 (ob (t := 14) ht0) zq14 (by decide) q1275 (fun _ h => h) dX17_is_52 (zval_i kf_14_1) ?_
        refine z_icmp_ne (pc := 55) (tgt := 62) K hr8 (z_rI hw11 (ob (t := 14) ht0) kf_14_1) dX17_is_55 (by decide) (fun hc12 => ?_) (fun hc12 => ?_)
        · have h := ite_t h hc12
          refine z_iconst (pc := 58) K dX17_is_58 ?_
          refine z_goto (pc := 59) (tgt := 84) K dX17_is_59 (by decide) ?_
          exact z_zret (pc := 84) K hw11 ⟨by decide, by decide⟩ ⟨rfl, h⟩ dX17_is_84
        · have h := ite_f h hc12
          refine z_iconst (pc := 62) K dX17_is_62 ?_
          refine z_goto (pc := 63) (tgt := 84) K dX17_is_63 (by decide) ?_
          exact z_zret (pc := 84) K hw11 ⟨by decide, by decide⟩ ⟨rfl, h⟩ dX17_is_84
    · have h := ite_f h hc4
      refine z_aload_n (pc := 66) K dX17_is_66 rfl (lv_at hl 1 rfl) ?_
      refine z_getN (pc := 67) (t := 3) (k := 2) K hw (ob (t := 3) ht1) zq3 (by decide) q308 (fun _ h => h) dX17_is_67 (zval_p (κ := 1) kf_3_2) ?_
      refine lv_iload_n (pc := 70) K.x K.b dX17_is_70 rfl (lv_at hl 2 rfl) ?_
      obtain ⟨hj13, h⟩ := h
      refine z_iald (pc := 71) (t := 3) K hw ht1 ⟨by decide, by decide⟩ kf_3_2 kl_3_2 hj13 (by decide) dX17_is_71 ?_
      refine z_aload_n (pc := 72) K dX17_is_72 rfl (lv_at hl 0 rfl) ?_
      refine z_get (pc := 73) (t := 14) (k := 1) K hw (ob (t := 14) ht0) zq14 (by decide) q1275 (fun _ h => h) dX17_is_73 (zval_i kf_14_1) ?_
      refine z_icmp_ne (pc := 76) (tgt := 83) K (z_elI (t := 3) hw ht1 ⟨by decide, by decide⟩ kf_3_2 kl_3_2 hj13) (z_rI hw (ob (t := 14) ht0) kf_14_1) dX17_is_76 (by decide) (fun hc14 => ?_) (fun hc14 => ?_)
      · have h := ite_t h hc14
        refine z_iconst (pc := 79) K dX17_is_79 ?_
        refine z_goto (pc := 80) (tgt := 84) K dX17_is_80 (by decide) ?_
        exact z_zret (pc := 84) K hw ⟨by decide, by decide⟩ ⟨rfl, h⟩ dX17_is_84
      · have h := ite_f h hc14
        refine z_iconst (pc := 83) K dX17_is_83 ?_
        exact z_zret (pc := 84) K hw ⟨by decide, by decide⟩ ⟨rfl, h⟩ dX17_is_84
set_option maxHeartbeats 4000000 in
theorem mb_X16_is (X : Cxt) (l : Launch) (nr : Nat) (Rc : Nat → St → Int → Int → Int → (Int → Prop) → Prop) (hRc0 : ∀ (σ : St) (a0 : Int) (o1 : Int) (x2 : Int) (ht0 : tg σ a0 = 17) (ht1 : tg σ o1 = 3) (hx2 : rng x2) (Q : Int → Prop), Rc 0 σ a0 o1 x2 Q → MetT l yX20_is (ws_ yX20_is cX20_is 3 (some .boolean)) (zrm (2 + nr) 0 0) (ZP X σ [jR X a0, jR X o1, jI x2]) (ZQ X (qZ (fun r σ' => σ' = σ ∧ Q r)) (fun _ _ => False)) 0 0 (zA X)) (hRc1 : ∀ (σ : St) (a0 : Int) (o1 : Int) (x2 : Int) (ht0 : tg σ a0 = 16) (ht1 : tg σ o1 = 3) (hx2 : rng x2) (Q : Int → Prop), Rc 1 σ a0 o1 x2 Q → MetT l yX19_is (ws_ yX19_is cX19_is 3 (some .boolean)) (zrm (2 + nr) 0 0) (ZP X σ [jR X a0, jR X o1, jI x2]) (ZQ X (qZ (fun r σ' => σ' = σ ∧ Q r)) (fun _ _ => False)) 0 0 (zA X)) (hRc2 : ∀ (σ : St) (a0 : Int) (o1 : Int) (x2 : Int) (ht0 : tg σ a0 = 15) (ht1 : tg σ o1 = 3) (hx2 : rng x2) (Q : Int → Prop), Rc 2 σ a0 o1 x2 Q → MetT l yX18_is (ws_ yX18_is cX18_is 4 (some .boolean)) (zrm (2 + nr) 0 0) (ZP X σ [jR X a0, jR X o1, jI x2]) (ZQ X (qZ (fun r σ' => σ' = σ ∧ Q r)) (fun _ _ => False)) 0 0 (zA X)) (hRc3 : ∀ (σ : St) (a0 : Int) (o1 : Int) (x2 : Int) (ht0 : tg σ a0 = 14) (ht1 : tg σ o1 = 3) (hx2 : rng x2) (Q : Int → Prop), Rc 3 σ a0 o1 x2 Q → MetT l yX17_is (ws_ yX17_is cX17_is 3 (some .boolean)) (zrm (2 + nr) 0 0) (ZP X σ [jR X a0, jR X o1, jI x2]) (ZQ X (qZ (fun r σ' => σ' = σ ∧ Q r)) (fun _ _ => False)) 0 0 (zA X)) (hRc4 : ∀ (σ : St) (a0 : Int) (o1 : Int) (x2 : Int) (ht0 : tg σ a0 = 13) (ht1 : tg σ o1 = 3) (hx2 : rng x2) (Q : Int → Prop), Rc 4 σ a0 o1 x2 Q → MetT l yX16_is (ws_ yX16_is cX16_is 3 (some .boolean)) (zrm (2 + nr) 0 0) (ZP X σ [jR X a0, jR X o1, jI x2]) (ZQ X (qZ (fun r σ' => σ' = σ ∧ Q r)) (fun _ _ => False)) 0 0 (zA X)) (σ : St) (a0 : Int) (o1 : Int) (x2 : Int) (ht0 : tg σ a0 = 13) (ht1 : tg σ o1 = 3) (hx2 : rng x2) (Q : Int → Prop) (h : bd_X16_is Rc σ a0 o1 x2 Q) : MetT l yX16_is (ws_ yX16_is cX16_is 3 (some .boolean)) (zrm (2 + nr + 1) 0 0) (ZP X σ [jR X a0, jR X o1, jI x2]) (ZQ X (qZ (fun r σ' => σ' = σ ∧ Q r)) (fun _ _ => False)) 0 0 (zA X) := by
  refine z_start (own := "CombTable$Not") (lv := [(0, jR X a0), (1, jR X o1), (2, jI x2)]) (by decide) rfl (by simp [lv_args, jR_cat, jI_cat, jL_cat]) (by simp [lg_sl, jR_cat, jI_cat, jL_cat]) (fun p e s m below meth c ls K _ _ hw hl => ?_)
  refine z_aload_n (pc := 0) K dX16_is_0 rfl (lv_at hl 0 rfl) ?_
  refine z_get (pc := 1) (t := 13) (k := 0) K hw (ob (t := 13) ht0) zq13 (by decide) q1258 (fun _ h => h) dX16_is_1 (zval_r kf_13_0) ?_
  refine z_aload_n (pc := 4) K dX16_is_4 rfl (lv_at hl 1 rfl) ?_
  refine lv_iload_n (pc := 5) K.x K.b dX16_is_5 rfl (lv_at hl 2 rfl) ?_
  obtain ⟨hn1, h⟩ := h
  have hcd2 := cond5 (((z_ok (t := 13) (r := 100) hw ht0 ⟨by decide, by decide⟩ kf_13_0 kt_13_0)).resolve_left hn1)
  refine z_is5b (pc := 6) (R0 := Rc) K hw hcd2 ht1 hx2 q1347 ⟨hRc0, hRc1, hRc2, hRc3, hRc4⟩ ⟨by show _ ≤ _ + _; omega, by show _ ≤ 40 * _; omega⟩ hl.1 dX16_is_6 (Nat.le_of_ble_eq_true rfl) ⟨Nat.le_refl _, Nat.le_refl _⟩ h (fun r3 _ _ hr4 h hw5 => ?_)
  refine z_if_ne (pc := 9) (tgt := 16) K (b01r hr4) dX16_is_9 (by decide) (fun hc6 => ?_) (fun hc6 => ?_)
  · have h := ite_t h hc6
    refine z_iconst (pc := 12) K dX16_is_12 ?_
    refine z_goto (pc := 13) (tgt := 17) K dX16_is_13 (by decide) ?_
    exact z_zret (pc := 17) K hw5 ⟨by decide, by decide⟩ ⟨rfl, h⟩ dX16_is_17
  · have h := ite_f h hc6
    refine z_iconst (pc := 16) K dX16_is_16 ?_
    exact z_zret (pc := 17) K hw5 ⟨by decide, by decide⟩ ⟨rfl, h⟩ dX16_is_17
theorem mg_X20_is (X : Cxt) (l : Launch) : ∀ n : Nat, (∀ (σ : St) (a0 : Int) (o1 : Int) (x2 : Int) (ht0 : tg σ a0 = 17) (ht1 : tg σ o1 = 3) (hx2 : rng x2) (Q : Int → Prop), wg_X20_is n 0 σ a0 o1 x2 Q → MetT l yX20_is (ws_ yX20_is cX20_is 3 (some .boolean)) (zrm (2 + n) 0 0) (ZP X σ [jR X a0, jR X o1, jI x2]) (ZQ X (qZ (fun r σ' => σ' = σ ∧ Q r)) (fun _ _ => False)) 0 0 (zA X)) ∧ (∀ (σ : St) (a0 : Int) (o1 : Int) (x2 : Int) (ht0 : tg σ a0 = 16) (ht1 : tg σ o1 = 3) (hx2 : rng x2) (Q : Int → Prop), wg_X20_is n 1 σ a0 o1 x2 Q → MetT l yX19_is (ws_ yX19_is cX19_is 3 (some .boolean)) (zrm (2 + n) 0 0) (ZP X σ [jR X a0, jR X o1, jI x2]) (ZQ X (qZ (fun r σ' => σ' = σ ∧ Q r)) (fun _ _ => False)) 0 0 (zA X)) ∧ (∀ (σ : St) (a0 : Int) (o1 : Int) (x2 : Int) (ht0 : tg σ a0 = 15) (ht1 : tg σ o1 = 3) (hx2 : rng x2) (Q : Int → Prop), wg_X20_is n 2 σ a0 o1 x2 Q → MetT l yX18_is (ws_ yX18_is cX18_is 4 (some .boolean)) (zrm (2 + n) 0 0) (ZP X σ [jR X a0, jR X o1, jI x2]) (ZQ X (qZ (fun r σ' => σ' = σ ∧ Q r)) (fun _ _ => False)) 0 0 (zA X)) ∧ (∀ (σ : St) (a0 : Int) (o1 : Int) (x2 : Int) (ht0 : tg σ a0 = 14) (ht1 : tg σ o1 = 3) (hx2 : rng x2) (Q : Int → Prop), wg_X20_is n 3 σ a0 o1 x2 Q → MetT l yX17_is (ws_ yX17_is cX17_is 3 (some .boolean)) (zrm (2 + n) 0 0) (ZP X σ [jR X a0, jR X o1, jI x2]) (ZQ X (qZ (fun r σ' => σ' = σ ∧ Q r)) (fun _ _ => False)) 0 0 (zA X)) ∧ (∀ (σ : St) (a0 : Int) (o1 : Int) (x2 : Int) (ht0 : tg σ a0 = 13) (ht1 : tg σ o1 = 3) (hx2 : rng x2) (Q : Int → Prop), wg_X20_is n 4 σ a0 o1 x2 Q → MetT l yX16_is (ws_ yX16_is cX16_is 3 (some .boolean)) (zrm (2 + n) 0 0) (ZP X σ [jR X a0, jR X o1, jI x2]) (ZQ X (qZ (fun r σ' => σ' = σ ∧ Q r)) (fun _ _ => False)) 0 0 (zA X)) := by
  intro n
  induction n with
  | zero => exact ⟨fun σ a0 o1 x2 ht0 ht1 hx2 Q h => h.elim, fun σ a0 o1 x2 ht0 ht1 hx2 Q h => h.elim, fun σ a0 o1 x2 ht0 ht1 hx2 Q h => h.elim, fun σ a0 o1 x2 ht0 ht1 hx2 Q h => h.elim, fun σ a0 o1 x2 ht0 ht1 hx2 Q h => h.elim⟩
  | succ n ih => exact ⟨fun σ a0 o1 x2 ht0 ht1 hx2 Q h => mb_X20_is X l n (wg_X20_is n) ih.1 ih.2.1 ih.2.2.1 ih.2.2.2.1 ih.2.2.2.2 σ a0 o1 x2 ht0 ht1 hx2 Q h, fun σ a0 o1 x2 ht0 ht1 hx2 Q h => mb_X19_is X l n (wg_X20_is n) ih.1 ih.2.1 ih.2.2.1 ih.2.2.2.1 ih.2.2.2.2 σ a0 o1 x2 ht0 ht1 hx2 Q h, fun σ a0 o1 x2 ht0 ht1 hx2 Q h => mb_X18_is X l n (wg_X20_is n) ih.1 ih.2.1 ih.2.2.1 ih.2.2.2.1 ih.2.2.2.2 σ a0 o1 x2 ht0 ht1 hx2 Q h, fun σ a0 o1 x2 ht0 ht1 hx2 Q h => mb_X17_is X l n (wg_X20_is n) ih.1 ih.2.1 ih.2.2.1 ih.2.2.2.1 ih.2.2.2.2 σ a0 o1 x2 ht0 ht1 hx2 Q h, fun σ a0 o1 x2 ht0 ht1 hx2 Q h => mb_X16_is X l n (wg_X20_is n) ih.1 ih.2.1 ih.2.2.1 ih.2.2.2.1 ih.2.2.2.2 σ a0 o1 x2 ht0 ht1 hx2 Q h⟩
theorem met_X20_is (X : Cxt) (l : Launch) (n : Nat) : ∀ (σ : St) (a0 : Int) (o1 : Int) (x2 : Int) (ht0 : tg σ a0 = 17) (ht1 : tg σ o1 = 3) (hx2 : rng x2) (Q : Int → Prop), wg_X20_is n 0 σ a0 o1 x2 Q → MetT l yX20_is (ws_ yX20_is cX20_is 3 (some .boolean)) (zrm (2 + n) 0 0) (ZP X σ [jR X a0, jR X o1, jI x2]) (ZQ X (qZ (fun r σ' => σ' = σ ∧ Q r)) (fun _ _ => False)) 0 0 (zA X) := (mg_X20_is X l n).1
theorem met_X19_is (X : Cxt) (l : Launch) (n : Nat) : ∀ (σ : St) (a0 : Int) (o1 : Int) (x2 : Int) (ht0 : tg σ a0 = 16) (ht1 : tg σ o1 = 3) (hx2 : rng x2) (Q : Int → Prop), wg_X20_is n 1 σ a0 o1 x2 Q → MetT l yX19_is (ws_ yX19_is cX19_is 3 (some .boolean)) (zrm (2 + n) 0 0) (ZP X σ [jR X a0, jR X o1, jI x2]) (ZQ X (qZ (fun r σ' => σ' = σ ∧ Q r)) (fun _ _ => False)) 0 0 (zA X) := (mg_X20_is X l n).2.1
theorem met_X18_is (X : Cxt) (l : Launch) (n : Nat) : ∀ (σ : St) (a0 : Int) (o1 : Int) (x2 : Int) (ht0 : tg σ a0 = 15) (ht1 : tg σ o1 = 3) (hx2 : rng x2) (Q : Int → Prop), wg_X20_is n 2 σ a0 o1 x2 Q → MetT l yX18_is (ws_ yX18_is cX18_is 4 (some .boolean)) (zrm (2 + n) 0 0) (ZP X σ [jR X a0, jR X o1, jI x2]) (ZQ X (qZ (fun r σ' => σ' = σ ∧ Q r)) (fun _ _ => False)) 0 0 (zA X) := (mg_X20_is X l n).2.2.1
theorem met_X17_is (X : Cxt) (l : Launch) (n : Nat) : ∀ (σ : St) (a0 : Int) (o1 : Int) (x2 : Int) (ht0 : tg σ a0 = 14) (ht1 : tg σ o1 = 3) (hx2 : rng x2) (Q : Int → Prop), wg_X20_is n 3 σ a0 o1 x2 Q → MetT l yX17_is (ws_ yX17_is cX17_is 3 (some .boolean)) (zrm (2 + n) 0 0) (ZP X σ [jR X a0, jR X o1, jI x2]) (ZQ X (qZ (fun r σ' => σ' = σ ∧ Q r)) (fun _ _ => False)) 0 0 (zA X) := (mg_X20_is X l n).2.2.2.1
theorem met_X16_is (X : Cxt) (l : Launch) (n : Nat) : ∀ (σ : St) (a0 : Int) (o1 : Int) (x2 : Int) (ht0 : tg σ a0 = 13) (ht1 : tg σ o1 = 3) (hx2 : rng x2) (Q : Int → Prop), wg_X20_is n 4 σ a0 o1 x2 Q → MetT l yX16_is (ws_ yX16_is cX16_is 3 (some .boolean)) (zrm (2 + n) 0 0) (ZP X σ [jR X a0, jR X o1, jI x2]) (ZQ X (qZ (fun r σ' => σ' = σ ∧ Q r)) (fun _ _ => False)) 0 0 (zA X) := (mg_X20_is X l n).2.2.2.2
def lp_X1_said_18 (σ : St) (a0 : Int) (x1 : Int) (Q : Int → Prop) : Nat → Int → Int → Prop
  | 0 => fun _ _ => False
  | n + 1 => fun v2 v3 => 
    (if v3 < σ (σ a0 8 0) 8 0 then
      (σ a0 34 0) ≠ -1 ∧ is5 (wg_X20_is 64) σ (σ a0 34 0) (σ a0 8 0) v3 (fun r5 => (if r5 = 0 then
        rng (v3 + 1) ∧ (lp_X1_said_18 σ a0 x1 Q n v2 (v3 + 1))
        else
        (if v2 = x1 then
          Q v3
          else
          rng (v2 + 1) ∧ rng (v3 + 1) ∧ (lp_X1_said_18 σ a0 x1 Q n (v2 + 1) (v3 + 1)))))
      else
      (if x1 = (-1) then
        Q v2
        else
        Q (-1)))
def wp_X1_said (σ : St) (a0 : Int) (x1 : Int) (Q : Int → Prop) : Prop :=
  (if σ a0 34 0 = -1 then
    Q (-1)
    else
    (if x1 < (-1) then
      Q (-1)
      else
      (∃ kk, lp_X1_said_18 σ a0 x1 Q kk 0 0)))
set_option maxHeartbeats 4000000 in
theorem wk_X1_said_18 {X : Cxt} {p : Program} {l : Launch} {e : Env} {s : State} {m : MethodId} {args : Array Value} {below : List Frame} {meth : Method} {c : Code} (σ : St) (a0 : Int) (x1 : Int) (Q : Int → Prop) (K : MCx X p s m args meth c cX1_said 4 "CombTable" (some .int)) (hx1 : rng x1) : ∀ (n : Nat), ∀ (v2 : Int) (v3 : Int) (H : Heap) (locs : List Loc) (ls : Array Slot), lp_X1_said_18 σ a0 x1 Q n v2 v3 → Wc X σ s.heap H locs → tg σ a0 = 1 → rng v2 → rng v3 → lv_has ls 4 [(0, jR X a0), (1, jI x1), (2, jI v2), (3, jI v3)] → W p l e (zrm 67 0 0) s m args below meth c H locs 0 0 (MQT below (ZQ X (qI (fun r σ' => σ' = σ ∧ Q r)) (fun _ _ => False)) args s 0 0 (zA X)) (F0 m 18 ls []) := by
  intro n
  induction n with
  | zero => intro v2 v3 H locs ls h; exact h.elim
  | succ n ih =>
    intro v2 v3 H locs ls h hw ht0 hv2 hv3 hl
    refine lv_iload_n (pc := 18) K.x K.b dX1_said_18 rfl (lv_at hl 3 rfl) ?_
    refine z_aload_n (pc := 19) K dX1_said_19 rfl (lv_at hl 0 rfl) ?_
    refine z_get (pc := 20) (t := 1) (k := 8) K hw (ob (t := 1) ht0) zq1 (by decide) q524 (fun _ h => h) dX1_said_20 (zval_r kf_1_8) ?_
    have hg1 : tg σ (σ a0 8 0) = 3 := (z_tg (t := 1) (r := 3) hw ht0 ⟨by decide, by decide⟩ kf_1_8 kn_1_8 kt_1_8 (by decide) (by decide))
    refine z_getN (pc := 23) (t := 3) (k := 8) K hw (ob (t := 3) hg1) zq3 (by decide) q323 (fun _ h => h) dX1_said_23 (zval_i kf_3_8) ?_
    refine z_icmp_ge (pc := 26) (tgt := 63) K hv3 (z_rI hw (ob (t := 3) hg1) kf_3_8) dX1_said_26 (by decide) (fun hc2 => ?_) (fun hc2 => ?_)
    · have h := ite_t h hc2
      refine z_aload_n (pc := 29) K dX1_said_29 rfl (lv_at hl 0 rfl) ?_
      refine z_get (pc := 30) (t := 1) (k := 34) K hw (ob (t := 1) ht0) zq1 (by decide) q552 (fun _ h => h) dX1_said_30 (zval_r kf_1_34) ?_
      refine z_aload_n (pc := 33) K dX1_said_33 rfl (lv_at hl 0 rfl) ?_
      refine z_get (pc := 34) (t := 1) (k := 8) K hw (ob (t := 1) ht0) zq1 (by decide) q524 (fun _ h => h) dX1_said_34 (zval_r kf_1_8) ?_
      refine lv_iload_n (pc := 37) K.x K.b dX1_said_37 rfl (lv_at hl 3 rfl) ?_
      obtain ⟨hn3, h⟩ := h
      have hcd4 := cond5 (((z_ok (t := 1) (r := 100) hw ht0 ⟨by decide, by decide⟩ kf_1_34 kt_1_34)).resolve_left hn3)
      refine z_is5b (pc := 38) (R0 := (wg_X20_is 64)) K hw hcd4 hg1 hv3 q1329 (mg_X20_is X l 64) ⟨by decide, by decide⟩ hl.1 dX1_said_38 (Nat.le_of_ble_eq_true rfl) ⟨Nat.le_refl _, Nat.le_refl _⟩ h (fun r5 _ _ hr6 h hw7 => ?_)
      refine z_if_ne (pc := 41) (tgt := 47) K (b01r hr6) dX1_said_41 (by decide) (fun hc8 => ?_) (fun hc8 => ?_)
      · have h := ite_t h hc8
        refine z_goto (pc := 44) (tgt := 57) K dX1_said_44 (by decide) ?_
        refine z_iinc (pc := 57) (k := 3) (lv' := [(3, jI (v3 + 1)), (0, jR X a0), (1, jI x1), (2, jI v2)]) K dX1_said_57 hl rfl (by decide) rfl (fun ls hl => ?_)
        refine z_goto (pc := 60) (tgt := 18) K dX1_said_60 (by decide) ?_
        obtain ⟨hr9, h⟩ := h
        exact ih v2 (v3 + 1) _ _ _ h hw7 ht0 hv2 hr9 (lv_sub hl [1, 2, 3, 0] rfl)
      · have h := ite_f h hc8
        refine lv_iload_n (pc := 47) K.x K.b dX1_said_47 rfl (lv_at hl 2 rfl) ?_
        refine lv_iload_n (pc := 48) K.x K.b dX1_said_48 rfl (lv_at hl 1 rfl) ?_
        refine z_icmp_ne (pc := 49) (tgt := 54) K hv2 hx1 dX1_said_49 (by decide) (fun hc10 => ?_) (fun hc10 => ?_)
        · have h := ite_t h hc10
          refine lv_iload_n (pc := 52) K.x K.b dX1_said_52 rfl (lv_at hl 3 rfl) ?_
          exact z_iret (pc := 53) K hw7 hv3 ⟨rfl, h⟩ dX1_said_53
        · have h := ite_f h hc10
          refine z_iinc (pc := 54) (k := 2) (lv' := [(2, jI (v2 + 1)), (0, jR X a0), (1, jI x1), (3, jI v3)]) K dX1_said_54 hl rfl (by decide) rfl (fun ls hl => ?_)
          refine z_iinc (pc := 57) (k := 3) (lv' := [(3, jI (v3 + 1)), (2, jI (v2 + 1)), (0, jR X a0), (1, jI x1)]) K dX1_said_57 hl rfl (by decide) rfl (fun ls hl => ?_)
          refine z_goto (pc := 60) (tgt := 18) K dX1_said_60 (by decide) ?_
          obtain ⟨hr11, h⟩ := h
          obtain ⟨hr12, h⟩ := h
          exact ih (v2 + 1) (v3 + 1) _ _ _ h hw7 ht0 hr11 hr12 (lv_sub hl [2, 3, 1, 0] rfl)
    · have h := ite_f h hc2
      refine lv_iload_n (pc := 63) K.x K.b dX1_said_63 rfl (lv_at hl 1 rfl) ?_
      refine z_iconst (pc := 64) K dX1_said_64 ?_
      refine z_icmp_ne (pc := 65) (tgt := 72) K hx1 ⟨by decide, by decide⟩ dX1_said_65 (by decide) (fun hc13 => ?_) (fun hc13 => ?_)
      · have h := ite_t h hc13
        refine lv_iload_n (pc := 68) K.x K.b dX1_said_68 rfl (lv_at hl 2 rfl) ?_
        refine z_goto (pc := 69) (tgt := 73) K dX1_said_69 (by decide) ?_
        exact z_iret (pc := 73) K hw hv2 ⟨rfl, h⟩ dX1_said_73
      · have h := ite_f h hc13
        refine z_iconst (pc := 72) K dX1_said_72 ?_
        exact z_iret (pc := 73) K hw ⟨by decide, by decide⟩ ⟨rfl, h⟩ dX1_said_73
set_option maxHeartbeats 4000000 in
theorem met_X1_said (X : Cxt) (l : Launch) (σ : St) (a0 : Int) (x1 : Int) (ht0 : tg σ a0 = 1) (hx1 : rng x1) (Q : Int → Prop) (h : wp_X1_said σ a0 x1 Q) : MetT l yX1_said (ws_ yX1_said cX1_said 4 (some .int)) (zrm 67 0 0) (ZP X σ [jR X a0, jI x1]) (ZQ X (qI (fun r σ' => σ' = σ ∧ Q r)) (fun _ _ => False)) 0 0 (zA X) := by
  refine z_start (own := "CombTable") (lv := [(0, jR X a0), (1, jI x1)]) (by decide) rfl (by simp [lv_args, jR_cat, jI_cat, jL_cat]) (by simp [lg_sl, jR_cat, jI_cat, jL_cat]) (fun p e s m below meth c ls K _ _ hw hl => ?_)
  refine z_aload_n (pc := 0) K dX1_said_0 rfl (lv_at hl 0 rfl) ?_
  refine z_get (pc := 1) (t := 1) (k := 34) K hw (ob (t := 1) ht0) zq1 (by decide) q552 (fun _ h => h) dX1_said_1 (zval_r kf_1_34) ?_
  refine z_ifnull (pc := 4) (tgt := 12) K dX1_said_4 (by decide) (fun hc1 => ?_) (fun hc1 => ?_)
  · have h := ite_t h hc1
    refine z_iconst (pc := 12) K dX1_said_12 ?_
    exact z_iret (pc := 13) K hw ⟨by decide, by decide⟩ ⟨rfl, h⟩ dX1_said_13
  · have h := ite_f h hc1
    refine lv_iload_n (pc := 7) K.x K.b dX1_said_7 rfl (lv_at hl 1 rfl) ?_
    refine z_iconst (pc := 8) K dX1_said_8 ?_
    refine z_icmp_ge (pc := 9) (tgt := 14) K hx1 ⟨by decide, by decide⟩ dX1_said_9 (by decide) (fun hc2 => ?_) (fun hc2 => ?_)
    · have h := ite_t h hc2
      refine z_iconst (pc := 12) K dX1_said_12 ?_
      exact z_iret (pc := 13) K hw ⟨by decide, by decide⟩ ⟨rfl, h⟩ dX1_said_13
    · have h := ite_f h hc2
      refine z_iconst (pc := 14) K dX1_said_14 ?_
      refine lv_istore_n (pc := 15) (lv' := [(2, jI 0), (0, jR X a0), (1, jI x1)]) K.x K.b dX1_said_15 rfl hl (by decide) rfl (fun ls hl => ?_)
      refine z_iconst (pc := 16) K dX1_said_16 ?_
      refine lv_istore_n (pc := 17) (lv' := [(3, jI 0), (2, jI 0), (0, jR X a0), (1, jI x1)]) K.x K.b dX1_said_17 rfl hl (by decide) rfl (fun ls hl => ?_)
      obtain ⟨nf3, h⟩ := h
      exact wk_X1_said_18 σ a0 x1 Q K hx1 nf3 0 0 _ _ _ h hw ht0 ⟨by decide, by decide⟩ ⟨by decide, by decide⟩ (lv_sub hl [2, 3, 1, 0] rfl)
