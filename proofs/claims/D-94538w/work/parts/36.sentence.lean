/-! printed by gen/walk2.py -/
set_option maxRecDepth 100000
def ws_X10_any : List (Int × Nat) := [(2, 6), (2, 7), (6, 1), (6, 2), (6, 3), (6, 4), (6, 5), (6, 6), (7, 1), (7, 2), (7, 3), (7, 4), (7, 5), (7, 6), (8, 1), (8, 2), (8, 3), (8, 4), (8, 5), (8, 6), (9, 1), (9, 2), (9, 3), (9, 4), (9, 5), (9, 6), (9, 10)]
theorem wo_X10_any : wsOk ws_X10_any = true := rfl
def lp_X10_any_6 (a0 : Int) (x1 : Int) (Q : Int → St → Int → Prop) (E : Int → St → Int → Prop) (σ0 : St) (Rc : Nat → St → Int → Int → Int → (Int → St → Int → Prop) → (Int → St → Int → Prop) → Prop) : Nat → St → Int → Int → Prop
  | 0 => fun _ _ _ => False
  | n + 1 => fun σ cr v2 => 
    Kp ws_X10_any σ0 σ → wp_X6_is σ a0 (-39) (fun r1 => (if r1 = 0 then
      Q v2 σ cr
      else
      wp_X6_next σ a0 (fun σ10 => Kp ws_X6_next σ σ10 → 2 ≤ cr ∧ ∀ σ19 : St, σ19 = nw σ10 17 → Rc 1 σ19 a0 x1 (cr - 2) (fun r27 σ30 cr32 => Kp ws_X10_any σ19 σ30 → v2 ≠ -1 ∧ r27 ≠ -1 ∧ wp_X20_init σ30 (nx σ10) v2 r27 (fun σ44 => Ki (nx σ10) σ30 σ44 → tg σ44 (nx σ10) = 17 → (lp_X10_any_6 a0 x1 Q E σ0 Rc n σ44 cr32 (nx σ10)))) (fun x σx crx => Kp ws_X10_any σ19 σx → E x σx crx))))
def bd_X10_any (Rc : Nat → St → Int → Int → Int → (Int → St → Int → Prop) → (Int → St → Int → Prop) → Prop) (σ : St) (a0 : Int) (x1 : Int) (cr : Int) (Q : Int → St → Int → Prop) (E : Int → St → Int → Prop) : Prop :=
  Rc 1 σ a0 x1 cr (fun r1 σ4 cr6 => Kp ws_X10_any σ σ4 → (∃ kk, lp_X10_any_6 a0 x1 Q E σ Rc kk σ4 cr6 r1)) (fun x σx crx => Kp ws_X10_any σ σx → E x σx crx)
def lp_X10_both_6 (a0 : Int) (x1 : Int) (Q : Int → St → Int → Prop) (E : Int → St → Int → Prop) (σ0 : St) (Rc : Nat → St → Int → Int → Int → (Int → St → Int → Prop) → (Int → St → Int → Prop) → Prop) : Nat → St → Int → Int → Prop
  | 0 => fun _ _ _ => False
  | n + 1 => fun σ cr v2 => 
    Kp ws_X10_any σ0 σ → wp_X6_is σ a0 (-38) (fun r1 => (if r1 = 0 then
      Q v2 σ cr
      else
      wp_X6_next σ a0 (fun σ10 => Kp ws_X6_next σ σ10 → 2 ≤ cr ∧ ∀ σ19 : St, σ19 = nw σ10 16 → Rc 2 σ19 a0 x1 (cr - 2) (fun r27 σ30 cr32 => Kp ws_X10_any σ19 σ30 → v2 ≠ -1 ∧ r27 ≠ -1 ∧ wp_X19_init σ30 (nx σ10) v2 r27 (fun σ44 => Ki (nx σ10) σ30 σ44 → tg σ44 (nx σ10) = 16 → (lp_X10_both_6 a0 x1 Q E σ0 Rc n σ44 cr32 (nx σ10)))) (fun x σx crx => Kp ws_X10_any σ19 σx → E x σx crx))))
def bd_X10_both (Rc : Nat → St → Int → Int → Int → (Int → St → Int → Prop) → (Int → St → Int → Prop) → Prop) (σ : St) (a0 : Int) (x1 : Int) (cr : Int) (Q : Int → St → Int → Prop) (E : Int → St → Int → Prop) : Prop :=
  Rc 2 σ a0 x1 cr (fun r1 σ4 cr6 => Kp ws_X10_any σ σ4 → (∃ kk, lp_X10_both_6 a0 x1 Q E σ Rc kk σ4 cr6 r1)) (fun x σx crx => Kp ws_X10_any σ σx → E x σx crx)
def wp_X10_single_b290 (a0 : Int) (x1 : Int) (Q : Int → St → Int → Prop) (E : Int → St → Int → Prop) (σ0 : St) (Rc : Nat → St → Int → Int → Int → (Int → St → Int → Prop) → (Int → St → Int → Prop) → Prop) (σ : St) (cr : Int) (v5 : Int) (v6 : Int) (s1 : Int) : Prop :=
  wp_X6_must σ a0 s1 1 (fun σ4 => Kp ws_X6_must σ σ4 → wp_X6_next σ4 a0 (fun σ12 => Kp ws_X6_next σ4 σ12 → 3 ≤ cr ∧ ∀ σ20 : St, σ20 = nw σ12 15 → wp_X18_init σ20 (nx σ12) v5 v6 (σ4 a0 4 0) (fun σ30 => Ki (nx σ12) σ20 σ30 → tg σ30 (nx σ12) = 15 → Q (nx σ12) σ30 (cr - 3)))) (fun x σx => Kp ws_X6_must σ σx → E x σx cr)
def wp_X10_single_b262 (a0 : Int) (x1 : Int) (Q : Int → St → Int → Prop) (E : Int → St → Int → Prop) (σ0 : St) (Rc : Nat → St → Int → Int → Int → (Int → St → Int → Prop) → (Int → St → Int → Prop) → Prop) (σ : St) (cr : Int) (v5 : Int) (s1 : Int) : Prop :=
  wp_X6_must σ a0 s1 1 (fun σ4 => Kp ws_X6_must σ σ4 → wp_X6_next σ4 a0 (fun σ12 => Kp ws_X6_next σ4 σ12 → (if σ12 a0 3 0 = 2 then
    (wp_X10_single_b290 a0 x1 Q E σ0 Rc σ12 cr v5 (σ4 a0 4 0) 1)
    else
    (wp_X10_single_b290 a0 x1 Q E σ0 Rc σ12 cr v5 (σ4 a0 4 0) 0)))) (fun x σx => Kp ws_X6_must σ σx → E x σx cr)
def wp_X10_single_b257 (a0 : Int) (x1 : Int) (Q : Int → St → Int → Prop) (E : Int → St → Int → Prop) (σ0 : St) (Rc : Nat → St → Int → Int → Int → (Int → St → Int → Prop) → (Int → St → Int → Prop) → Prop) (σ : St) (cr : Int) (v5 : Int) : Prop :=
  (wp_X10_single_b262 a0 x1 Q E σ0 Rc σ cr v5 1)
def wp_X10_single_b225 (a0 : Int) (x1 : Int) (Q : Int → St → Int → Prop) (E : Int → St → Int → Prop) (σ0 : St) (Rc : Nat → St → Int → Int → Int → (Int → St → Int → Prop) → (Int → St → Int → Prop) → Prop) (σ : St) (cr : Int) (s0 : Int) (s2 : Int) (s3 : Int) : Prop :=
  wp_X17_init σ s0 s2 s3 (fun σ4 => Ki s0 σ σ4 → tg σ4 s0 = 14 → Q s0 σ4 cr)
def wp_X10_single_b85 (a0 : Int) (x1 : Int) (Q : Int → St → Int → Prop) (E : Int → St → Int → Prop) (σ0 : St) (Rc : Nat → St → Int → Int → Int → (Int → St → Int → Prop) → (Int → St → Int → Prop) → Prop) (σ : St) (cr : Int) (v2 : Int) (v3 : Int) (v4 : Int) (v5 : Int) (s1 : Int) : Prop :=
  wp_X6_must σ a0 s1 4 (fun σ4 => Kp ws_X6_must σ σ4 → rng ((σ4 a0 10 0) + 1) ∧ ∀ σ11 : St, σ11 = st σ4 a0 10 0 ((σ4 a0 10 0) + 1) → wp_X6_next σ11 a0 (fun σ18 => Kp ws_X6_next σ11 σ18 → (if v2 = 0 then
    (if v3 = 0 then
      (if v4 = (-1) then
        wp_X6_is_2 σ18 a0 60 (fun r26 => (if r26 = 0 then
          wp_X6_is_2 σ18 a0 61 (fun r32 => (if r32 = 0 then
            wp_X6_is_2 σ18 a0 62 (fun r38 => (if r38 = 0 then
              (wp_X10_single_b262 a0 x1 Q E σ0 Rc σ18 cr v5 0)
              else
              (wp_X10_single_b257 a0 x1 Q E σ0 Rc σ18 cr v5)))
            else
            (wp_X10_single_b257 a0 x1 Q E σ0 Rc σ18 cr v5)))
          else
          (wp_X10_single_b257 a0 x1 Q E σ0 Rc σ18 cr v5)))
        else
        2 ≤ cr ∧ ∀ σ47 : St, σ47 = nw σ18 14 → (if v4 = 2 then
          wp_X6_known σ47 a0 (σ47 (σ47 (σ47 a0 11 0) 8 0) 0 0) 1 10 (σ47 (σ47 (σ47 (σ47 a0 11 0) 8 0) 0 0) 4 0) (fun r58 σ61 => Kp ws_X6_known σ47 σ61 → (wp_X10_single_b225 a0 x1 Q E σ0 Rc σ61 (cr - 2) (nx σ18) v4 r58)) (fun x σx => Kp ws_X6_known σ47 σx → E x σx (cr - 2))
          else
          wp_X6_known σ47 a0 (σ47 (σ47 (σ47 a0 11 0) 8 0) 0 0) 0 8 (σ47 (σ47 (σ47 (σ47 a0 11 0) 8 0) 0 0) 3 0) (fun r70 σ73 => Kp ws_X6_known σ47 σ73 → (wp_X10_single_b225 a0 x1 Q E σ0 Rc σ73 (cr - 2) (nx σ18) v4 r70)) (fun x σx => Kp ws_X6_known σ47 σx → E x σx (cr - 2))))
      else
      rng (x1 + 1) ∧ Rc 0 σ18 a0 (x1 + 1) cr (fun r80 σ83 cr85 => Kp ws_X10_any σ18 σ83 → wp_X6_sign σ83 a0 41 (fun σ93 => Kp ws_X6_sign σ83 σ93 → Q r80 σ93 cr85) (fun x σx => Kp ws_X6_sign σ83 σx → E x σx cr85)) (fun x σx crx => Kp ws_X10_any σ18 σx → E x σx crx))
    else
    1 ≤ cr ∧ ∀ σ102 : St, σ102 = nw σ18 13 → rng (x1 + 1) ∧ Rc 2 σ102 a0 (x1 + 1) (cr - 1) (fun r110 σ113 cr115 => Kp ws_X10_any σ102 σ113 → r110 ≠ -1 ∧ wp_X16_init σ113 (nx σ18) r110 (fun σ125 => Ki (nx σ18) σ113 σ125 → tg σ125 (nx σ18) = 13 → Q (nx σ18) σ125 cr115)) (fun x σx crx => Kp ws_X10_any σ102 σx → E x σx crx)))) (fun x σx => Kp ws_X6_must σ σx → E x σx cr)
def wp_X10_single_b84 (a0 : Int) (x1 : Int) (Q : Int → St → Int → Prop) (E : Int → St → Int → Prop) (σ0 : St) (Rc : Nat → St → Int → Int → Int → (Int → St → Int → Prop) → (Int → St → Int → Prop) → Prop) (σ : St) (cr : Int) (v2 : Int) (v3 : Int) (v4 : Int) (v5 : Int) : Prop :=
  (wp_X10_single_b85 a0 x1 Q E σ0 Rc σ cr v2 v3 v4 v5 0)
def wp_X10_single_b60 (a0 : Int) (x1 : Int) (Q : Int → St → Int → Prop) (E : Int → St → Int → Prop) (σ0 : St) (Rc : Nat → St → Int → Int → Int → (Int → St → Int → Prop) → (Int → St → Int → Prop) → Prop) (σ : St) (cr : Int) (v2 : Int) (v3 : Int) (v4 : Int) (v5 : Int) (s1 : Int) : Prop :=
  wp_X6_must σ a0 s1 1 (fun σ4 => Kp ws_X6_must σ σ4 → (if σ4 a0 10 0 < 20 then
    (if x1 ≤ 8 then
      (wp_X10_single_b85 a0 x1 Q E σ0 Rc σ4 cr v2 v3 v4 v5 1)
      else
      (wp_X10_single_b84 a0 x1 Q E σ0 Rc σ4 cr v2 v3 v4 v5))
    else
    (wp_X10_single_b84 a0 x1 Q E σ0 Rc σ4 cr v2 v3 v4 v5))) (fun x σx => Kp ws_X6_must σ σx → E x σx cr)
def wp_X10_single_b55 (a0 : Int) (x1 : Int) (Q : Int → St → Int → Prop) (E : Int → St → Int → Prop) (σ0 : St) (Rc : Nat → St → Int → Int → Int → (Int → St → Int → Prop) → (Int → St → Int → Prop) → Prop) (σ : St) (cr : Int) (v2 : Int) (v3 : Int) (v4 : Int) (v5 : Int) : Prop :=
  (wp_X10_single_b60 a0 x1 Q E σ0 Rc σ cr v2 v3 v4 v5 1)
def bd_X10_single (Rc : Nat → St → Int → Int → Int → (Int → St → Int → Prop) → (Int → St → Int → Prop) → Prop) (σ : St) (a0 : Int) (x1 : Int) (cr : Int) (Q : Int → St → Int → Prop) (E : Int → St → Int → Prop) : Prop :=
  wp_X6_is σ a0 (-37) (fun r1 => wp_X6_is_2 σ a0 40 (fun r6 => wp_X6_find σ a0 a0 8 3 (fun r11 => wp_X6_find σ a0 a0 9 4 (fun r16 => (if r1 = 0 then
    (if r6 = 0 then
      (if r11 = (-1) then
        (if r16 = (-1) then
          (wp_X10_single_b60 a0 x1 Q E σ Rc σ cr r1 r6 r11 r16 0)
          else
          (wp_X10_single_b55 a0 x1 Q E σ Rc σ cr r1 r6 r11 r16))
        else
        (wp_X10_single_b55 a0 x1 Q E σ Rc σ cr r1 r6 r11 r16))
      else
      (wp_X10_single_b55 a0 x1 Q E σ Rc σ cr r1 r6 r11 r16))
    else
    (wp_X10_single_b55 a0 x1 Q E σ Rc σ cr r1 r6 r11 r16))))))
def wg_X10_any : Nat → Nat → St → Int → Int → Int → (Int → St → Int → Prop) → (Int → St → Int → Prop) → Prop
  | 0 => fun _ _ _ _ _ _ _ => False
  | n + 1 => fun i => match i with
    | 0 => bd_X10_any (wg_X10_any n)
    | 1 => bd_X10_both (wg_X10_any n)
    | _ => bd_X10_single (wg_X10_any n)
set_option maxHeartbeats 4000000 in
theorem wk_X10_any_6 {X : Cxt} {p : Program} {l : Launch} {e : Env} {s : State} {m : MethodId} {args : Array Value} {below : List Frame} {meth : Method} {c : Code} {C0 : Nat} (a0 : Int) (x1 : Int) (Q : Int → St → Int → Prop) (E : Int → St → Int → Prop) (σ0 : St) (Rc : Nat → St → Int → Int → Int → (Int → St → Int → Prop) → (Int → St → Int → Prop) → Prop) (K : MCx X p s m args meth c cX10_any 3 "CombTable$SentenceReader" (some (.object "CombTable$Cond"))) (hex : c.exceptionTable.isEmpty = true) (hx1 : rng x1) (nr : Nat) (hRc0 : ∀ (σ : St) (a0 : Int) (x1 : Int) (ht0 : tg σ a0 = 9) (hx1 : rng x1) (cr : Int) (hcr0 : 0 ≤ cr) (Q : Int → St → Int → Prop) (E : Int → St → Int → Prop), Rc 0 σ a0 x1 cr Q E → MetA X l yX10_any (ws_ yX10_any cX10_any 3 (some (.object "CombTable$Cond"))) (8 + nr) cr.toNat (ZP X σ [jR X a0, jI x1]) (qRA X 100 (fun r σ' cr => Kp ws_X10_any σ σ' ∧ Q r σ' cr)) (fun x σ' cr => tg σ' x = 2 ∧ Kp ws_X10_any σ σ' ∧ E x σ' cr)) (hRc1 : ∀ (σ : St) (a0 : Int) (x1 : Int) (ht0 : tg σ a0 = 9) (hx1 : rng x1) (cr : Int) (hcr0 : 0 ≤ cr) (Q : Int → St → Int → Prop) (E : Int → St → Int → Prop), Rc 1 σ a0 x1 cr Q E → MetA X l yX10_both (ws_ yX10_both cX10_both 3 (some (.object "CombTable$Cond"))) (8 + nr) cr.toNat (ZP X σ [jR X a0, jI x1]) (qRA X 100 (fun r σ' cr => Kp ws_X10_any σ σ' ∧ Q r σ' cr)) (fun x σ' cr => tg σ' x = 2 ∧ Kp ws_X10_any σ σ' ∧ E x σ' cr)) (hRc2 : ∀ (σ : St) (a0 : Int) (x1 : Int) (ht0 : tg σ a0 = 9) (hx1 : rng x1) (cr : Int) (hcr0 : 0 ≤ cr) (Q : Int → St → Int → Prop) (E : Int → St → Int → Prop), Rc 2 σ a0 x1 cr Q E → MetA X l yX10_single (ws_ yX10_single cX10_single 8 (some (.object "CombTable$Cond"))) (8 + nr) cr.toNat (ZP X σ [jR X a0, jI x1]) (qRA X 100 (fun r σ' cr => Kp ws_X10_any σ σ' ∧ Q r σ' cr)) (fun x σ' cr => tg σ' x = 2 ∧ Kp ws_X10_any σ σ' ∧ E x σ' cr)) : ∀ (n : Nat), ∀ (σ : St) (cr : Int) (v2 : Int) (cells slots : Nat) (H : Heap) (locs : List Loc) (ls : Array Slot), lp_X10_any_6 a0 x1 Q E σ0 Rc n σ cr v2 → Wc X σ s.heap H locs → Kp ws_X10_any σ0 σ → Cr C0 cells slots cr → tg σ a0 = 9 → (v2 = -1 ∨ okR σ 100 v2) → lv_has ls 3 [(0, jR X a0), (1, jI x1), (2, jR X v2)] → W p l e (zrm (8 + nr + 1) C0 C0) s m args below meth c H locs cells slots (MQA X below C0 (qRA X 100 (fun r σ' cr => Kp ws_X10_any σ0 σ' ∧ Q r σ' cr)) (fun x σ' cr => tg σ' x = 2 ∧ Kp ws_X10_any σ0 σ' ∧ E x σ' cr) args s) (F0 m 6 ls []) := by
  intro n
  induction n with
  | zero => intro σ cr v2 cells slots H locs ls h; exact h.elim
  | succ n ih =>
    intro σ cr v2 cells slots H locs ls h hw hk hcr ht0 hov2 hl
    have h := h hk
    refine z_aload_n (pc := 6) K dX10_any_6 rfl (lv_at hl 0 rfl) ?_
    refine z_ldcS (pc := 7) (i := 37) K (-39) (by decide) (tx := "or") rfl dX10_any_7 ?_
    refine zr_z (pc := 9) (maxL := 3) K hw (met_X6_is_9 X l σ a0 (-39) ht0 ⟨by decide, by decide⟩ _ h) (i_VU (n := 1) (t := 9) (As := [jR X (-39)]) (owner := "CombTable$Reader") K hw (ob ht0) zq9 (by decide) (by decide) q1233 q1234 q699 q1235 (dcl_of K q699 q705) rfl rfl dX10_any_9) (locw K q705 q97) (zr_ok2A (by omega) (by omega)) hl.1 dX10_any_9 (Nat.le_of_ble_eq_true rfl) (cr_le hcr) (fun r1 _ _ hr2 h hw5 => ?_)
    refine z_if_eq (pc := 12) (tgt := 36) K (b01r hr2) dX10_any_12 (by decide) (fun hc6 => ?_) (fun hc6 => ?_)
    · have h := ite_t h hc6
      refine z_aload_n (pc := 36) K dX10_any_36 rfl (lv_at hl 2 rfl) ?_
      exact za_aret (pc := 37) K hw5 hcr hov2 ⟨hk, h⟩ dX10_any_37
    · have h := ite_f h hc6
      refine z_aload_n (pc := 15) K dX10_any_15 rfl (lv_at hl 0 rfl) ?_
      refine zc_v (pc := 16) (maxL := 2) K hw5 (met_X6_next_9 X l σ a0 ht0 _ h) (i_VU (n := 0) (t := 9) (As := []) (owner := "CombTable$Reader") K hw5 (ob ht0) zq9 (by decide) (by decide) q1246 q1247 q666 q1248 (dcl_of K q666 q672) rfl rfl dX10_any_16) (locw K q672 q97) (zr_ok2A (by omega) (by omega)) hl.1 dX10_any_16 (Nat.le_of_ble_eq_true rfl) (cr_le hcr) (fun σ10 _ _ hq9 hw11 => ?_)
      obtain ⟨hk12, h⟩ := hq9
      have h := h hk12
      have hk13 := kp_trans wo_X10_any hk hk12 (fun _ q => q) (by decide)
      have hg14 : tg σ10 a0 = 9 := kp_tg hk12 wo_X6_next ht0 (by decide)
      have ho15 : v2 = -1 ∨ okR σ10 100 v2 := ((hov2).imp_right (fun q => kp_okR hk12 wo_X6_next q))
      obtain ⟨hle16, h⟩ := h
      refine z_new (pc := 19) (t := 17) K hw11 (by decide) zq17 q1312 q1313 q120 (cr_fit hcr (u := 2) ⟨by decide, by decide⟩ hle16) dX10_any_19 (fun _ hw17 => ?_)
      have hcr18 := cr_new hcr (n := 2) (u := 2) ⟨by decide, by decide⟩ hle16
      obtain ⟨σ19, e20⟩ : ∃ z, z = nw σ10 17 := ⟨_, rfl⟩
      have h := h σ19 e20
      have hke21 : Ke σ10 σ19 := ke_nw hw11 e20
      have hz22 : tg σ0 (nx σ10) = 0 := z0_kp hk13 wo_X10_any hw11.1.fresh
      have hw17 := wc_e e20 hw17
      have hk23 := kp_ke hk13 wo_X10_any hke21
      have hg24 : tg σ19 a0 = 9 := ke_tg hke21 hg14 (by decide)
      have ho25 : v2 = -1 ∨ okR σ19 100 v2 := ((ho15).imp_right (fun q => ke_okR hke21 q (by decide)))
      have hg26 : tg σ19 (nx σ10) = (-17) := tg_nw e20
      refine lv_dup (pc := 22) K.x K.b dX10_any_22 (jR_cat _ _) ?_
      refine z_aload_n (pc := 23) K dX10_any_23 rfl (lv_at hl 2 rfl) ?_
      refine z_aload_n (pc := 24) K dX10_any_24 rfl (lv_at hl 0 rfl) ?_
      refine lv_iload_n (pc := 25) K.x K.b dX10_any_25 rfl (lv_at hl 1 rfl) ?_
      refine zat_r (pc := 26) (maxL := 3) K hw17 (hRc1 σ19 a0 x1 hg24 hx1 (cr - 2) hcr18.2.2 _ _ h) (i_V (n := 1) (t := 9) (As := [jI x1]) K hw17 (ob hg24) zq9 (by decide) q1224 q1226 qs24 (sg_of K q1227) rfl rfl dX10_any_26) (locw K q1227 q101) (zr_ok2A (by omega) (by omega)) hl.1 dX10_any_26 (by simp [jR_cat, jI_cat, jL_cat]) hcr18 (Int.toNat_of_nonneg hcr18.2.2) ⟨Nat.le_refl _, Nat.le_refl _⟩ (fun r27 σ30 _ _ _ _ cr32 hr28 hq29 hw31 hcr33 => ?_) (fun x σx _ _ _ _ crx hx0 hqx hwx hcx => ?_)
      rotate_left
      · obtain ⟨htx, hkx, h⟩ := hqx
        have h := h hkx
        exact za_out K hwx hcx hx0 ⟨htx, kp_trans wo_X10_any hk23 hkx (fun _ q => q) (by decide), h⟩ (no_cov hex 26)
      obtain ⟨hk34, h⟩ := hq29
      have h := h hk34
      have hk35 := kp_trans wo_X10_any hk23 hk34 (fun _ q => q) (by decide)
      have hg36 : tg σ30 a0 = 9 := kp_tg hk34 wo_X10_any hg24 (by decide)
      have ho37 : v2 = -1 ∨ okR σ30 100 v2 := ((ho25).imp_right (fun q => kp_okR hk34 wo_X10_any q))
      have hg38 : tg σ30 (nx σ10) = -17 := kp_tg hk34 wo_X10_any hg26 (by decide)
      obtain ⟨hn39, h⟩ := h
      obtain ⟨hn40, h⟩ := h
      refine zc_v (pc := 29) (maxL := 3) K hw31 (met_X20_init X l σ30 (nx σ10) v2 r27 hg38 ((ho37).resolve_left hn39) ((hr28).resolve_left hn40) _ h) (i_I (n := 2) (As := [jR X v2, jR X r27]) K (hw31.1.pos (by rw [hg38]; decide)).1 (by decide) rfl q1314 q1315 q1316 rfl rfl dX10_any_29) (locw K q1316 q120) (zr_ok2A (by omega) (by omega)) hl.1 dX10_any_29 (Nat.le_of_ble_eq_true rfl) (cr_le hcr33) (fun σ44 _ _ hq43 hw45 => ?_)
      obtain ⟨hk46, hg47, h⟩ := hq43
      have h := h hk46 hg47
      have hk48 := kp_ki hk35 wo_X10_any hk46 hz22
      have hg49 : tg σ44 a0 = 9 := ki_tg hk46 hg36 (by decide) hg38 (by decide)
      have ho50 : v2 = -1 ∨ okR σ44 100 v2 := ((ho37).imp_right (fun q => ki_okR hk46 q (by decide) hg38 (by decide)))
      have hg51 : tg σ44 (nx σ10) = 17 := hg47
      refine z_astore_n (pc := 32) (lv' := [(2, jR X (nx σ10)), (0, jR X a0), (1, jI x1)]) K dX10_any_32 rfl hl (by decide) rfl (fun ls hl => ?_)
      refine z_goto (pc := 33) (tgt := 6) K dX10_any_33 (by decide) ?_
      exact ih σ44 cr32 (nx σ10) _ _ _ _ _ h hw45 hk48 hcr33 hg49 (Or.inr (ok100 hg51 (by decide))) (lv_sub hl [1, 2, 0] rfl)
set_option maxHeartbeats 4000000 in
theorem mb_X10_any (X : Cxt) (l : Launch) (nr : Nat) (Rc : Nat → St → Int → Int → Int → (Int → St → Int → Prop) → (Int → St → Int → Prop) → Prop) (hRc0 : ∀ (σ : St) (a0 : Int) (x1 : Int) (ht0 : tg σ a0 = 9) (hx1 : rng x1) (cr : Int) (hcr0 : 0 ≤ cr) (Q : Int → St → Int → Prop) (E : Int → St → Int → Prop), Rc 0 σ a0 x1 cr Q E → MetA X l yX10_any (ws_ yX10_any cX10_any 3 (some (.object "CombTable$Cond"))) (8 + nr) cr.toNat (ZP X σ [jR X a0, jI x1]) (qRA X 100 (fun r σ' cr => Kp ws_X10_any σ σ' ∧ Q r σ' cr)) (fun x σ' cr => tg σ' x = 2 ∧ Kp ws_X10_any σ σ' ∧ E x σ' cr)) (hRc1 : ∀ (σ : St) (a0 : Int) (x1 : Int) (ht0 : tg σ a0 = 9) (hx1 : rng x1) (cr : Int) (hcr0 : 0 ≤ cr) (Q : Int → St → Int → Prop) (E : Int → St → Int → Prop), Rc 1 σ a0 x1 cr Q E → MetA X l yX10_both (ws_ yX10_both cX10_both 3 (some (.object "CombTable$Cond"))) (8 + nr) cr.toNat (ZP X σ [jR X a0, jI x1]) (qRA X 100 (fun r σ' cr => Kp ws_X10_any σ σ' ∧ Q r σ' cr)) (fun x σ' cr => tg σ' x = 2 ∧ Kp ws_X10_any σ σ' ∧ E x σ' cr)) (hRc2 : ∀ (σ : St) (a0 : Int) (x1 : Int) (ht0 : tg σ a0 = 9) (hx1 : rng x1) (cr : Int) (hcr0 : 0 ≤ cr) (Q : Int → St → Int → Prop) (E : Int → St → Int → Prop), Rc 2 σ a0 x1 cr Q E → MetA X l yX10_single (ws_ yX10_single cX10_single 8 (some (.object "CombTable$Cond"))) (8 + nr) cr.toNat (ZP X σ [jR X a0, jI x1]) (qRA X 100 (fun r σ' cr => Kp ws_X10_any σ σ' ∧ Q r σ' cr)) (fun x σ' cr => tg σ' x = 2 ∧ Kp ws_X10_any σ σ' ∧ E x σ' cr)) (σ : St) (a0 : Int) (x1 : Int) (ht0 : tg σ a0 = 9) (hx1 : rng x1) (cr : Int) (hcr0 : 0 ≤ cr) (Q : Int → St → Int → Prop) (E : Int → St → Int → Prop) (h : bd_X10_any Rc σ a0 x1 cr Q E) : MetA X l yX10_any (ws_ yX10_any cX10_any 3 (some (.object "CombTable$Cond"))) (8 + nr + 1) cr.toNat (ZP X σ [jR X a0, jI x1]) (qRA X 100 (fun r σ' cr => Kp ws_X10_any σ σ' ∧ Q r σ' cr)) (fun x σ' cr => tg σ' x = 2 ∧ Kp ws_X10_any σ σ' ∧ E x σ' cr) := by
  have hcr : Cr cr.toNat 0 0 cr := by unfold Cr; omega
  refine z_startA (own := "CombTable$SentenceReader") (lv := [(0, jR X a0), (1, jI x1)]) (by decide) rfl (by simp [lv_args, jR_cat, jI_cat, jL_cat]) (by simp [lg_sl, jR_cat, jI_cat, jL_cat]) (fun p e s m below meth c ls _ K hex _ hw hl => ?_)
  have hk : Kp ws_X10_any σ σ := kp_rf σ
  refine z_aload_n (pc := 0) K dX10_any_0 rfl (lv_at hl 0 rfl) ?_
  refine lv_iload_n (pc := 1) K.x K.b dX10_any_1 rfl (lv_at hl 1 rfl) ?_
  refine zat_r (pc := 2) (maxL := 3) K hw (hRc1 σ a0 x1 ht0 hx1 cr hcr.2.2 _ _ h) (i_V (n := 1) (t := 9) (As := [jI x1]) K hw (ob ht0) zq9 (by decide) q1224 q1226 qs24 (sg_of K q1227) rfl rfl dX10_any_2) (locw K q1227 q101) (zr_ok2A (by omega) (by omega)) hl.1 dX10_any_2 (by decide) hcr (Int.toNat_of_nonneg hcr.2.2) ⟨Nat.le_refl _, Nat.le_refl _⟩ (fun r1 σ4 _ _ _ _ cr6 hr2 hq3 hw5 hcr7 => ?_) (fun x σx _ _ _ _ crx hx0 hqx hwx hcx => ?_)
  rotate_left
  · obtain ⟨htx, hkx, h⟩ := hqx
    have h := h hkx
    exact za_out K hwx hcx hx0 ⟨htx, kp_trans wo_X10_any hk hkx (fun _ q => q) (by decide), h⟩ (no_cov hex 2)
  obtain ⟨hk8, h⟩ := hq3
  have h := h hk8
  have hk9 := kp_trans wo_X10_any hk hk8 (fun _ q => q) (by decide)
  have hg10 : tg σ4 a0 = 9 := kp_tg hk8 wo_X10_any ht0 (by decide)
  refine z_astore_n (pc := 5) (lv' := [(2, jR X r1), (0, jR X a0), (1, jI x1)]) K dX10_any_5 rfl hl (by decide) rfl (fun ls hl => ?_)
  obtain ⟨nf11, h⟩ := h
  exact wk_X10_any_6 a0 x1 Q E σ Rc K hex hx1 nr hRc0 hRc1 hRc2 nf11 σ4 cr6 r1 _ _ _ _ _ h hw5 hk9 hcr7 hg10 hr2 (lv_sub hl [1, 2, 0] rfl)
set_option maxHeartbeats 4000000 in
theorem wk_X10_both_6 {X : Cxt} {p : Program} {l : Launch} {e : Env} {s : State} {m : MethodId} {args : Array Value} {below : List Frame} {meth : Method} {c : Code} {C0 : Nat} (a0 : Int) (x1 : Int) (Q : Int → St → Int → Prop) (E : Int → St → Int → Prop) (σ0 : St) (Rc : Nat → St → Int → Int → Int → (Int → St → Int → Prop) → (Int → St → Int → Prop) → Prop) (K : MCx X p s m args meth c cX10_both 3 "CombTable$SentenceReader" (some (.object "CombTable$Cond"))) (hex : c.exceptionTable.isEmpty = true) (hx1 : rng x1) (nr : Nat) (hRc0 : ∀ (σ : St) (a0 : Int) (x1 : Int) (ht0 : tg σ a0 = 9) (hx1 : rng x1) (cr : Int) (hcr0 : 0 ≤ cr) (Q : Int → St → Int → Prop) (E : Int → St → Int → Prop), Rc 0 σ a0 x1 cr Q E → MetA X l yX10_any (ws_ yX10_any cX10_any 3 (some (.object "CombTable$Cond"))) (8 + nr) cr.toNat (ZP X σ [jR X a0, jI x1]) (qRA X 100 (fun r σ' cr => Kp ws_X10_any σ σ' ∧ Q r σ' cr)) (fun x σ' cr => tg σ' x = 2 ∧ Kp ws_X10_any σ σ' ∧ E x σ' cr)) (hRc1 : ∀ (σ : St) (a0 : Int) (x1 : Int) (ht0 : tg σ a0 = 9) (hx1 : rng x1) (cr : Int) (hcr0 : 0 ≤ cr) (Q : Int → St → Int → Prop) (E : Int → St → Int → Prop), Rc 1 σ a0 x1 cr Q E → MetA X l yX10_both (ws_ yX10_both cX10_both 3 (some (.object "CombTable$Cond"))) (8 + nr) cr.toNat (ZP X σ [jR X a0, jI x1]) (qRA X 100 (fun r σ' cr => Kp ws_X10_any σ σ' ∧ Q r σ' cr)) (fun x σ' cr => tg σ' x = 2 ∧ Kp ws_X10_any σ σ' ∧ E x σ' cr)) (hRc2 : ∀ (σ : St) (a0 : Int) (x1 : Int) (ht0 : tg σ a0 = 9) (hx1 : rng x1) (cr : Int) (hcr0 : 0 ≤ cr) (Q : Int → St → Int → Prop) (E : Int → St → Int → Prop), Rc 2 σ a0 x1 cr Q E → MetA X l yX10_single (ws_ yX10_single cX10_single 8 (some (.object "CombTable$Cond"))) (8 + nr) cr.toNat (ZP X σ [jR X a0, jI x1]) (qRA X 100 (fun r σ' cr => Kp ws_X10_any σ σ' ∧ Q r σ' cr)) (fun x σ' cr => tg σ' x = 2 ∧ Kp ws_X10_any σ σ' ∧ E x σ' cr)) : ∀ (n : Nat), ∀ (σ : St) (cr : Int) (v2 : Int) (cells slots : Nat) (H : Heap) (locs : List Loc) (ls : Array Slot), lp_X10_both_6 a0 x1 Q E σ0 Rc n σ cr v2 → Wc X σ s.heap H locs → Kp ws_X10_any σ0 σ → Cr C0 cells slots cr → tg σ a0 = 9 → (v2 = -1 ∨ okR σ 100 v2) → lv_has ls 3 [(0, jR X a0), (1, jI x1), (2, jR X v2)] → W p l e (zrm (8 + nr + 1) C0 C0) s m args below meth c H locs cells slots (MQA X below C0 (qRA X 100 (fun r σ' cr => Kp ws_X10_any σ0 σ' ∧ Q r σ' cr)) (fun x σ' cr => tg σ' x = 2 ∧ Kp ws_X10_any σ0 σ' ∧ E x σ' cr) args s) (F0 m 6 ls []) := by
  intro n
  induction n with
  | zero => intro σ cr v2 cells slots H locs ls h; exact h.elim
  | succ n ih =>
    intro σ cr v2 cells slots H locs ls h hw hk hcr ht0 hov2 hl
    have h := h hk
    refine z_aload_n (pc := 6) K dX10_both_6 rfl (lv_at hl 0 rfl) ?_
    refine z_ldcS (pc := 7) (i := 36) K (-38) (by decide) (tx := "and") rfl dX10_both_7 ?_
    refine zr_z (pc := 9) (maxL := 3) K hw (met_X6_is_9 X l σ a0 (-38) ht0 ⟨by decide, by decide⟩ _ h) (i_VU (n := 1) (t := 9) (As := [jR X (-38)]) (owner := "CombTable$Reader") K hw (ob ht0) zq9 (by decide) (by decide) q1233 q1234 q699 q1235 (dcl_of K q699 q705) rfl rfl dX10_both_9) (locw K q705 q97) (zr_ok2A (by omega) (by omega)) hl.1 dX10_both_9 (Nat.le_of_ble_eq_true rfl) (cr_le hcr) (fun r1 _ _ hr2 h hw5 => ?_)
    refine z_if_eq (pc := 12) (tgt := 36) K (b01r hr2) dX10_both_12 (by decide) (fun hc6 => ?_) (fun hc6 => ?_)
    · have h := ite_t h hc6
      refine z_aload_n (pc := 36) K dX10_both_36 rfl (lv_at hl 2 rfl) ?_
      exact za_aret (pc := 37) K hw5 hcr hov2 ⟨hk, h⟩ dX10_both_37
    · have h := ite_f h hc6
      refine z_aload_n (pc := 15) K dX10_both_15 rfl (lv_at hl 0 rfl) ?_
      refine zc_v (pc := 16) (maxL := 2) K hw5 (met_X6_next_9 X l σ a0 ht0 _ h) (i_VU (n := 0) (t := 9) (As := []) (owner := "CombTable$Reader") K hw5 (ob ht0) zq9 (by decide) (by decide) q1246 q1247 q666 q1248 (dcl_of K q666 q672) rfl rfl dX10_both_16) (locw K q672 q97) (zr_ok2A (by omega) (by omega)) hl.1 dX10_both_16 (Nat.le_of_ble_eq_true rfl) (cr_le hcr) (fun σ10 _ _ hq9 hw11 => ?_)
      obtain ⟨hk12, h⟩ := hq9
      have h := h hk12
      have hk13 := kp_trans wo_X10_any hk hk12 (fun _ q => q) (by decide)
      have hg14 : tg σ10 a0 = 9 := kp_tg hk12 wo_X6_next ht0 (by decide)
      have ho15 : v2 = -1 ∨ okR σ10 100 v2 := ((hov2).imp_right (fun q => kp_okR hk12 wo_X6_next q))
      obtain ⟨hle16, h⟩ := h
      refine z_new (pc := 19) (t := 16) K hw11 (by decide) zq16 q1298 q1299 q119 (cr_fit hcr (u := 2) ⟨by decide, by decide⟩ hle16) dX10_both_19 (fun _ hw17 => ?_)
      have hcr18 := cr_new hcr (n := 2) (u := 2) ⟨by decide, by decide⟩ hle16
      obtain ⟨σ19, e20⟩ : ∃ z, z = nw σ10 16 := ⟨_, rfl⟩
      have h := h σ19 e20
      have hke21 : Ke σ10 σ19 := ke_nw hw11 e20
      have hz22 : tg σ0 (nx σ10) = 0 := z0_kp hk13 wo_X10_any hw11.1.fresh
      have hw17 := wc_e e20 hw17
      have hk23 := kp_ke hk13 wo_X10_any hke21
      have hg24 : tg σ19 a0 = 9 := ke_tg hke21 hg14 (by decide)
      have ho25 : v2 = -1 ∨ okR σ19 100 v2 := ((ho15).imp_right (fun q => ke_okR hke21 q (by decide)))
      have hg26 : tg σ19 (nx σ10) = (-16) := tg_nw e20
      refine lv_dup (pc := 22) K.x K.b dX10_both_22 (jR_cat _ _) ?_
      refine z_aload_n (pc := 23) K dX10_both_23 rfl (lv_at hl 2 rfl) ?_
      refine z_aload_n (pc := 24) K dX10_both_24 rfl (lv_at hl 0 rfl) ?_
      refine lv_iload_n (pc := 25) K.x K.b dX10_both_25 rfl (lv_at hl 1 rfl) ?_
      refine zat_r (pc := 26) (maxL := 8) K hw17 (hRc2 σ19 a0 x1 hg24 hx1 (cr - 2) hcr18.2.2 _ _ h) (i_V (n := 1) (t := 9) (As := [jI x1]) K hw17 (ob hg24) zq9 (by decide) q1228 q1230 qs25 (sg_of K q1231) rfl rfl dX10_both_26) (locw K q1231 q101) (zr_ok2A (by omega) (by omega)) hl.1 dX10_both_26 (by simp [jR_cat, jI_cat, jL_cat]) hcr18 (Int.toNat_of_nonneg hcr18.2.2) ⟨Nat.le_refl _, Nat.le_refl _⟩ (fun r27 σ30 _ _ _ _ cr32 hr28 hq29 hw31 hcr33 => ?_) (fun x σx _ _ _ _ crx hx0 hqx hwx hcx => ?_)
      rotate_left
      · obtain ⟨htx, hkx, h⟩ := hqx
        have h := h hkx
        exact za_out K hwx hcx hx0 ⟨htx, kp_trans wo_X10_any hk23 hkx (fun _ q => q) (by decide), h⟩ (no_cov hex 26)
      obtain ⟨hk34, h⟩ := hq29
      have h := h hk34
      have hk35 := kp_trans wo_X10_any hk23 hk34 (fun _ q => q) (by decide)
      have hg36 : tg σ30 a0 = 9 := kp_tg hk34 wo_X10_any hg24 (by decide)
      have ho37 : v2 = -1 ∨ okR σ30 100 v2 := ((ho25).imp_right (fun q => kp_okR hk34 wo_X10_any q))
      have hg38 : tg σ30 (nx σ10) = -16 := kp_tg hk34 wo_X10_any hg26 (by decide)
      obtain ⟨hn39, h⟩ := h
      obtain ⟨hn40, h⟩ := h
      refine zc_v (pc := 29) (maxL := 3) K hw31 (met_X19_init X l σ30 (nx σ10) v2 r27 hg38 ((ho37).resolve_left hn39) ((hr28).resolve_left hn40) _ h) (i_I (n := 2) (As := [jR X v2, jR X r27]) K (hw31.1.pos (by rw [hg38]; decide)).1 (by decide) rfl q1300 q1301 q1302 rfl rfl dX10_both_29) (locw K q1302 q119) (zr_ok2A (by omega) (by omega)) hl.1 dX10_both_29 (Nat.le_of_ble_eq_true rfl) (cr_le hcr33) (fun σ44 _ _ hq43 hw45 => ?_)
      obtain ⟨hk46, hg47, h⟩ := hq43
      have h := h hk46 hg47
      have hk48 := kp_ki hk35 wo_X10_any hk46 hz22
      have hg49 : tg σ44 a0 = 9 := ki_tg hk46 hg36 (by decide) hg38 (by decide)
      have ho50 : v2 = -1 ∨ okR σ44 100 v2 := ((ho37).imp_right (fun q => ki_okR hk46 q (by decide) hg38 (by decide)))
      have hg51 : tg σ44 (nx σ10) = 16 := hg47
      refine z_astore_n (pc := 32) (lv' := [(2, jR X (nx σ10)), (0, jR X a0), (1, jI x1)]) K dX10_both_32 rfl hl (by decide) rfl (fun ls hl => ?_)
      refine z_goto (pc := 33) (tgt := 6) K dX10_both_33 (by decide) ?_
      exact ih σ44 cr32 (nx σ10) _ _ _ _ _ h hw45 hk48 hcr33 hg49 (Or.inr (ok100 hg51 (by decide))) (lv_sub hl [1, 2, 0] rfl)
set_option maxHeartbeats 4000000 in
theorem mb_X10_both (X : Cxt) (l : Launch) (nr : Nat) (Rc : Nat → St → Int → Int → Int → (Int → St → Int → Prop) → (Int → St → Int → Prop) → Prop) (hRc0 : ∀ (σ : St) (a0 : Int) (x1 : Int) (ht0 : tg σ a0 = 9) (hx1 : rng x1) (cr : Int) (hcr0 : 0 ≤ cr) (Q : Int → St → Int → Prop) (E : Int → St → Int → Prop), Rc 0 σ a0 x1 cr Q E → MetA X l yX10_any (ws_ yX10_any cX10_any 3 (some (.object "CombTable$Cond"))) (8 + nr) cr.toNat (ZP X σ [jR X a0, jI x1]) (qRA X 100 (fun r σ' cr => Kp ws_X10_any σ σ' ∧ Q r σ' cr)) (fun x σ' cr => tg σ' x = 2 ∧ Kp ws_X10_any σ σ' ∧ E x σ' cr)) (hRc1 : ∀ (σ : St) (a0 : Int) (x1 : Int) (ht0 : tg σ a0 = 9) (hx1 : rng x1) (cr : Int) (hcr0 : 0 ≤ cr) (Q : Int → St → Int → Prop) (E : Int → St → Int → Prop), Rc 1 σ a0 x1 cr Q E → MetA X l yX10_both (ws_ yX10_both cX10_both 3 (some (.object "CombTable$Cond"))) (8 + nr) cr.toNat (ZP X σ [jR X a0, jI x1]) (qRA X 100 (fun r σ' cr => Kp ws_X10_any σ σ' ∧ Q r σ' cr)) (fun x σ' cr => tg σ' x = 2 ∧ Kp ws_X10_any σ σ' ∧ E x σ' cr)) (hRc2 : ∀ (σ : St) (a0 : Int) (x1 : Int) (ht0 : tg σ a0 = 9) (hx1 : rng x1) (cr : Int) (hcr0 : 0 ≤ cr) (Q : Int → St → Int → Prop) (E : Int → St → Int → Prop), Rc 2 σ a0 x1 cr Q E → MetA X l yX10_single (ws_ yX10_single cX10_single 8 (some (.object "CombTable$Cond"))) (8 + nr) cr.toNat (ZP X σ [jR X a0, jI x1]) (qRA X 100 (fun r σ' cr => Kp ws_X10_any σ σ' ∧ Q r σ' cr)) (fun x σ' cr => tg σ' x = 2 ∧ Kp ws_X10_any σ σ' ∧ E x σ' cr)) (σ : St) (a0 : Int) (x1 : Int) (ht0 : tg σ a0 = 9) (hx1 : rng x1) (cr : Int) (hcr0 : 0 ≤ cr) (Q : Int → St → Int → Prop) (E : Int → St → Int → Prop) (h : bd_X10_both Rc σ a0 x1 cr Q E) : MetA X l yX10_both (ws_ yX10_both cX10_both 3 (some (.object "CombTable$Cond"))) (8 + nr + 1) cr.toNat (ZP X σ [jR X a0, jI x1]) (qRA X 100 (fun r σ' cr => Kp ws_X10_any σ σ' ∧ Q r σ' cr)) (fun x σ' cr => tg σ' x = 2 ∧ Kp ws_X10_any σ σ' ∧ E x σ' cr) := by
  have hcr : Cr cr.toNat 0 0 cr := by unfold Cr; omega
  refine z_startA (own := "CombTable$SentenceReader") (lv := [(0, jR X a0), (1, jI x1)]) (by decide) rfl (by simp [lv_args, jR_cat, jI_cat, jL_cat]) (by simp [lg_sl, jR_cat, jI_cat, jL_cat]) (fun p e s m below meth c ls _ K hex _ hw hl => ?_)
  have hk : Kp ws_X10_any σ σ := kp_rf σ
  refine z_aload_n (pc := 0) K dX10_both_0 rfl (lv_at hl 0 rfl) ?_
  refine lv_iload_n (pc := 1) K.x K.b dX10_both_1 rfl (lv_at hl 1 rfl) ?_
  refine zat_r (pc := 2) (maxL := 8) K hw (hRc2 σ a0 x1 ht0 hx1 cr hcr.2.2 _ _ h) (i_V (n := 1) (t := 9) (As := [jI x1]) K hw (ob ht0) zq9 (by decide) q1228 q1230 qs25 (sg_of K q1231) rfl rfl dX10_both_2) (locw K q1231 q101) (zr_ok2A (by omega) (by omega)) hl.1 dX10_both_2 (by decide) hcr (Int.toNat_of_nonneg hcr.2.2) ⟨Nat.le_refl _, Nat.le_refl _⟩ (fun r1 σ4 _ _ _ _ cr6 hr2 hq3 hw5 hcr7 => ?_) (fun x σx _ _ _ _ crx hx0 hqx hwx hcx => ?_)
  rotate_left
  · obtain ⟨htx, hkx, h⟩ := hqx
    have h := h hkx
    exact za_out K hwx hcx hx0 ⟨htx, kp_trans wo_X10_any hk hkx (fun _ q => q) (by decide), h⟩ (no_cov hex 2)
  obtain ⟨hk8, h⟩ := hq3
  have h := h hk8
  have hk9 := kp_trans wo_X10_any hk hk8 (fun _ q => q) (by decide)
  have hg10 : tg σ4 a0 = 9 := kp_tg hk8 wo_X10_any ht0 (by decide)
  refine z_astore_n (pc := 5) (lv' := [(2, jR X r1), (0, jR X a0), (1, jI x1)]) K dX10_both_5 rfl hl (by decide) rfl (fun ls hl => ?_)
  obtain ⟨nf11, h⟩ := h
  exact wk_X10_both_6 a0 x1 Q E σ Rc K hex hx1 nr hRc0 hRc1 hRc2 nf11 σ4 cr6 r1 _ _ _ _ _ h hw5 hk9 hcr7 hg10 hr2 (lv_sub hl [1, 2, 0] rfl)
set_option maxHeartbeats 4000000 in
theorem wk_X10_single_b290 {X : Cxt} {p : Program} {l : Launch} {e : Env} {s : State} {m : MethodId} {args : Array Value} {below : List Frame} {meth : Method} {c : Code} {C0 : Nat} (a0 : Int) (x1 : Int) (Q : Int → St → Int → Prop) (E : Int → St → Int → Prop) (σ0 : St) (Rc : Nat → St → Int → Int → Int → (Int → St → Int → Prop) → (Int → St → Int → Prop) → Prop) (K : MCx X p s m args meth c cX10_single 8 "CombTable$SentenceReader" (some (.object "CombTable$Cond"))) (hex : c.exceptionTable.isEmpty = true) (hx1 : rng x1) (nr : Nat) (hRc0 : ∀ (σ : St) (a0 : Int) (x1 : Int) (ht0 : tg σ a0 = 9) (hx1 : rng x1) (cr : Int) (hcr0 : 0 ≤ cr) (Q : Int → St → Int → Prop) (E : Int → St → Int → Prop), Rc 0 σ a0 x1 cr Q E → MetA X l yX10_any (ws_ yX10_any cX10_any 3 (some (.object "CombTable$Cond"))) (8 + nr) cr.toNat (ZP X σ [jR X a0, jI x1]) (qRA X 100 (fun r σ' cr => Kp ws_X10_any σ σ' ∧ Q r σ' cr)) (fun x σ' cr => tg σ' x = 2 ∧ Kp ws_X10_any σ σ' ∧ E x σ' cr)) (hRc1 : ∀ (σ : St) (a0 : Int) (x1 : Int) (ht0 : tg σ a0 = 9) (hx1 : rng x1) (cr : Int) (hcr0 : 0 ≤ cr) (Q : Int → St → Int → Prop) (E : Int → St → Int → Prop), Rc 1 σ a0 x1 cr Q E → MetA X l yX10_both (ws_ yX10_both cX10_both 3 (some (.object "CombTable$Cond"))) (8 + nr) cr.toNat (ZP X σ [jR X a0, jI x1]) (qRA X 100 (fun r σ' cr => Kp ws_X10_any σ σ' ∧ Q r σ' cr)) (fun x σ' cr => tg σ' x = 2 ∧ Kp ws_X10_any σ σ' ∧ E x σ' cr)) (hRc2 : ∀ (σ : St) (a0 : Int) (x1 : Int) (ht0 : tg σ a0 = 9) (hx1 : rng x1) (cr : Int) (hcr0 : 0 ≤ cr) (Q : Int → St → Int → Prop) (E : Int → St → Int → Prop), Rc 2 σ a0 x1 cr Q E → MetA X l yX10_single (ws_ yX10_single cX10_single 8 (some (.object "CombTable$Cond"))) (8 + nr) cr.toNat (ZP X σ [jR X a0, jI x1]) (qRA X 100 (fun r σ' cr => Kp ws_X10_any σ σ' ∧ Q r σ' cr)) (fun x σ' cr => tg σ' x = 2 ∧ Kp ws_X10_any σ σ' ∧ E x σ' cr)) : ∀ (σ : St) (cr : Int) (v5 : Int) (v6 : Int) (s1 : Int) (cells slots : Nat) (H : Heap) (locs : List Loc) (ls : Array Slot), wp_X10_single_b290 a0 x1 Q E σ0 Rc σ cr v5 v6 s1 → Wc X σ s.heap H locs → Kp ws_X10_any σ0 σ → Cr C0 cells slots cr → tg σ a0 = 9 → rng v5 → rng v6 → (0 ≤ s1 ∧ s1 ≤ 1) → lv_has ls 8 [(0, jR X a0), (5, jI v5), (6, jI v6)] → W p l e (zrm (8 + nr + 1) C0 C0) s m args below meth c H locs cells slots (MQA X below C0 (qRA X 100 (fun r σ' cr => Kp ws_X10_any σ0 σ' ∧ Q r σ' cr)) (fun x σ' cr => tg σ' x = 2 ∧ Kp ws_X10_any σ0 σ' ∧ E x σ' cr) args s) (F0 m 290 ls [jI s1, jR X a0]) := by
  intro σ cr v5 v6 s1 cells slots H locs ls h hw hk hcr ht0 hv5 hv6 hs1 hl
  refine z_iconst (pc := 290) K dX10_single_290 ?_
  refine zt_v (pc := 291) (maxL := 3) K hw (met_X6_must_9 X l σ a0 s1 1 ht0 hs1 ⟨by decide, by decide⟩ _ _ h) (i_VU (n := 2) (t := 9) (As := [jI s1, jI 1]) (owner := "CombTable$Reader") K hw (ob ht0) zq9 (by decide) (by decide) q1243 q1244 q758 q1245 (dcl_of K q758 q759) rfl rfl dX10_single_291) (locw K q759 q97) (zr_ok2A (by omega) (by omega)) hl.1 dX10_single_291 (Nat.le_of_ble_eq_true rfl) (cr_le hcr) (fun σ4 _ _ hq3 hw5 => ?_) (fun x σx _ _ hx0 hqx hwx => ?_)
  rotate_left
  · obtain ⟨htx, hkx, h⟩ := hqx
    have h := h hkx
    exact za_out K hwx hcr hx0 ⟨htx, kp_trans wo_X10_any hk hkx (fun _ q => q) (by decide), h⟩ (no_cov hex 291)
  obtain ⟨hk6, h⟩ := hq3
  have h := h hk6
  have hk7 := kp_trans wo_X10_any hk hk6 (fun _ q => q) (by decide)
  have hg8 : tg σ4 a0 = 9 := kp_tg hk6 wo_X6_must ht0 (by decide)
  refine z_aload_n (pc := 294) K dX10_single_294 rfl (lv_at hl 0 rfl) ?_
  refine z_get (pc := 295) (t := 9) (k := 4) K hw5 (ob (t := 9) hg8) zq9 (by decide) q395 (u_same (K.ts _ q396)) dX10_single_295 (zval_i kf_9_4) ?_
  refine lv_istore (pc := 298) (lv' := [(7, jI (σ4 a0 4 0)), (0, jR X a0), (5, jI v5), (6, jI v6)]) K.x K.b dX10_single_298 hl (by decide) rfl (fun ls hl => ?_)
  refine z_aload_n (pc := 300) K dX10_single_300 rfl (lv_at hl 1 rfl) ?_
  refine zc_v (pc := 301) (maxL := 2) K hw5 (met_X6_next_9 X l σ4 a0 hg8 _ h) (i_VU (n := 0) (t := 9) (As := []) (owner := "CombTable$Reader") K hw5 (ob hg8) zq9 (by decide) (by decide) q1246 q1247 q666 q1248 (dcl_of K q666 q672) rfl rfl dX10_single_301) (locw K q672 q97) (zr_ok2A (by omega) (by omega)) hl.1 dX10_single_301 (Nat.le_of_ble_eq_true rfl) (cr_le hcr) (fun σ12 _ _ hq11 hw13 => ?_)
  obtain ⟨hk14, h⟩ := hq11
  have h := h hk14
  have hk15 := kp_trans wo_X10_any hk7 hk14 (fun _ q => q) (by decide)
  have hg16 : tg σ12 a0 = 9 := kp_tg hk14 wo_X6_next hg8 (by decide)
  obtain ⟨hle17, h⟩ := h
  refine z_new (pc := 304) (t := 15) K hw13 (by decide) zq15 q1281 q1282 q118 (cr_fit hcr (u := 3) ⟨by decide, by decide⟩ hle17) dX10_single_304 (fun _ hw18 => ?_)
  have hcr19 := cr_new hcr (n := 3) (u := 3) ⟨by decide, by decide⟩ hle17
  obtain ⟨σ20, e21⟩ : ∃ z, z = nw σ12 15 := ⟨_, rfl⟩
  have h := h σ20 e21
  have hke22 : Ke σ12 σ20 := ke_nw hw13 e21
  have hz23 : tg σ0 (nx σ12) = 0 := z0_kp hk15 wo_X10_any hw13.1.fresh
  have hw18 := wc_e e21 hw18
  have hk24 := kp_ke hk15 wo_X10_any hke22
  have hg25 : tg σ20 a0 = 9 := ke_tg hke22 hg16 (by decide)
  have hg26 : tg σ20 (nx σ12) = (-15) := tg_nw e21
  refine lv_dup (pc := 307) K.x K.b dX10_single_307 (jR_cat _ _) ?_
  refine lv_iload (pc := 308) K.x K.b dX10_single_308 (lv_at hl 2 rfl) ?_
  refine lv_iload (pc := 310) K.x K.b dX10_single_310 (lv_at hl 3 rfl) ?_
  refine lv_iload (pc := 312) K.x K.b dX10_single_312 (lv_at hl 0 rfl) ?_
  refine zc_v (pc := 314) (maxL := 4) K hw18 (met_X18_init X l σ20 (nx σ12) v5 v6 (σ4 a0 4 0) hg26 hv5 hv6 (z_rI hw5 (ob (t := 9) hg8) kf_9_4) _ h) (i_I (n := 3) (As := [jI v5, jI v6, jI (σ4 a0 4 0)]) K (hw18.1.pos (by rw [hg26]; decide)).1 (by decide) rfl q1283 q1284 q1285 rfl rfl dX10_single_314) (locw K q1285 q118) (zr_ok2A (by omega) (by omega)) hl.1 dX10_single_314 (Nat.le_of_ble_eq_true rfl) (cr_le hcr19) (fun σ30 _ _ hq29 hw31 => ?_)
  obtain ⟨hk32, hg33, h⟩ := hq29
  have h := h hk32 hg33
  have hk34 := kp_ki hk24 wo_X10_any hk32 hz23
  have hg35 : tg σ30 a0 = 9 := ki_tg hk32 hg25 (by decide) hg26 (by decide)
  have hg36 : tg σ30 (nx σ12) = 15 := hg33
  exact za_aret (pc := 317) K hw31 hcr19 (Or.inr (ok100 hg36 (by decide))) ⟨hk34, h⟩ dX10_single_317
set_option maxHeartbeats 4000000 in
theorem wk_X10_single_b262 {X : Cxt} {p : Program} {l : Launch} {e : Env} {s : State} {m : MethodId} {args : Array Value} {below : List Frame} {meth : Method} {c : Code} {C0 : Nat} (a0 : Int) (x1 : Int) (Q : Int → St → Int → Prop) (E : Int → St → Int → Prop) (σ0 : St) (Rc : Nat → St → Int → Int → Int → (Int → St → Int → Prop) → (Int → St → Int → Prop) → Prop) (K : MCx X p s m args meth c cX10_single 8 "CombTable$SentenceReader" (some (.object "CombTable$Cond"))) (hex : c.exceptionTable.isEmpty = true) (hx1 : rng x1) (nr : Nat) (hRc0 : ∀ (σ : St) (a0 : Int) (x1 : Int) (ht0 : tg σ a0 = 9) (hx1 : rng x1) (cr : Int) (hcr0 : 0 ≤ cr) (Q : Int → St → Int → Prop) (E : Int → St → Int → Prop), Rc 0 σ a0 x1 cr Q E → MetA X l yX10_any (ws_ yX10_any cX10_any 3 (some (.object "CombTable$Cond"))) (8 + nr) cr.toNat (ZP X σ [jR X a0, jI x1]) (qRA X 100 (fun r σ' cr => Kp ws_X10_any σ σ' ∧ Q r σ' cr)) (fun x σ' cr => tg σ' x = 2 ∧ Kp ws_X10_any σ σ' ∧ E x σ' cr)) (hRc1 : ∀ (σ : St) (a0 : Int) (x1 : Int) (ht0 : tg σ a0 = 9) (hx1 : rng x1) (cr : Int) (hcr0 : 0 ≤ cr) (Q : Int → St → Int → Prop) (E : Int → St → Int → Prop), Rc 1 σ a0 x1 cr Q E → MetA X l yX10_both (ws_ yX10_both cX10_both 3 (some (.object "CombTable$Cond"))) (8 + nr) cr.toNat (ZP X σ [jR X a0, jI x1]) (qRA X 100 (fun r σ' cr => Kp ws_X10_any σ σ' ∧ Q r σ' cr)) (fun x σ' cr => tg σ' x = 2 ∧ Kp ws_X10_any σ σ' ∧ E x σ' cr)) (hRc2 : ∀ (σ : St) (a0 : Int) (x1 : Int) (ht0 : tg σ a0 = 9) (hx1 : rng x1) (cr : Int) (hcr0 : 0 ≤ cr) (Q : Int → St → Int → Prop) (E : Int → St → Int → Prop), Rc 2 σ a0 x1 cr Q E → MetA X l yX10_single (ws_ yX10_single cX10_single 8 (some (.object "CombTable$Cond"))) (8 + nr) cr.toNat (ZP X σ [jR X a0, jI x1]) (qRA X 100 (fun r σ' cr => Kp ws_X10_any σ σ' ∧ Q r σ' cr)) (fun x σ' cr => tg σ' x = 2 ∧ Kp ws_X10_any σ σ' ∧ E x σ' cr)) : ∀ (σ : St) (cr : Int) (v5 : Int) (s1 : Int) (cells slots : Nat) (H : Heap) (locs : List Loc) (ls : Array Slot), wp_X10_single_b262 a0 x1 Q E σ0 Rc σ cr v5 s1 → Wc X σ s.heap H locs → Kp ws_X10_any σ0 σ → Cr C0 cells slots cr → tg σ a0 = 9 → rng v5 → (0 ≤ s1 ∧ s1 ≤ 1) → lv_has ls 8 [(0, jR X a0), (5, jI v5)] → W p l e (zrm (8 + nr + 1) C0 C0) s m args below meth c H locs cells slots (MQA X below C0 (qRA X 100 (fun r σ' cr => Kp ws_X10_any σ0 σ' ∧ Q r σ' cr)) (fun x σ' cr => tg σ' x = 2 ∧ Kp ws_X10_any σ0 σ' ∧ E x σ' cr) args s) (F0 m 262 ls [jI s1, jR X a0]) := by
  intro σ cr v5 s1 cells slots H locs ls h hw hk hcr ht0 hv5 hs1 hl
  refine z_iconst (pc := 262) K dX10_single_262 ?_
  refine zt_v (pc := 263) (maxL := 3) K hw (met_X6_must_9 X l σ a0 s1 1 ht0 hs1 ⟨by decide, by decide⟩ _ _ h) (i_VU (n := 2) (t := 9) (As := [jI s1, jI 1]) (owner := "CombTable$Reader") K hw (ob ht0) zq9 (by decide) (by decide) q1243 q1244 q758 q1245 (dcl_of K q758 q759) rfl rfl dX10_single_263) (locw K q759 q97) (zr_ok2A (by omega) (by omega)) hl.1 dX10_single_263 (Nat.le_of_ble_eq_true rfl) (cr_le hcr) (fun σ4 _ _ hq3 hw5 => ?_) (fun x σx _ _ hx0 hqx hwx => ?_)
  rotate_left
  · obtain ⟨htx, hkx, h⟩ := hqx
    have h := h hkx
    exact za_out K hwx hcr hx0 ⟨htx, kp_trans wo_X10_any hk hkx (fun _ q => q) (by decide), h⟩ (no_cov hex 263)
  obtain ⟨hk6, h⟩ := hq3
  have h := h hk6
  have hk7 := kp_trans wo_X10_any hk hk6 (fun _ q => q) (by decide)
  have hg8 : tg σ4 a0 = 9 := kp_tg hk6 wo_X6_must ht0 (by decide)
  refine z_aload_n (pc := 266) K dX10_single_266 rfl (lv_at hl 0 rfl) ?_
  refine z_get (pc := 267) (t := 9) (k := 4) K hw5 (ob (t := 9) hg8) zq9 (by decide) q395 (u_same (K.ts _ q396)) dX10_single_267 (zval_i kf_9_4) ?_
  refine lv_istore (pc := 270) (lv' := [(6, jI (σ4 a0 4 0)), (0, jR X a0), (5, jI v5)]) K.x K.b dX10_single_270 hl (by decide) rfl (fun ls hl => ?_)
  refine z_aload_n (pc := 272) K dX10_single_272 rfl (lv_at hl 1 rfl) ?_
  refine zc_v (pc := 273) (maxL := 2) K hw5 (met_X6_next_9 X l σ4 a0 hg8 _ h) (i_VU (n := 0) (t := 9) (As := []) (owner := "CombTable$Reader") K hw5 (ob hg8) zq9 (by decide) (by decide) q1246 q1247 q666 q1248 (dcl_of K q666 q672) rfl rfl dX10_single_273) (locw K q672 q97) (zr_ok2A (by omega) (by omega)) hl.1 dX10_single_273 (Nat.le_of_ble_eq_true rfl) (cr_le hcr) (fun σ12 _ _ hq11 hw13 => ?_)
  obtain ⟨hk14, h⟩ := hq11
  have h := h hk14
  have hk15 := kp_trans wo_X10_any hk7 hk14 (fun _ q => q) (by decide)
  have hg16 : tg σ12 a0 = 9 := kp_tg hk14 wo_X6_next hg8 (by decide)
  refine z_aload_n (pc := 276) K dX10_single_276 rfl (lv_at hl 1 rfl) ?_
  refine z_aload_n (pc := 277) K dX10_single_277 rfl (lv_at hl 1 rfl) ?_
  refine z_get (pc := 278) (t := 9) (k := 3) K hw13 (ob (t := 9) hg16) zq9 (by decide) q392 (u_same (K.ts _ q393)) dX10_single_278 (zval_i kf_9_3) ?_
  refine z_iconst (pc := 281) K dX10_single_281 ?_
  refine z_icmp_ne (pc := 282) (tgt := 289) K (z_rI hw13 (ob (t := 9) hg16) kf_9_3) ⟨by decide, by decide⟩ dX10_single_282 (by decide) (fun hc17 => ?_) (fun hc17 => ?_)
  · have h := ite_t h hc17
    refine z_iconst (pc := 285) K dX10_single_285 ?_
    refine z_goto (pc := 286) (tgt := 290) K dX10_single_286 (by decide) ?_
    exact wk_X10_single_b290 a0 x1 Q E σ0 Rc K hex hx1 nr hRc0 hRc1 hRc2 σ12 cr v5 (σ4 a0 4 0) 1 _ _ _ _ _ h hw13 hk15 hcr hg16 hv5 (z_rI hw5 (ob (t := 9) hg8) kf_9_4) ⟨by decide, by decide⟩ (lv_sub hl [1, 2, 0] rfl)
  · have h := ite_f h hc17
    refine z_iconst (pc := 289) K dX10_single_289 ?_
    exact wk_X10_single_b290 a0 x1 Q E σ0 Rc K hex hx1 nr hRc0 hRc1 hRc2 σ12 cr v5 (σ4 a0 4 0) 0 _ _ _ _ _ h hw13 hk15 hcr hg16 hv5 (z_rI hw5 (ob (t := 9) hg8) kf_9_4) ⟨by decide, by decide⟩ (lv_sub hl [1, 2, 0] rfl)
set_option maxHeartbeats 4000000 in
theorem wk_X10_single_b257 {X : Cxt} {p : Program} {l : Launch} {e : Env} {s : State} {m : MethodId} {args : Array Value} {below : List Frame} {meth : Method} {c : Code} {C0 : Nat} (a0 : Int) (x1 : Int) (Q : Int → St → Int → Prop) (E : Int → St → Int → Prop) (σ0 : St) (Rc : Nat → St → Int → Int → Int → (Int → St → Int → Prop) → (Int → St → Int → Prop) → Prop) (K : MCx X p s m args meth c cX10_single 8 "CombTable$SentenceReader" (some (.object "CombTable$Cond"))) (hex : c.exceptionTable.isEmpty = true) (hx1 : rng x1) (nr : Nat) (hRc0 : ∀ (σ : St) (a0 : Int) (x1 : Int) (ht0 : tg σ a0 = 9) (hx1 : rng x1) (cr : Int) (hcr0 : 0 ≤ cr) (Q : Int → St → Int → Prop) (E : Int → St → Int → Prop), Rc 0 σ a0 x1 cr Q E → MetA X l yX10_any (ws_ yX10_any cX10_any 3 (some (.object "CombTable$Cond"))) (8 + nr) cr.toNat (ZP X σ [jR X a0, jI x1]) (qRA X 100 (fun r σ' cr => Kp ws_X10_any σ σ' ∧ Q r σ' cr)) (fun x σ' cr => tg σ' x = 2 ∧ Kp ws_X10_any σ σ' ∧ E x σ' cr)) (hRc1 : ∀ (σ : St) (a0 : Int) (x1 : Int) (ht0 : tg σ a0 = 9) (hx1 : rng x1) (cr : Int) (hcr0 : 0 ≤ cr) (Q : Int → St → Int → Prop) (E : Int → St → Int → Prop), Rc 1 σ a0 x1 cr Q E → MetA X l yX10_both (ws_ yX10_both cX10_both 3 (some (.object "CombTable$Cond"))) (8 + nr) cr.toNat (ZP X σ [jR X a0, jI x1]) (qRA X 100 (fun r σ' cr => Kp ws_X10_any σ σ' ∧ Q r σ' cr)) (fun x σ' cr => tg σ' x = 2 ∧ Kp ws_X10_any σ σ' ∧ E x σ' cr)) (hRc2 : ∀ (σ : St) (a0 : Int) (x1 : Int) (ht0 : tg σ a0 = 9) (hx1 : rng x1) (cr : Int) (hcr0 : 0 ≤ cr) (Q : Int → St → Int → Prop) (E : Int → St → Int → Prop), Rc 2 σ a0 x1 cr Q E → MetA X l yX10_single (ws_ yX10_single cX10_single 8 (some (.object "CombTable$Cond"))) (8 + nr) cr.toNat (ZP X σ [jR X a0, jI x1]) (qRA X 100 (fun r σ' cr => Kp ws_X10_any σ σ' ∧ Q r σ' cr)) (fun x σ' cr => tg σ' x = 2 ∧ Kp ws_X10_any σ σ' ∧ E x σ' cr)) : ∀ (σ : St) (cr : Int) (v5 : Int) (cells slots : Nat) (H : Heap) (locs : List Loc) (ls : Array Slot), wp_X10_single_b257 a0 x1 Q E σ0 Rc σ cr v5 → Wc X σ s.heap H locs → Kp ws_X10_any σ0 σ → Cr C0 cells slots cr → tg σ a0 = 9 → rng v5 → lv_has ls 8 [(0, jR X a0), (5, jI v5)] → W p l e (zrm (8 + nr + 1) C0 C0) s m args below meth c H locs cells slots (MQA X below C0 (qRA X 100 (fun r σ' cr => Kp ws_X10_any σ0 σ' ∧ Q r σ' cr)) (fun x σ' cr => tg σ' x = 2 ∧ Kp ws_X10_any σ0 σ' ∧ E x σ' cr) args s) (F0 m 257 ls [jR X a0]) := by
  intro σ cr v5 cells slots H locs ls h hw hk hcr ht0 hv5 hl
  refine z_iconst (pc := 257) K dX10_single_257 ?_
  refine z_goto (pc := 258) (tgt := 262) K dX10_single_258 (by decide) ?_
  exact wk_X10_single_b262 a0 x1 Q E σ0 Rc K hex hx1 nr hRc0 hRc1 hRc2 σ cr v5 1 _ _ _ _ _ h hw hk hcr ht0 hv5 ⟨by decide, by decide⟩ (lv_sub hl [0, 1] rfl)
set_option maxHeartbeats 4000000 in
theorem wk_X10_single_b225 {X : Cxt} {p : Program} {l : Launch} {e : Env} {s : State} {m : MethodId} {args : Array Value} {below : List Frame} {meth : Method} {c : Code} {C0 : Nat} (a0 : Int) (x1 : Int) (Q : Int → St → Int → Prop) (E : Int → St → Int → Prop) (σ0 : St) (Rc : Nat → St → Int → Int → Int → (Int → St → Int → Prop) → (Int → St → Int → Prop) → Prop) (K : MCx X p s m args meth c cX10_single 8 "CombTable$SentenceReader" (some (.object "CombTable$Cond"))) (hex : c.exceptionTable.isEmpty = true) (hx1 : rng x1) (nr : Nat) (hRc0 : ∀ (σ : St) (a0 : Int) (x1 : Int) (ht0 : tg σ a0 = 9) (hx1 : rng x1) (cr : Int) (hcr0 : 0 ≤ cr) (Q : Int → St → Int → Prop) (E : Int → St → Int → Prop), Rc 0 σ a0 x1 cr Q E → MetA X l yX10_any (ws_ yX10_any cX10_any 3 (some (.object "CombTable$Cond"))) (8 + nr) cr.toNat (ZP X σ [jR X a0, jI x1]) (qRA X 100 (fun r σ' cr => Kp ws_X10_any σ σ' ∧ Q r σ' cr)) (fun x σ' cr => tg σ' x = 2 ∧ Kp ws_X10_any σ σ' ∧ E x σ' cr)) (hRc1 : ∀ (σ : St) (a0 : Int) (x1 : Int) (ht0 : tg σ a0 = 9) (hx1 : rng x1) (cr : Int) (hcr0 : 0 ≤ cr) (Q : Int → St → Int → Prop) (E : Int → St → Int → Prop), Rc 1 σ a0 x1 cr Q E → MetA X l yX10_both (ws_ yX10_both cX10_both 3 (some (.object "CombTable$Cond"))) (8 + nr) cr.toNat (ZP X σ [jR X a0, jI x1]) (qRA X 100 (fun r σ' cr => Kp ws_X10_any σ σ' ∧ Q r σ' cr)) (fun x σ' cr => tg σ' x = 2 ∧ Kp ws_X10_any σ σ' ∧ E x σ' cr)) (hRc2 : ∀ (σ : St) (a0 : Int) (x1 : Int) (ht0 : tg σ a0 = 9) (hx1 : rng x1) (cr : Int) (hcr0 : 0 ≤ cr) (Q : Int → St → Int → Prop) (E : Int → St → Int → Prop), Rc 2 σ a0 x1 cr Q E → MetA X l yX10_single (ws_ yX10_single cX10_single 8 (some (.object "CombTable$Cond"))) (8 + nr) cr.toNat (ZP X σ [jR X a0, jI x1]) (qRA X 100 (fun r σ' cr => Kp ws_X10_any σ σ' ∧ Q r σ' cr)) (fun x σ' cr => tg σ' x = 2 ∧ Kp ws_X10_any σ σ' ∧ E x σ' cr)) : ∀ (σ : St) (cr : Int) (s0 : Int) (s2 : Int) (s3 : Int) (cells slots : Nat) (H : Heap) (locs : List Loc) (ls : Array Slot), wp_X10_single_b225 a0 x1 Q E σ0 Rc σ cr s0 s2 s3 → Wc X σ s.heap H locs → Kp ws_X10_any σ0 σ → Cr C0 cells slots cr → tg σ s0 = (-14) → tg σ0 s0 = 0 → rng s2 → rng s3 → lv_has ls 8 [] → W p l e (zrm (8 + nr + 1) C0 C0) s m args below meth c H locs cells slots (MQA X below C0 (qRA X 100 (fun r σ' cr => Kp ws_X10_any σ0 σ' ∧ Q r σ' cr)) (fun x σ' cr => tg σ' x = 2 ∧ Kp ws_X10_any σ0 σ' ∧ E x σ' cr) args s) (F0 m 225 ls [jI s3, jI s2, jR X s0, jR X s0]) := by
  intro σ cr s0 s2 s3 cells slots H locs ls h hw hk hcr hts0 hzs0 hs2 hs3 hl
  refine zc_v (pc := 225) (maxL := 3) K hw (met_X17_init X l σ s0 s2 s3 hts0 hs2 hs3 _ h) (i_I (n := 2) (As := [jI s2, jI s3]) K (hw.1.pos (by rw [hts0]; decide)).1 (by decide) rfl q1270 q1271 q1272 rfl rfl dX10_single_225) (locw K q1272 q117) (zr_ok2A (by omega) (by omega)) hl.1 dX10_single_225 (Nat.le_of_ble_eq_true rfl) (cr_le hcr) (fun σ4 _ _ hq3 hw5 => ?_)
  obtain ⟨hk6, hg7, h⟩ := hq3
  have h := h hk6 hg7
  have hk8 := kp_ki hk wo_X10_any hk6 hzs0
  have hg9 : tg σ4 s0 = 14 := hg7
  exact za_aret (pc := 228) K hw5 hcr (Or.inr (ok100 hg9 (by decide))) ⟨hk8, h⟩ dX10_single_228
set_option maxHeartbeats 4000000 in
theorem wk_X10_single_b85 {X : Cxt} {p : Program} {l : Launch} {e : Env} {s : State} {m : MethodId} {args : Array Value} {below : List Frame} {meth : Method} {c : Code} {C0 : Nat} (a0 : Int) (x1 : Int) (Q : Int → St → Int → Prop) (E : Int → St → Int → Prop) (σ0 : St) (Rc : Nat → St → Int → Int → Int → (Int → St → Int → Prop) → (Int → St → Int → Prop) → Prop) (K : MCx X p s m args meth c cX10_single 8 "CombTable$SentenceReader" (some (.object "CombTable$Cond"))) (hex : c.exceptionTable.isEmpty = true) (hx1 : rng x1) (nr : Nat) (hRc0 : ∀ (σ : St) (a0 : Int) (x1 : Int) (ht0 : tg σ a0 = 9) (hx1 : rng x1) (cr : Int) (hcr0 : 0 ≤ cr) (Q : Int → St → Int → Prop) (E : Int → St → Int → Prop), Rc 0 σ a0 x1 cr Q E → MetA X l yX10_any (ws_ yX10_any cX10_any 3 (some (.object "CombTable$Cond"))) (8 + nr) cr.toNat (ZP X σ [jR X a0, jI x1]) (qRA X 100 (fun r σ' cr => Kp ws_X10_any σ σ' ∧ Q r σ' cr)) (fun x σ' cr => tg σ' x = 2 ∧ Kp ws_X10_any σ σ' ∧ E x σ' cr)) (hRc1 : ∀ (σ : St) (a0 : Int) (x1 : Int) (ht0 : tg σ a0 = 9) (hx1 : rng x1) (cr : Int) (hcr0 : 0 ≤ cr) (Q : Int → St → Int → Prop) (E : Int → St → Int → Prop), Rc 1 σ a0 x1 cr Q E → MetA X l yX10_both (ws_ yX10_both cX10_both 3 (some (.object "CombTable$Cond"))) (8 + nr) cr.toNat (ZP X σ [jR X a0, jI x1]) (qRA X 100 (fun r σ' cr => Kp ws_X10_any σ σ' ∧ Q r σ' cr)) (fun x σ' cr => tg σ' x = 2 ∧ Kp ws_X10_any σ σ' ∧ E x σ' cr)) (hRc2 : ∀ (σ : St) (a0 : Int) (x1 : Int) (ht0 : tg σ a0 = 9) (hx1 : rng x1) (cr : Int) (hcr0 : 0 ≤ cr) (Q : Int → St → Int → Prop) (E : Int → St → Int → Prop), Rc 2 σ a0 x1 cr Q E → MetA X l yX10_single (ws_ yX10_single cX10_single 8 (some (.object "CombTable$Cond"))) (8 + nr) cr.toNat (ZP X σ [jR X a0, jI x1]) (qRA X 100 (fun r σ' cr => Kp ws_X10_any σ σ' ∧ Q r σ' cr)) (fun x σ' cr => tg σ' x = 2 ∧ Kp ws_X10_any σ σ' ∧ E x σ' cr)) : ∀ (σ : St) (cr : Int) (v2 : Int) (v3 : Int) (v4 : Int) (v5 : Int) (s1 : Int) (cells slots : Nat) (H : Heap) (locs : List Loc) (ls : Array Slot), wp_X10_single_b85 a0 x1 Q E σ0 Rc σ cr v2 v3 v4 v5 s1 → Wc X σ s.heap H locs → Kp ws_X10_any σ0 σ → Cr C0 cells slots cr → tg σ a0 = 9 → (0 ≤ v2 ∧ v2 ≤ 1) → (0 ≤ v3 ∧ v3 ≤ 1) → rng v4 → rng v5 → (0 ≤ s1 ∧ s1 ≤ 1) → lv_has ls 8 [(0, jR X a0), (1, jI x1), (2, jI v2), (3, jI v3), (4, jI v4), (5, jI v5)] → W p l e (zrm (8 + nr + 1) C0 C0) s m args below meth c H locs cells slots (MQA X below C0 (qRA X 100 (fun r σ' cr => Kp ws_X10_any σ0 σ' ∧ Q r σ' cr)) (fun x σ' cr => tg σ' x = 2 ∧ Kp ws_X10_any σ0 σ' ∧ E x σ' cr) args s) (F0 m 85 ls [jI s1, jR X a0]) := by
  intro σ cr v2 v3 v4 v5 s1 cells slots H locs ls h hw hk hcr ht0 hv2 hv3 hv4 hv5 hs1 hl
  refine z_iconst (pc := 85) K dX10_single_85 ?_
  refine zt_v (pc := 86) (maxL := 3) K hw (met_X6_must_9 X l σ a0 s1 4 ht0 hs1 ⟨by decide, by decide⟩ _ _ h) (i_VU (n := 2) (t := 9) (As := [jI s1, jI 4]) (owner := "CombTable$Reader") K hw (ob ht0) zq9 (by decide) (by decide) q1243 q1244 q758 q1245 (dcl_of K q758 q759) rfl rfl dX10_single_86) (locw K q759 q97) (zr_ok2A (by omega) (by omega)) hl.1 dX10_single_86 (Nat.le_of_ble_eq_true rfl) (cr_le hcr) (fun σ4 _ _ hq3 hw5 => ?_) (fun x σx _ _ hx0 hqx hwx => ?_)
  rotate_left
  · obtain ⟨htx, hkx, h⟩ := hqx
    have h := h hkx
    exact za_out K hwx hcr hx0 ⟨htx, kp_trans wo_X10_any hk hkx (fun _ q => q) (by decide), h⟩ (no_cov hex 86)
  obtain ⟨hk6, h⟩ := hq3
  have h := h hk6
  have hk7 := kp_trans wo_X10_any hk hk6 (fun _ q => q) (by decide)
  have hg8 : tg σ4 a0 = 9 := kp_tg hk6 wo_X6_must ht0 (by decide)
  refine z_aload_n (pc := 89) K dX10_single_89 rfl (lv_at hl 0 rfl) ?_
  refine lv_dup (pc := 90) K.x K.b dX10_single_90 (jR_cat _ _) ?_
  refine z_get (pc := 91) (t := 9) (k := 10) K hw5 (ob (t := 9) hg8) zq9 (by decide) q485 (fun _ h => h) dX10_single_91 (zval_i kf_9_10) ?_
  refine z_iconst (pc := 94) K dX10_single_94 ?_
  refine z_iadd (pc := 95) K dX10_single_95 ?_
  obtain ⟨hr9, h⟩ := h
  refine z_puti (pc := 96) (t := 9) 10 K hw5 (ob hg8) zq9 (by decide) kf_9_10 zt_9_10 hr9 q485 (fun _ h => h) rfl dX10_single_96 (fun _ _ hw10 => ?_)
  obtain ⟨σ11, e12⟩ : ∃ z, z = st σ4 a0 10 0 ((σ4 a0 10 0) + 1) := ⟨_, rfl⟩
  have h := h σ11 e12
  have hw10 := wc_e e12 hw10
  have hk13 := kp_e e12 hk7 wo_X10_any (by decide) hg8 (t := 9) (by decide)
  have hg14 : tg σ11 a0 = 9 := (tg_e e12 (by decide)).trans hg8
  refine z_aload_n (pc := 99) K dX10_single_99 rfl (lv_at hl 0 rfl) ?_
  refine zc_v (pc := 100) (maxL := 2) K hw10 (met_X6_next_9 X l σ11 a0 hg14 _ h) (i_VU (n := 0) (t := 9) (As := []) (owner := "CombTable$Reader") K hw10 (ob hg14) zq9 (by decide) (by decide) q1246 q1247 q666 q1248 (dcl_of K q666 q672) rfl rfl dX10_single_100) (locw K q672 q97) (zr_ok2A (by omega) (by omega)) hl.1 dX10_single_100 (Nat.le_of_ble_eq_true rfl) (cr_le hcr) (fun σ18 _ _ hq17 hw19 => ?_)
  obtain ⟨hk20, h⟩ := hq17
  have h := h hk20
  have hk21 := kp_trans wo_X10_any hk13 hk20 (fun _ q => q) (by decide)
  have hg22 : tg σ18 a0 = 9 := kp_tg hk20 wo_X6_next hg14 (by decide)
  refine lv_iload_n (pc := 103) K.x K.b dX10_single_103 rfl (lv_at hl 2 rfl) ?_
  refine z_if_eq (pc := 104) (tgt := 122) K (b01r hv2) dX10_single_104 (by decide) (fun hc23 => ?_) (fun hc23 => ?_)
  · have h := ite_t h hc23
    refine lv_iload_n (pc := 122) K.x K.b dX10_single_122 rfl (lv_at hl 3 rfl) ?_
    refine z_if_eq (pc := 123) (tgt := 144) K (b01r hv3) dX10_single_123 (by decide) (fun hc24 => ?_) (fun hc24 => ?_)
    · have h := ite_t h hc24
      refine lv_iload (pc := 144) K.x K.b dX10_single_144 (lv_at hl 4 rfl) ?_
      refine z_iconst (pc := 146) K dX10_single_146 ?_
      refine z_icmp_eq (pc := 147) (tgt := 229) K hv4 ⟨by decide, by decide⟩ dX10_single_147 (by decide) (fun hc25 => ?_) (fun hc25 => ?_)
      · have h := ite_t h hc25
        refine z_aload_n (pc := 229) K dX10_single_229 rfl (lv_at hl 0 rfl) ?_
        refine z_aload_n (pc := 230) K dX10_single_230 rfl (lv_at hl 0 rfl) ?_
        refine z_bipush (pc := 231) K dX10_single_231 (by decide) ?_
        refine zr_z (pc := 233) (maxL := 2) K hw19 (met_X6_is_2_9 X l σ18 a0 60 hg22 ⟨by decide, by decide⟩ _ h) (i_VU (n := 1) (t := 9) (As := [jI 60]) (owner := "CombTable$Reader") K hw19 (ob hg22) zq9 (by decide) (by decide) q1236 q1237 q879 q1239 (dcl_of K q879 q885) rfl rfl dX10_single_233) (locw K q885 q97) (zr_ok2A (by omega) (by omega)) hl.1 dX10_single_233 (Nat.le_of_ble_eq_true rfl) (cr_le hcr) (fun r26 _ _ hr27 h hw30 => ?_)
        refine z_if_ne (pc := 236) (tgt := 257) K (b01r hr27) dX10_single_236 (by decide) (fun hc31 => ?_) (fun hc31 => ?_)
        · have h := ite_t h hc31
          refine z_aload_n (pc := 239) K dX10_single_239 rfl (lv_at hl 0 rfl) ?_
          refine z_bipush (pc := 240) K dX10_single_240 (by decide) ?_
          refine zr_z (pc := 242) (maxL := 2) K hw30 (met_X6_is_2_9 X l σ18 a0 61 hg22 ⟨by decide, by decide⟩ _ h) (i_VU (n := 1) (t := 9) (As := [jI 61]) (owner := "CombTable$Reader") K hw30 (ob hg22) zq9 (by decide) (by decide) q1236 q1237 q879 q1239 (dcl_of K q879 q885) rfl rfl dX10_single_242) (locw K q885 q97) (zr_ok2A (by omega) (by omega)) hl.1 dX10_single_242 (Nat.le_of_ble_eq_true rfl) (cr_le hcr) (fun r32 _ _ hr33 h hw36 => ?_)
          refine z_if_ne (pc := 245) (tgt := 257) K (b01r hr33) dX10_single_245 (by decide) (fun hc37 => ?_) (fun hc37 => ?_)
          · have h := ite_t h hc37
            refine z_aload_n (pc := 248) K dX10_single_248 rfl (lv_at hl 0 rfl) ?_
            refine z_bipush (pc := 249) K dX10_single_249 (by decide) ?_
            refine zr_z (pc := 251) (maxL := 2) K hw36 (met_X6_is_2_9 X l σ18 a0 62 hg22 ⟨by decide, by decide⟩ _ h) (i_VU (n := 1) (t := 9) (As := [jI 62]) (owner := "CombTable$Reader") K hw36 (ob hg22) zq9 (by decide) (by decide) q1236 q1237 q879 q1239 (dcl_of K q879 q885) rfl rfl dX10_single_251) (locw K q885 q97) (zr_ok2A (by omega) (by omega)) hl.1 dX10_single_251 (Nat.le_of_ble_eq_true rfl) (cr_le hcr) (fun r38 _ _ hr39 h hw42 => ?_)
            refine z_if_eq (pc := 254) (tgt := 261) K (b01r hr39) dX10_single_254 (by decide) (fun hc43 => ?_) (fun hc43 => ?_)
            · have h := ite_t h hc43
              refine z_iconst (pc := 261) K dX10_single_261 ?_
              exact wk_X10_single_b262 a0 x1 Q E σ0 Rc K hex hx1 nr hRc0 hRc1 hRc2 σ18 cr v5 0 _ _ _ _ _ h hw42 hk21 hcr hg22 hv5 ⟨by decide, by decide⟩ (lv_sub hl [0, 5] rfl)
            · have h := ite_f h hc43
              exact wk_X10_single_b257 a0 x1 Q E σ0 Rc K hex hx1 nr hRc0 hRc1 hRc2 σ18 cr v5 _ _ _ _ _ h hw42 hk21 hcr hg22 hv5 (lv_sub hl [0, 5] rfl)
          · have h := ite_f h hc37
            exact wk_X10_single_b257 a0 x1 Q E σ0 Rc K hex hx1 nr hRc0 hRc1 hRc2 σ18 cr v5 _ _ _ _ _ h hw36 hk21 hcr hg22 hv5 (lv_sub hl [0, 5] rfl)
        · have h := ite_f h hc31
          exact wk_X10_single_b257 a0 x1 Q E σ0 Rc K hex hx1 nr hRc0 hRc1 hRc2 σ18 cr v5 _ _ _ _ _ h hw30 hk21 hcr hg22 hv5 (lv_sub hl [0, 5] rfl)
      · have h := ite_f h hc25
        obtain ⟨hle44, h⟩ := h
        refine z_new (pc := 150) (t := 14) K hw19 (by decide) zq14 q1265 q1266 q117 (cr_fit hcr (u := 2) ⟨by decide, by decide⟩ hle44) dX10_single_150 (fun _ hw45 => ?_)
        have hcr46 := cr_new hcr (n := 2) (u := 2) ⟨by decide, by decide⟩ hle44
        obtain ⟨σ47, e48⟩ : ∃ z, z = nw σ18 14 := ⟨_, rfl⟩
        have h := h σ47 e48
        have hke49 : Ke σ18 σ47 := ke_nw hw19 e48
        have hz50 : tg σ0 (nx σ18) = 0 := z0_kp hk21 wo_X10_any hw19.1.fresh
        have hw45 := wc_e e48 hw45
        have hk51 := kp_ke hk21 wo_X10_any hke49
        have hg52 : tg σ47 a0 = 9 := ke_tg hke49 hg22 (by decide)
        have hg53 : tg σ47 (nx σ18) = (-14) := tg_nw e48
        refine lv_dup (pc := 153) K.x K.b dX10_single_153 (jR_cat _ _) ?_
        refine lv_iload (pc := 154) K.x K.b dX10_single_154 (lv_at hl 4 rfl) ?_
        refine lv_iload (pc := 156) K.x K.b dX10_single_156 (lv_at hl 4 rfl) ?_
        refine z_iconst (pc := 158) K dX10_single_158 ?_
        refine z_icmp_ne (pc := 159) (tgt := 195) K hv4 ⟨by decide, by decide⟩ dX10_single_159 (by decide) (fun hc54 => ?_) (fun hc54 => ?_)
        · have h := ite_t h hc54
          refine z_aload_n (pc := 162) K dX10_single_162 rfl (lv_at hl 0 rfl) ?_
          refine z_aload_n (pc := 163) K dX10_single_163 rfl (lv_at hl 0 rfl) ?_
          refine z_get (pc := 164) (t := 9) (k := 11) K hw45 (ob (t := 9) hg52) zq9 (by decide) q487 (fun _ h => h) dX10_single_164 (zval_r kf_9_11) ?_
          have hg55 : tg σ47 (σ47 a0 11 0) = 1 := (z_tg (t := 9) (r := 1) hw45 hg52 ⟨by decide, by decide⟩ kf_9_11 kn_9_11 kt_9_11 (by decide) (by decide))
          refine z_getN (pc := 167) (t := 1) (k := 8) K hw45 (ob (t := 1) hg55) zq1 (by decide) q526 (fun _ h => h) dX10_single_167 (zval_r kf_1_8) ?_
          have hg56 : tg σ47 (σ47 (σ47 a0 11 0) 8 0) = 3 := (z_tg (t := 1) (r := 3) hw45 hg55 ⟨by decide, by decide⟩ kf_1_8 kn_1_8 kt_1_8 (by decide) (by decide))
          refine z_getN (pc := 170) (t := 3) (k := 0) K hw45 (ob (t := 3) hg56) zq3 (by decide) q302 (fun _ h => h) dX10_single_170 (zval_r kf_3_0) ?_
          have hg57 : tg σ47 (σ47 (σ47 (σ47 a0 11 0) 8 0) 0 0) = 4 := (z_tg (t := 3) (r := 4) hw45 hg56 ⟨by decide, by decide⟩ kf_3_0 kn_3_0 kt_3_0 (by decide) (by decide))
          refine z_getN (pc := 173) (t := 4) (k := 1) K hw45 (ob (t := 4) hg57) zq4 (by decide) q251 (fun _ h => h) dX10_single_173 (zval_p (κ := 6) kf_4_1) ?_
          refine z_aload_n (pc := 176) K dX10_single_176 rfl (lv_at hl 0 rfl) ?_
          refine z_get (pc := 177) (t := 9) (k := 11) K hw45 (ob (t := 9) hg52) zq9 (by decide) q487 (fun _ h => h) dX10_single_177 (zval_r kf_9_11) ?_
          refine z_getN (pc := 180) (t := 1) (k := 8) K hw45 (ob (t := 1) hg55) zq1 (by decide) q526 (fun _ h => h) dX10_single_180 (zval_r kf_1_8) ?_
          refine z_getN (pc := 183) (t := 3) (k := 0) K hw45 (ob (t := 3) hg56) zq3 (by decide) q302 (fun _ h => h) dX10_single_183 (zval_r kf_3_0) ?_
          refine z_getN (pc := 186) (t := 4) (k := 4) K hw45 (ob (t := 4) hg57) zq4 (by decide) q266 (fun _ h => h) dX10_single_186 (zval_i kf_4_4) ?_
          refine zt_i (pc := 189) (maxL := 4) K hw45 (met_X6_known_9_1 X l σ47 a0 (σ47 (σ47 (σ47 a0 11 0) 8 0) 0 0) 1 10 (σ47 (σ47 (σ47 (σ47 a0 11 0) 8 0) 0 0) 4 0) hg52 hg57 kf_4_1 kl_4_1 kt_4_1 (z_rI hw45 (ob (t := 4) hg57) kf_4_4) _ _ h) (i_VU (n := 2) (t := 9) (As := [jR X (σ47 (σ47 (σ47 (σ47 a0 11 0) 8 0) 0 0) 1 (-1)), jI (σ47 (σ47 (σ47 (σ47 a0 11 0) 8 0) 0 0) 4 0)]) (owner := "CombTable$Reader") K hw45 (ob hg52) zq9 (by decide) (by decide) q1267 q1268 q861 q1269 (dcl_of K q861 q862) rfl rfl dX10_single_189) (locw K q862 q97) (zr_ok2A (by omega) (by omega)) hl.1 dX10_single_189 (Nat.le_of_ble_eq_true rfl) (cr_le hcr46) (fun r58 σ61 _ _ hr59 hq60 hw62 => ?_) (fun x σx _ _ hx0 hqx hwx => ?_)
          rotate_left
          · obtain ⟨htx, hkx, h⟩ := hqx
            have h := h hkx
            exact za_out K hwx hcr46 hx0 ⟨htx, kp_trans wo_X10_any hk51 hkx (fun _ q => q) (by decide), h⟩ (no_cov hex 189)
          obtain ⟨hk63, h⟩ := hq60
          have h := h hk63
          have hk64 := kp_trans wo_X10_any hk51 hk63 (fun _ q => q) (by decide)
          have hg65 : tg σ61 a0 = 9 := kp_tg hk63 wo_X6_known hg52 (by decide)
          have hg66 : tg σ61 (nx σ18) = -14 := kp_tg hk63 wo_X6_known hg53 (by decide)
          refine z_goto (pc := 192) (tgt := 225) K dX10_single_192 (by decide) ?_
          exact wk_X10_single_b225 a0 x1 Q E σ0 Rc K hex hx1 nr hRc0 hRc1 hRc2 σ61 (cr - 2) (nx σ18) v4 r58 _ _ _ _ _ h hw62 hk64 hcr46 hg66 hz50 hv4 hr59 (lv_sub hl [] rfl)
        · have h := ite_f h hc54
          refine z_aload_n (pc := 195) K dX10_single_195 rfl (lv_at hl 0 rfl) ?_
          refine z_aload_n (pc := 196) K dX10_single_196 rfl (lv_at hl 0 rfl) ?_
          refine z_get (pc := 197) (t := 9) (k := 11) K hw45 (ob (t := 9) hg52) zq9 (by decide) q487 (fun _ h => h) dX10_single_197 (zval_r kf_9_11) ?_
          have hg67 : tg σ47 (σ47 a0 11 0) = 1 := (z_tg (t := 9) (r := 1) hw45 hg52 ⟨by decide, by decide⟩ kf_9_11 kn_9_11 kt_9_11 (by decide) (by decide))
          refine z_getN (pc := 200) (t := 1) (k := 8) K hw45 (ob (t := 1) hg67) zq1 (by decide) q526 (fun _ h => h) dX10_single_200 (zval_r kf_1_8) ?_
          have hg68 : tg σ47 (σ47 (σ47 a0 11 0) 8 0) = 3 := (z_tg (t := 1) (r := 3) hw45 hg67 ⟨by decide, by decide⟩ kf_1_8 kn_1_8 kt_1_8 (by decide) (by decide))
          refine z_getN (pc := 203) (t := 3) (k := 0) K hw45 (ob (t := 3) hg68) zq3 (by decide) q302 (fun _ h => h) dX10_single_203 (zval_r kf_3_0) ?_
          have hg69 : tg σ47 (σ47 (σ47 (σ47 a0 11 0) 8 0) 0 0) = 4 := (z_tg (t := 3) (r := 4) hw45 hg68 ⟨by decide, by decide⟩ kf_3_0 kn_3_0 kt_3_0 (by decide) (by decide))
          refine z_getN (pc := 206) (t := 4) (k := 0) K hw45 (ob (t := 4) hg69) zq4 (by decide) q245 (fun _ h => h) dX10_single_206 (zval_p (κ := 5) kf_4_0) ?_
          refine z_aload_n (pc := 209) K dX10_single_209 rfl (lv_at hl 0 rfl) ?_
          refine z_get (pc := 210) (t := 9) (k := 11) K hw45 (ob (t := 9) hg52) zq9 (by decide) q487 (fun _ h => h) dX10_single_210 (zval_r kf_9_11) ?_
          refine z_getN (pc := 213) (t := 1) (k := 8) K hw45 (ob (t := 1) hg67) zq1 (by decide) q526 (fun _ h => h) dX10_single_213 (zval_r kf_1_8) ?_
          refine z_getN (pc := 216) (t := 3) (k := 0) K hw45 (ob (t := 3) hg68) zq3 (by decide) q302 (fun _ h => h) dX10_single_216 (zval_r kf_3_0) ?_
          refine z_getN (pc := 219) (t := 4) (k := 3) K hw45 (ob (t := 4) hg69) zq4 (by decide) q260 (fun _ h => h) dX10_single_219 (zval_i kf_4_3) ?_
          refine zt_i (pc := 222) (maxL := 4) K hw45 (met_X6_known_9_0 X l σ47 a0 (σ47 (σ47 (σ47 a0 11 0) 8 0) 0 0) 0 8 (σ47 (σ47 (σ47 (σ47 a0 11 0) 8 0) 0 0) 3 0) hg52 hg69 kf_4_0 kl_4_0 kt_4_0 (z_rI hw45 (ob (t := 4) hg69) kf_4_3) _ _ h) (i_VU (n := 2) (t := 9) (As := [jR X (σ47 (σ47 (σ47 (σ47 a0 11 0) 8 0) 0 0) 0 (-1)), jI (σ47 (σ47 (σ47 (σ47 a0 11 0) 8 0) 0 0) 3 0)]) (owner := "CombTable$Reader") K hw45 (ob hg52) zq9 (by decide) (by decide) q1267 q1268 q861 q1269 (dcl_of K q861 q862) rfl rfl dX10_single_222) (locw K q862 q97) (zr_ok2A (by omega) (by omega)) hl.1 dX10_single_222 (Nat.le_of_ble_eq_true rfl) (cr_le hcr46) (fun r70 σ73 _ _ hr71 hq72 hw74 => ?_) (fun x σx _ _ hx0 hqx hwx => ?_)
          rotate_left
          · obtain ⟨htx, hkx, h⟩ := hqx
            have h := h hkx
            exact za_out K hwx hcr46 hx0 ⟨htx, kp_trans wo_X10_any hk51 hkx (fun _ q => q) (by decide), h⟩ (no_cov hex 222)
          obtain ⟨hk75, h⟩ := hq72
          have h := h hk75
          have hk76 := kp_trans wo_X10_any hk51 hk75 (fun _ q => q) (by decide)
          have hg77 : tg σ73 a0 = 9 := kp_tg hk75 wo_X6_known hg52 (by decide)
          have hg78 : tg σ73 (nx σ18) = -14 := kp_tg hk75 wo_X6_known hg53 (by decide)
          exact wk_X10_single_b225 a0 x1 Q E σ0 Rc K hex hx1 nr hRc0 hRc1 hRc2 σ73 (cr - 2) (nx σ18) v4 r70 _ _ _ _ _ h hw74 hk76 hcr46 hg78 hz50 hv4 hr71 (lv_sub hl [] rfl)
    · have h := ite_f h hc24
      refine z_aload_n (pc := 126) K dX10_single_126 rfl (lv_at hl 0 rfl) ?_
      refine lv_iload_n (pc := 127) K.x K.b dX10_single_127 rfl (lv_at hl 1 rfl) ?_
      refine z_iconst (pc := 128) K dX10_single_128 ?_
      refine z_iadd (pc := 129) K dX10_single_129 ?_
      obtain ⟨hr79, h⟩ := h
      refine zat_r (pc := 130) (maxL := 3) K hw19 (hRc0 σ18 a0 (x1 + 1) hg22 hr79 cr hcr.2.2 _ _ h) (i_V (n := 1) (t := 9) (As := [jI (x1 + 1)]) K hw19 (ob hg22) zq9 (by decide) q1220 q1222 qs23 (sg_of K q1223) rfl rfl dX10_single_130) (locw K q1223 q101) (zr_ok2A (by omega) (by omega)) hl.1 dX10_single_130 (by decide) hcr (Int.toNat_of_nonneg hcr.2.2) ⟨Nat.le_refl _, Nat.le_refl _⟩ (fun r80 σ83 _ _ _ _ cr85 hr81 hq82 hw84 hcr86 => ?_) (fun x σx _ _ _ _ crx hx0 hqx hwx hcx => ?_)
      rotate_left
      · obtain ⟨htx, hkx, h⟩ := hqx
        have h := h hkx
        exact za_out K hwx hcx hx0 ⟨htx, kp_trans wo_X10_any hk21 hkx (fun _ q => q) (by decide), h⟩ (no_cov hex 130)
      obtain ⟨hk87, h⟩ := hq82
      have h := h hk87
      have hk88 := kp_trans wo_X10_any hk21 hk87 (fun _ q => q) (by decide)
      have hg89 : tg σ83 a0 = 9 := kp_tg hk87 wo_X10_any hg22 (by decide)
      refine z_astore (pc := 133) (lv' := [(6, jR X r80), (0, jR X a0), (1, jI x1), (2, jI v2), (3, jI v3), (4, jI v4), (5, jI v5)]) K dX10_single_133 hl (by decide) rfl (fun ls hl => ?_)
      refine z_aload_n (pc := 135) K dX10_single_135 rfl (lv_at hl 1 rfl) ?_
      refine z_bipush (pc := 136) K dX10_single_136 (by decide) ?_
      refine zt_v (pc := 138) (maxL := 2) K hw84 (met_X6_sign_9 X l σ83 a0 41 hg89 ⟨by decide, by decide⟩ _ _ h) (i_VU (n := 1) (t := 9) (As := [jI 41]) (owner := "CombTable$Reader") K hw84 (ob hg89) zq9 (by decide) (by decide) q1262 q1263 q876 q1264 (dcl_of K q876 q877) rfl rfl dX10_single_138) (locw K q877 q97) (zr_ok2A (by omega) (by omega)) hl.1 dX10_single_138 (Nat.le_of_ble_eq_true rfl) (cr_le hcr86) (fun σ93 _ _ hq92 hw94 => ?_) (fun x σx _ _ hx0 hqx hwx => ?_)
      rotate_left
      · obtain ⟨htx, hkx, h⟩ := hqx
        have h := h hkx
        exact za_out K hwx hcr86 hx0 ⟨htx, kp_trans wo_X10_any hk88 hkx (fun _ q => q) (by decide), h⟩ (no_cov hex 138)
      obtain ⟨hk95, h⟩ := hq92
      have h := h hk95
      have hk96 := kp_trans wo_X10_any hk88 hk95 (fun _ q => q) (by decide)
      have hg97 : tg σ93 a0 = 9 := kp_tg hk95 wo_X6_sign hg89 (by decide)
      have ho98 : r80 = -1 ∨ okR σ93 100 r80 := ((hr81).imp_right (fun q => kp_okR hk95 wo_X6_sign q))
      refine z_aload (pc := 141) K dX10_single_141 (lv_at hl 0 rfl) ?_
      exact za_aret (pc := 143) K hw94 hcr86 ho98 ⟨hk96, h⟩ dX10_single_143
  · have h := ite_f h hc23
    obtain ⟨hle99, h⟩ := h
    refine z_new (pc := 107) (t := 13) K hw19 (by decide) zq13 q1249 q1250 q116 (cr_fit hcr (u := 1) ⟨by decide, by decide⟩ hle99) dX10_single_107 (fun _ hw100 => ?_)
    have hcr101 := cr_new hcr (n := 1) (u := 1) ⟨by decide, by decide⟩ hle99
    obtain ⟨σ102, e103⟩ : ∃ z, z = nw σ18 13 := ⟨_, rfl⟩
    have h := h σ102 e103
    have hke104 : Ke σ18 σ102 := ke_nw hw19 e103
    have hz105 : tg σ0 (nx σ18) = 0 := z0_kp hk21 wo_X10_any hw19.1.fresh
    have hw100 := wc_e e103 hw100
    have hk106 := kp_ke hk21 wo_X10_any hke104
    have hg107 : tg σ102 a0 = 9 := ke_tg hke104 hg22 (by decide)
    have hg108 : tg σ102 (nx σ18) = (-13) := tg_nw e103
    refine lv_dup (pc := 110) K.x K.b dX10_single_110 (jR_cat _ _) ?_
    refine z_aload_n (pc := 111) K dX10_single_111 rfl (lv_at hl 0 rfl) ?_
    refine lv_iload_n (pc := 112) K.x K.b dX10_single_112 rfl (lv_at hl 1 rfl) ?_
    refine z_iconst (pc := 113) K dX10_single_113 ?_
    refine z_iadd (pc := 114) K dX10_single_114 ?_
    obtain ⟨hr109, h⟩ := h
    refine zat_r (pc := 115) (maxL := 8) K hw100 (hRc2 σ102 a0 (x1 + 1) hg107 hr109 (cr - 1) hcr101.2.2 _ _ h) (i_V (n := 1) (t := 9) (As := [jI (x1 + 1)]) K hw100 (ob hg107) zq9 (by decide) q1228 q1230 qs25 (sg_of K q1231) rfl rfl dX10_single_115) (locw K q1231 q101) (zr_ok2A (by omega) (by omega)) hl.1 dX10_single_115 (by simp [jR_cat, jI_cat, jL_cat]) hcr101 (Int.toNat_of_nonneg hcr101.2.2) ⟨Nat.le_refl _, Nat.le_refl _⟩ (fun r110 σ113 _ _ _ _ cr115 hr111 hq112 hw114 hcr116 => ?_) (fun x σx _ _ _ _ crx hx0 hqx hwx hcx => ?_)
    rotate_left
    · obtain ⟨htx, hkx, h⟩ := hqx
      have h := h hkx
      exact za_out K hwx hcx hx0 ⟨htx, kp_trans wo_X10_any hk106 hkx (fun _ q => q) (by decide), h⟩ (no_cov hex 115)
    obtain ⟨hk117, h⟩ := hq112
    have h := h hk117
    have hk118 := kp_trans wo_X10_any hk106 hk117 (fun _ q => q) (by decide)
    have hg119 : tg σ113 a0 = 9 := kp_tg hk117 wo_X10_any hg107 (by decide)
    have hg120 : tg σ113 (nx σ18) = -13 := kp_tg hk117 wo_X10_any hg108 (by decide)
    obtain ⟨hn121, h⟩ := h
    refine zc_v (pc := 118) (maxL := 2) K hw114 (met_X16_init X l σ113 (nx σ18) r110 hg120 ((hr111).resolve_left hn121) _ h) (i_I (n := 1) (As := [jR X r110]) K (hw114.1.pos (by rw [hg120]; decide)).1 (by decide) rfl q1251 q1252 q1253 rfl rfl dX10_single_118) (locw K q1253 q116) (zr_ok2A (by omega) (by omega)) hl.1 dX10_single_118 (Nat.le_of_ble_eq_true rfl) (cr_le hcr116) (fun σ125 _ _ hq124 hw126 => ?_)
    obtain ⟨hk127, hg128, h⟩ := hq124
    have h := h hk127 hg128
    have hk129 := kp_ki hk118 wo_X10_any hk127 hz105
    have hg130 : tg σ125 a0 = 9 := ki_tg hk127 hg119 (by decide) hg120 (by decide)
    have hg131 : tg σ125 (nx σ18) = 13 := hg128
    exact za_aret (pc := 121) K hw126 hcr116 (Or.inr (ok100 hg131 (by decide))) ⟨hk129, h⟩ dX10_single_121
set_option maxHeartbeats 4000000 in
theorem wk_X10_single_b84 {X : Cxt} {p : Program} {l : Launch} {e : Env} {s : State} {m : MethodId} {args : Array Value} {below : List Frame} {meth : Method} {c : Code} {C0 : Nat} (a0 : Int) (x1 : Int) (Q : Int → St → Int → Prop) (E : Int → St → Int → Prop) (σ0 : St) (Rc : Nat → St → Int → Int → Int → (Int → St → Int → Prop) → (Int → St → Int → Prop) → Prop) (K : MCx X p s m args meth c cX10_single 8 "CombTable$SentenceReader" (some (.object "CombTable$Cond"))) (hex : c.exceptionTable.isEmpty = true) (hx1 : rng x1) (nr : Nat) (hRc0 : ∀ (σ : St) (a0 : Int) (x1 : Int) (ht0 : tg σ a0 = 9) (hx1 : rng x1) (cr : Int) (hcr0 : 0 ≤ cr) (Q : Int → St → Int → Prop) (E : Int → St → Int → Prop), Rc 0 σ a0 x1 cr Q E → MetA X l yX10_any (ws_ yX10_any cX10_any 3 (some (.object "CombTable$Cond"))) (8 + nr) cr.toNat (ZP X σ [jR X a0, jI x1]) (qRA X 100 (fun r σ' cr => Kp ws_X10_any σ σ' ∧ Q r σ' cr)) (fun x σ' cr => tg σ' x = 2 ∧ Kp ws_X10_any σ σ' ∧ E x σ' cr)) (hRc1 : ∀ (σ : St) (a0 : Int) (x1 : Int) (ht0 : tg σ a0 = 9) (hx1 : rng x1) (cr : Int) (hcr0 : 0 ≤ cr) (Q : Int → St → Int → Prop) (E : Int → St → Int → Prop), Rc 1 σ a0 x1 cr Q E → MetA X l yX10_both (ws_ yX10_both cX10_both 3 (some (.object "CombTable$Cond"))) (8 + nr) cr.toNat (ZP X σ [jR X a0, jI x1]) (qRA X 100 (fun r σ' cr => Kp ws_X10_any σ σ' ∧ Q r σ' cr)) (fun x σ' cr => tg σ' x = 2 ∧ Kp ws_X10_any σ σ' ∧ E x σ' cr)) (hRc2 : ∀ (σ : St) (a0 : Int) (x1 : Int) (ht0 : tg σ a0 = 9) (hx1 : rng x1) (cr : Int) (hcr0 : 0 ≤ cr) (Q : Int → St → Int → Prop) (E : Int → St → Int → Prop), Rc 2 σ a0 x1 cr Q E → MetA X l yX10_single (ws_ yX10_single cX10_single 8 (some (.object "CombTable$Cond"))) (8 + nr) cr.toNat (ZP X σ [jR X a0, jI x1]) (qRA X 100 (fun r σ' cr => Kp ws_X10_any σ σ' ∧ Q r σ' cr)) (fun x σ' cr => tg σ' x = 2 ∧ Kp ws_X10_any σ σ' ∧ E x σ' cr)) : ∀ (σ : St) (cr : Int) (v2 : Int) (v3 : Int) (v4 : Int) (v5 : Int) (cells slots : Nat) (H : Heap) (locs : List Loc) (ls : Array Slot), wp_X10_single_b84 a0 x1 Q E σ0 Rc σ cr v2 v3 v4 v5 → Wc X σ s.heap H locs → Kp ws_X10_any σ0 σ → Cr C0 cells slots cr → tg σ a0 = 9 → (0 ≤ v2 ∧ v2 ≤ 1) → (0 ≤ v3 ∧ v3 ≤ 1) → rng v4 → rng v5 → lv_has ls 8 [(0, jR X a0), (1, jI x1), (2, jI v2), (3, jI v3), (4, jI v4), (5, jI v5)] → W p l e (zrm (8 + nr + 1) C0 C0) s m args below meth c H locs cells slots (MQA X below C0 (qRA X 100 (fun r σ' cr => Kp ws_X10_any σ0 σ' ∧ Q r σ' cr)) (fun x σ' cr => tg σ' x = 2 ∧ Kp ws_X10_any σ0 σ' ∧ E x σ' cr) args s) (F0 m 84 ls [jR X a0]) := by
  intro σ cr v2 v3 v4 v5 cells slots H locs ls h hw hk hcr ht0 hv2 hv3 hv4 hv5 hl
  refine z_iconst (pc := 84) K dX10_single_84 ?_
  exact wk_X10_single_b85 a0 x1 Q E σ0 Rc K hex hx1 nr hRc0 hRc1 hRc2 σ cr v2 v3 v4 v5 0 _ _ _ _ _ h hw hk hcr ht0 hv2 hv3 hv4 hv5 ⟨by decide, by decide⟩ (lv_sub hl [0, 1, 2, 3, 4, 5] rfl)
set_option maxHeartbeats 4000000 in
theorem wk_X10_single_b60 {X : Cxt} {p : Program} {l : Launch} {e : Env} {s : State} {m : MethodId} {args : Array Value} {below : List Frame} {meth : Method} {c : Code} {C0 : Nat} (a0 : Int) (x1 : Int) (Q : Int → St → Int → Prop) (E : Int → St → Int → Prop) (σ0 : St) (Rc : Nat → St → Int → Int → Int → (Int → St → Int → Prop) → (Int → St → Int → Prop) → Prop) (K : MCx X p s m args meth c cX10_single 8 "CombTable$SentenceReader" (some (.object "CombTable$Cond"))) (hex : c.exceptionTable.isEmpty = true) (hx1 : rng x1) (nr : Nat) (hRc0 : ∀ (σ : St) (a0 : Int) (x1 : Int) (ht0 : tg σ a0 = 9) (hx1 : rng x1) (cr : Int) (hcr0 : 0 ≤ cr) (Q : Int → St → Int → Prop) (E : Int → St → Int → Prop), Rc 0 σ a0 x1 cr Q E → MetA X l yX10_any (ws_ yX10_any cX10_any 3 (some (.object "CombTable$Cond"))) (8 + nr) cr.toNat (ZP X σ [jR X a0, jI x1]) (qRA X 100 (fun r σ' cr => Kp ws_X10_any σ σ' ∧ Q r σ' cr)) (fun x σ' cr => tg σ' x = 2 ∧ Kp ws_X10_any σ σ' ∧ E x σ' cr)) (hRc1 : ∀ (σ : St) (a0 : Int) (x1 : Int) (ht0 : tg σ a0 = 9) (hx1 : rng x1) (cr : Int) (hcr0 : 0 ≤ cr) (Q : Int → St → Int → Prop) (E : Int → St → Int → Prop), Rc 1 σ a0 x1 cr Q E → MetA X l yX10_both (ws_ yX10_both cX10_both 3 (some (.object "CombTable$Cond"))) (8 + nr) cr.toNat (ZP X σ [jR X a0, jI x1]) (qRA X 100 (fun r σ' cr => Kp ws_X10_any σ σ' ∧ Q r σ' cr)) (fun x σ' cr => tg σ' x = 2 ∧ Kp ws_X10_any σ σ' ∧ E x σ' cr)) (hRc2 : ∀ (σ : St) (a0 : Int) (x1 : Int) (ht0 : tg σ a0 = 9) (hx1 : rng x1) (cr : Int) (hcr0 : 0 ≤ cr) (Q : Int → St → Int → Prop) (E : Int → St → Int → Prop), Rc 2 σ a0 x1 cr Q E → MetA X l yX10_single (ws_ yX10_single cX10_single 8 (some (.object "CombTable$Cond"))) (8 + nr) cr.toNat (ZP X σ [jR X a0, jI x1]) (qRA X 100 (fun r σ' cr => Kp ws_X10_any σ σ' ∧ Q r σ' cr)) (fun x σ' cr => tg σ' x = 2 ∧ Kp ws_X10_any σ σ' ∧ E x σ' cr)) : ∀ (σ : St) (cr : Int) (v2 : Int) (v3 : Int) (v4 : Int) (v5 : Int) (s1 : Int) (cells slots : Nat) (H : Heap) (locs : List Loc) (ls : Array Slot), wp_X10_single_b60 a0 x1 Q E σ0 Rc σ cr v2 v3 v4 v5 s1 → Wc X σ s.heap H locs → Kp ws_X10_any σ0 σ → Cr C0 cells slots cr → tg σ a0 = 9 → (0 ≤ v2 ∧ v2 ≤ 1) → (0 ≤ v3 ∧ v3 ≤ 1) → rng v4 → rng v5 → (0 ≤ s1 ∧ s1 ≤ 1) → lv_has ls 8 [(0, jR X a0), (1, jI x1), (2, jI v2), (3, jI v3), (4, jI v4), (5, jI v5)] → W p l e (zrm (8 + nr + 1) C0 C0) s m args below meth c H locs cells slots (MQA X below C0 (qRA X 100 (fun r σ' cr => Kp ws_X10_any σ0 σ' ∧ Q r σ' cr)) (fun x σ' cr => tg σ' x = 2 ∧ Kp ws_X10_any σ0 σ' ∧ E x σ' cr) args s) (F0 m 60 ls [jI s1, jR X a0]) := by
  intro σ cr v2 v3 v4 v5 s1 cells slots H locs ls h hw hk hcr ht0 hv2 hv3 hv4 hv5 hs1 hl
  refine z_iconst (pc := 60) K dX10_single_60 ?_
  refine zt_v (pc := 61) (maxL := 3) K hw (met_X6_must_9 X l σ a0 s1 1 ht0 hs1 ⟨by decide, by decide⟩ _ _ h) (i_VU (n := 2) (t := 9) (As := [jI s1, jI 1]) (owner := "CombTable$Reader") K hw (ob ht0) zq9 (by decide) (by decide) q1243 q1244 q758 q1245 (dcl_of K q758 q759) rfl rfl dX10_single_61) (locw K q759 q97) (zr_ok2A (by omega) (by omega)) hl.1 dX10_single_61 (Nat.le_of_ble_eq_true rfl) (cr_le hcr) (fun σ4 _ _ hq3 hw5 => ?_) (fun x σx _ _ hx0 hqx hwx => ?_)
  rotate_left
  · obtain ⟨htx, hkx, h⟩ := hqx
    have h := h hkx
    exact za_out K hwx hcr hx0 ⟨htx, kp_trans wo_X10_any hk hkx (fun _ q => q) (by decide), h⟩ (no_cov hex 61)
  obtain ⟨hk6, h⟩ := hq3
  have h := h hk6
  have hk7 := kp_trans wo_X10_any hk hk6 (fun _ q => q) (by decide)
  have hg8 : tg σ4 a0 = 9 := kp_tg hk6 wo_X6_must ht0 (by decide)
  refine z_aload_n (pc := 64) K dX10_single_64 rfl (lv_at hl 0 rfl) ?_
  refine z_aload_n (pc := 65) K dX10_single_65 rfl (lv_at hl 0 rfl) ?_
  refine z_get (pc := 66) (t := 9) (k := 10) K hw5 (ob (t := 9) hg8) zq9 (by decide) q485 (fun _ h => h) dX10_single_66 (zval_i kf_9_10) ?_
  refine z_bipush (pc := 69) K dX10_single_69 (by decide) ?_
  refine z_icmp_ge (pc := 71) (tgt := 84) K (z_rI hw5 (ob (t := 9) hg8) kf_9_10) ⟨by decide, by decide⟩ dX10_single_71 (by decide) (fun hc9 => ?_) (fun hc9 => ?_)
  · have h := ite_t h hc9
    refine lv_iload_n (pc := 74) K.x K.b dX10_single_74 rfl (lv_at hl 1 rfl) ?_
    refine z_bipush (pc := 75) K dX10_single_75 (by decide) ?_
    refine z_icmp_gt (pc := 77) (tgt := 84) K hx1 ⟨by decide, by decide⟩ dX10_single_77 (by decide) (fun hc10 => ?_) (fun hc10 => ?_)
    · have h := ite_t h hc10
      refine z_iconst (pc := 80) K dX10_single_80 ?_
      refine z_goto (pc := 81) (tgt := 85) K dX10_single_81 (by decide) ?_
      exact wk_X10_single_b85 a0 x1 Q E σ0 Rc K hex hx1 nr hRc0 hRc1 hRc2 σ4 cr v2 v3 v4 v5 1 _ _ _ _ _ h hw5 hk7 hcr hg8 hv2 hv3 hv4 hv5 ⟨by decide, by decide⟩ (lv_sub hl [0, 1, 2, 3, 4, 5] rfl)
    · have h := ite_f h hc10
      exact wk_X10_single_b84 a0 x1 Q E σ0 Rc K hex hx1 nr hRc0 hRc1 hRc2 σ4 cr v2 v3 v4 v5 _ _ _ _ _ h hw5 hk7 hcr hg8 hv2 hv3 hv4 hv5 (lv_sub hl [0, 1, 2, 3, 4, 5] rfl)
  · have h := ite_f h hc9
    exact wk_X10_single_b84 a0 x1 Q E σ0 Rc K hex hx1 nr hRc0 hRc1 hRc2 σ4 cr v2 v3 v4 v5 _ _ _ _ _ h hw5 hk7 hcr hg8 hv2 hv3 hv4 hv5 (lv_sub hl [0, 1, 2, 3, 4, 5] rfl)
set_option maxHeartbeats 4000000 in
theorem wk_X10_single_b55 {X : Cxt} {p : Program} {l : Launch} {e : Env} {s : State} {m : MethodId} {args : Array Value} {below : List Frame} {meth : Method} {c : Code} {C0 : Nat} (a0 : Int) (x1 : Int) (Q : Int → St → Int → Prop) (E : Int → St → Int → Prop) (σ0 : St) (Rc : Nat → St → Int → Int → Int → (Int → St → Int → Prop) → (Int → St → Int → Prop) → Prop) (K : MCx X p s m args meth c cX10_single 8 "CombTable$SentenceReader" (some (.object "CombTable$Cond"))) (hex : c.exceptionTable.isEmpty = true) (hx1 : rng x1) (nr : Nat) (hRc0 : ∀ (σ : St) (a0 : Int) (x1 : Int) (ht0 : tg σ a0 = 9) (hx1 : rng x1) (cr : Int) (hcr0 : 0 ≤ cr) (Q : Int → St → Int → Prop) (E : Int → St → Int → Prop), Rc 0 σ a0 x1 cr Q E → MetA X l yX10_any (ws_ yX10_any cX10_any 3 (some (.object "CombTable$Cond"))) (8 + nr) cr.toNat (ZP X σ [jR X a0, jI x1]) (qRA X 100 (fun r σ' cr => Kp ws_X10_any σ σ' ∧ Q r σ' cr)) (fun x σ' cr => tg σ' x = 2 ∧ Kp ws_X10_any σ σ' ∧ E x σ' cr)) (hRc1 : ∀ (σ : St) (a0 : Int) (x1 : Int) (ht0 : tg σ a0 = 9) (hx1 : rng x1) (cr : Int) (hcr0 : 0 ≤ cr) (Q : Int → St → Int → Prop) (E : Int → St → Int → Prop), Rc 1 σ a0 x1 cr Q E → MetA X l yX10_both (ws_ yX10_both cX10_both 3 (some (.object "CombTable$Cond"))) (8 + nr) cr.toNat (ZP X σ [jR X a0, jI x1]) (qRA X 100 (fun r σ' cr => Kp ws_X10_any σ σ' ∧ Q r σ' cr)) (fun x σ' cr => tg σ' x = 2 ∧ Kp ws_X10_any σ σ' ∧ E x σ' cr)) (hRc2 : ∀ (σ : St) (a0 : Int) (x1 : Int) (ht0 : tg σ a0 = 9) (hx1 : rng x1) (cr : Int) (hcr0 : 0 ≤ cr) (Q : Int → St → Int → Prop) (E : Int → St → Int → Prop), Rc 2 σ a0 x1 cr Q E → MetA X l yX10_single (ws_ yX10_single cX10_single 8 (some (.object "CombTable$Cond"))) (8 + nr) cr.toNat (ZP X σ [jR X a0, jI x1]) (qRA X 100 (fun r σ' cr => Kp ws_X10_any σ σ' ∧ Q r σ' cr)) (fun x σ' cr => tg σ' x = 2 ∧ Kp ws_X10_any σ σ' ∧ E x σ' cr)) : ∀ (σ : St) (cr : Int) (v2 : Int) (v3 : Int) (v4 : Int) (v5 : Int) (cells slots : Nat) (H : Heap) (locs : List Loc) (ls : Array Slot), wp_X10_single_b55 a0 x1 Q E σ0 Rc σ cr v2 v3 v4 v5 → Wc X σ s.heap H locs → Kp ws_X10_any σ0 σ → Cr C0 cells slots cr → tg σ a0 = 9 → (0 ≤ v2 ∧ v2 ≤ 1) → (0 ≤ v3 ∧ v3 ≤ 1) → rng v4 → rng v5 → lv_has ls 8 [(0, jR X a0), (1, jI x1), (2, jI v2), (3, jI v3), (4, jI v4), (5, jI v5)] → W p l e (zrm (8 + nr + 1) C0 C0) s m args below meth c H locs cells slots (MQA X below C0 (qRA X 100 (fun r σ' cr => Kp ws_X10_any σ0 σ' ∧ Q r σ' cr)) (fun x σ' cr => tg σ' x = 2 ∧ Kp ws_X10_any σ0 σ' ∧ E x σ' cr) args s) (F0 m 55 ls [jR X a0]) := by
  intro σ cr v2 v3 v4 v5 cells slots H locs ls h hw hk hcr ht0 hv2 hv3 hv4 hv5 hl
  refine z_iconst (pc := 55) K dX10_single_55 ?_
  refine z_goto (pc := 56) (tgt := 60) K dX10_single_56 (by decide) ?_
  exact wk_X10_single_b60 a0 x1 Q E σ0 Rc K hex hx1 nr hRc0 hRc1 hRc2 σ cr v2 v3 v4 v5 1 _ _ _ _ _ h hw hk hcr ht0 hv2 hv3 hv4 hv5 ⟨by decide, by decide⟩ (lv_sub hl [0, 1, 2, 3, 4, 5] rfl)
set_option maxHeartbeats 4000000 in
theorem mb_X10_single (X : Cxt) (l : Launch) (nr : Nat) (Rc : Nat → St → Int → Int → Int → (Int → St → Int → Prop) → (Int → St → Int → Prop) → Prop) (hRc0 : ∀ (σ : St) (a0 : Int) (x1 : Int) (ht0 : tg σ a0 = 9) (hx1 : rng x1) (cr : Int) (hcr0 : 0 ≤ cr) (Q : Int → St → Int → Prop) (E : Int → St → Int → Prop), Rc 0 σ a0 x1 cr Q E → MetA X l yX10_any (ws_ yX10_any cX10_any 3 (some (.object "CombTable$Cond"))) (8 + nr) cr.toNat (ZP X σ [jR X a0, jI x1]) (qRA X 100 (fun r σ' cr => Kp ws_X10_any σ σ' ∧ Q r σ' cr)) (fun x σ' cr => tg σ' x = 2 ∧ Kp ws_X10_any σ σ' ∧ E x σ' cr)) (hRc1 : ∀ (σ : St) (a0 : Int) (x1 : Int) (ht0 : tg σ a0 = 9) (hx1 : rng x1) (cr : Int) (hcr0 : 0 ≤ cr) (Q : Int → St → Int → Prop) (E : Int → St → Int → Prop), Rc 1 σ a0 x1 cr Q E → MetA X l yX10_both (ws_ yX10_both cX10_both 3 (some (.object "CombTable$Cond"))) (8 + nr) cr.toNat (ZP X σ [jR X a0, jI x1]) (qRA X 100 (fun r σ' cr => Kp ws_X10_any σ σ' ∧ Q r σ' cr)) (fun x σ' cr => tg σ' x = 2 ∧ Kp ws_X10_any σ σ' ∧ E x σ' cr)) (hRc2 : ∀ (σ : St) (a0 : Int) (x1 : Int) (ht0 : tg σ a0 = 9) (hx1 : rng x1) (cr : Int) (hcr0 : 0 ≤ cr) (Q : Int → St → Int → Prop) (E : Int → St → Int → Prop), Rc 2 σ a0 x1 cr Q E → MetA X l yX10_single (ws_ yX10_single cX10_single 8 (some (.object "CombTable$Cond"))) (8 + nr) cr.toNat (ZP X σ [jR X a0, jI x1]) (qRA X 100 (fun r σ' cr => Kp ws_X10_any σ σ' ∧ Q r σ' cr)) (fun x σ' cr => tg σ' x = 2 ∧ Kp ws_X10_any σ σ' ∧ E x σ' cr)) (σ : St) (a0 : Int) (x1 : Int) (ht0 : tg σ a0 = 9) (hx1 : rng x1) (cr : Int) (hcr0 : 0 ≤ cr) (Q : Int → St → Int → Prop) (E : Int → St → Int → Prop) (h : bd_X10_single Rc σ a0 x1 cr Q E) : MetA X l yX10_single (ws_ yX10_single cX10_single 8 (some (.object "CombTable$Cond"))) (8 + nr + 1) cr.toNat (ZP X σ [jR X a0, jI x1]) (qRA X 100 (fun r σ' cr => Kp ws_X10_any σ σ' ∧ Q r σ' cr)) (fun x σ' cr => tg σ' x = 2 ∧ Kp ws_X10_any σ σ' ∧ E x σ' cr) := by
  have hcr : Cr cr.toNat 0 0 cr := by unfold Cr; omega
  refine z_startA (own := "CombTable$SentenceReader") (lv := [(0, jR X a0), (1, jI x1)]) (by decide) rfl (by simp [lv_args, jR_cat, jI_cat, jL_cat]) (by simp [lg_sl, jR_cat, jI_cat, jL_cat]) (fun p e s m below meth c ls _ K hex _ hw hl => ?_)
  have hk : Kp ws_X10_any σ σ := kp_rf σ
  refine z_aload_n (pc := 0) K dX10_single_0 rfl (lv_at hl 0 rfl) ?_
  refine z_ldcS (pc := 1) (i := 35) K (-37) (by decide) (tx := "not") rfl dX10_single_1 ?_
  refine zr_z (pc := 3) (maxL := 3) K hw (met_X6_is_9 X l σ a0 (-37) ht0 ⟨by decide, by decide⟩ _ h) (i_VU (n := 1) (t := 9) (As := [jR X (-37)]) (owner := "CombTable$Reader") K hw (ob ht0) zq9 (by decide) (by decide) q1233 q1234 q699 q1235 (dcl_of K q699 q705) rfl rfl dX10_single_3) (locw K q705 q97) (zr_ok2A (by omega) (by omega)) hl.1 dX10_single_3 (Nat.le_of_ble_eq_true rfl) (cr_le hcr) (fun r1 _ _ hr2 h hw5 => ?_)
  refine lv_istore_n (pc := 6) (lv' := [(2, jI r1), (0, jR X a0), (1, jI x1)]) K.x K.b dX10_single_6 rfl hl (by decide) rfl (fun ls hl => ?_)
  refine z_aload_n (pc := 7) K dX10_single_7 rfl (lv_at hl 1 rfl) ?_
  refine z_bipush (pc := 8) K dX10_single_8 (by decide) ?_
  refine zr_z (pc := 10) (maxL := 2) K hw5 (met_X6_is_2_9 X l σ a0 40 ht0 ⟨by decide, by decide⟩ _ h) (i_VU (n := 1) (t := 9) (As := [jI 40]) (owner := "CombTable$Reader") K hw5 (ob ht0) zq9 (by decide) (by decide) q1236 q1237 q879 q1239 (dcl_of K q879 q885) rfl rfl dX10_single_10) (locw K q885 q97) (zr_ok2A (by omega) (by omega)) hl.1 dX10_single_10 (Nat.le_of_ble_eq_true rfl) (cr_le hcr) (fun r6 _ _ hr7 h hw10 => ?_)
  refine lv_istore_n (pc := 13) (lv' := [(3, jI r6), (2, jI r1), (0, jR X a0), (1, jI x1)]) K.x K.b dX10_single_13 rfl hl (by decide) rfl (fun ls hl => ?_)
  refine z_aload_n (pc := 14) K dX10_single_14 rfl (lv_at hl 2 rfl) ?_
  refine z_aload_n (pc := 15) K dX10_single_15 rfl (lv_at hl 2 rfl) ?_
  refine z_get (pc := 16) (t := 9) (k := 8) K hw10 (ob (t := 9) ht0) zq9 (by decide) q483 (fun _ h => h) dX10_single_16 (zval_p (κ := 4) kf_9_8) ?_
  refine zr_i (pc := 19) (maxL := 3) K hw10 (met_X6_find_9_9 X l σ a0 a0 8 3 ht0 ht0 kf_9_8 kl_9_8 kt_9_8 _ h) (i_VU (n := 1) (t := 9) (As := [jR X (σ a0 8 (-1))]) (owner := "CombTable$Reader") K hw10 (ob ht0) zq9 (by decide) (by decide) q1240 q1241 q696 q1242 (dcl_of K q696 q697) rfl rfl dX10_single_19) (locw K q697 q97) (zr_ok2A (by omega) (by omega)) hl.1 dX10_single_19 (Nat.le_of_ble_eq_true rfl) (cr_le hcr) (fun r11 _ _ hr12 h hw15 => ?_)
  refine lv_istore (pc := 22) (lv' := [(4, jI r11), (3, jI r6), (2, jI r1), (0, jR X a0), (1, jI x1)]) K.x K.b dX10_single_22 hl (by decide) rfl (fun ls hl => ?_)
  refine z_aload_n (pc := 24) K dX10_single_24 rfl (lv_at hl 3 rfl) ?_
  refine z_aload_n (pc := 25) K dX10_single_25 rfl (lv_at hl 3 rfl) ?_
  refine z_get (pc := 26) (t := 9) (k := 9) K hw15 (ob (t := 9) ht0) zq9 (by decide) q484 (fun _ h => h) dX10_single_26 (zval_p (κ := 4) kf_9_9) ?_
  refine zr_i (pc := 29) (maxL := 3) K hw15 (met_X6_find_9_9 X l σ a0 a0 9 4 ht0 ht0 kf_9_9 kl_9_9 kt_9_9 _ h) (i_VU (n := 1) (t := 9) (As := [jR X (σ a0 9 (-1))]) (owner := "CombTable$Reader") K hw15 (ob ht0) zq9 (by decide) (by decide) q1240 q1241 q696 q1242 (dcl_of K q696 q697) rfl rfl dX10_single_29) (locw K q697 q97) (zr_ok2A (by omega) (by omega)) hl.1 dX10_single_29 (Nat.le_of_ble_eq_true rfl) (cr_le hcr) (fun r16 _ _ hr17 h hw20 => ?_)
  refine lv_istore (pc := 32) (lv' := [(5, jI r16), (4, jI r11), (3, jI r6), (2, jI r1), (0, jR X a0), (1, jI x1)]) K.x K.b dX10_single_32 hl (by decide) rfl (fun ls hl => ?_)
  refine z_aload_n (pc := 34) K dX10_single_34 rfl (lv_at hl 4 rfl) ?_
  refine lv_iload_n (pc := 35) K.x K.b dX10_single_35 rfl (lv_at hl 3 rfl) ?_
  refine z_if_ne (pc := 36) (tgt := 55) K (b01r hr2) dX10_single_36 (by decide) (fun hc21 => ?_) (fun hc21 => ?_)
  · have h := ite_t h hc21
    refine lv_iload_n (pc := 39) K.x K.b dX10_single_39 rfl (lv_at hl 2 rfl) ?_
    refine z_if_ne (pc := 40) (tgt := 55) K (b01r hr7) dX10_single_40 (by decide) (fun hc22 => ?_) (fun hc22 => ?_)
    · have h := ite_t h hc22
      refine lv_iload (pc := 43) K.x K.b dX10_single_43 (lv_at hl 1 rfl) ?_
      refine z_iconst (pc := 45) K dX10_single_45 ?_
      refine z_icmp_ne (pc := 46) (tgt := 55) K hr12 ⟨by decide, by decide⟩ dX10_single_46 (by decide) (fun hc23 => ?_) (fun hc23 => ?_)
      · have h := ite_t h hc23
        refine lv_iload (pc := 49) K.x K.b dX10_single_49 (lv_at hl 0 rfl) ?_
        refine z_iconst (pc := 51) K dX10_single_51 ?_
        refine z_icmp_eq (pc := 52) (tgt := 59) K hr17 ⟨by decide, by decide⟩ dX10_single_52 (by decide) (fun hc24 => ?_) (fun hc24 => ?_)
        · have h := ite_t h hc24
          refine z_iconst (pc := 59) K dX10_single_59 ?_
          exact wk_X10_single_b60 a0 x1 Q E σ Rc K hex hx1 nr hRc0 hRc1 hRc2 σ cr r1 r6 r11 r16 0 _ _ _ _ _ h hw20 hk hcr ht0 hr2 hr7 hr12 hr17 ⟨by decide, by decide⟩ (lv_sub hl [4, 5, 3, 2, 1, 0] rfl)
        · have h := ite_f h hc24
          exact wk_X10_single_b55 a0 x1 Q E σ Rc K hex hx1 nr hRc0 hRc1 hRc2 σ cr r1 r6 r11 r16 _ _ _ _ _ h hw20 hk hcr ht0 hr2 hr7 hr12 hr17 (lv_sub hl [4, 5, 3, 2, 1, 0] rfl)
      · have h := ite_f h hc23
        exact wk_X10_single_b55 a0 x1 Q E σ Rc K hex hx1 nr hRc0 hRc1 hRc2 σ cr r1 r6 r11 r16 _ _ _ _ _ h hw20 hk hcr ht0 hr2 hr7 hr12 hr17 (lv_sub hl [4, 5, 3, 2, 1, 0] rfl)
    · have h := ite_f h hc22
      exact wk_X10_single_b55 a0 x1 Q E σ Rc K hex hx1 nr hRc0 hRc1 hRc2 σ cr r1 r6 r11 r16 _ _ _ _ _ h hw20 hk hcr ht0 hr2 hr7 hr12 hr17 (lv_sub hl [4, 5, 3, 2, 1, 0] rfl)
  · have h := ite_f h hc21
    exact wk_X10_single_b55 a0 x1 Q E σ Rc K hex hx1 nr hRc0 hRc1 hRc2 σ cr r1 r6 r11 r16 _ _ _ _ _ h hw20 hk hcr ht0 hr2 hr7 hr12 hr17 (lv_sub hl [4, 5, 3, 2, 1, 0] rfl)
theorem mg_X10_any (X : Cxt) (l : Launch) : ∀ n : Nat, (∀ (σ : St) (a0 : Int) (x1 : Int) (ht0 : tg σ a0 = 9) (hx1 : rng x1) (cr : Int) (hcr0 : 0 ≤ cr) (Q : Int → St → Int → Prop) (E : Int → St → Int → Prop), wg_X10_any n 0 σ a0 x1 cr Q E → MetA X l yX10_any (ws_ yX10_any cX10_any 3 (some (.object "CombTable$Cond"))) (8 + n) cr.toNat (ZP X σ [jR X a0, jI x1]) (qRA X 100 (fun r σ' cr => Kp ws_X10_any σ σ' ∧ Q r σ' cr)) (fun x σ' cr => tg σ' x = 2 ∧ Kp ws_X10_any σ σ' ∧ E x σ' cr)) ∧ (∀ (σ : St) (a0 : Int) (x1 : Int) (ht0 : tg σ a0 = 9) (hx1 : rng x1) (cr : Int) (hcr0 : 0 ≤ cr) (Q : Int → St → Int → Prop) (E : Int → St → Int → Prop), wg_X10_any n 1 σ a0 x1 cr Q E → MetA X l yX10_both (ws_ yX10_both cX10_both 3 (some (.object "CombTable$Cond"))) (8 + n) cr.toNat (ZP X σ [jR X a0, jI x1]) (qRA X 100 (fun r σ' cr => Kp ws_X10_any σ σ' ∧ Q r σ' cr)) (fun x σ' cr => tg σ' x = 2 ∧ Kp ws_X10_any σ σ' ∧ E x σ' cr)) ∧ (∀ (σ : St) (a0 : Int) (x1 : Int) (ht0 : tg σ a0 = 9) (hx1 : rng x1) (cr : Int) (hcr0 : 0 ≤ cr) (Q : Int → St → Int → Prop) (E : Int → St → Int → Prop), wg_X10_any n 2 σ a0 x1 cr Q E → MetA X l yX10_single (ws_ yX10_single cX10_single 8 (some (.object "CombTable$Cond"))) (8 + n) cr.toNat (ZP X σ [jR X a0, jI x1]) (qRA X 100 (fun r σ' cr => Kp ws_X10_any σ σ' ∧ Q r σ' cr)) (fun x σ' cr => tg σ' x = 2 ∧ Kp ws_X10_any σ σ' ∧ E x σ' cr)) := by
  intro n
  induction n with
  | zero => exact ⟨fun σ a0 x1 ht0 hx1 cr hcr0 Q E h => h.elim, fun σ a0 x1 ht0 hx1 cr hcr0 Q E h => h.elim, fun σ a0 x1 ht0 hx1 cr hcr0 Q E h => h.elim⟩
  | succ n ih => exact ⟨fun σ a0 x1 ht0 hx1 cr hcr0 Q E h => mb_X10_any X l n (wg_X10_any n) ih.1 ih.2.1 ih.2.2 σ a0 x1 ht0 hx1 cr hcr0 Q E h, fun σ a0 x1 ht0 hx1 cr hcr0 Q E h => mb_X10_both X l n (wg_X10_any n) ih.1 ih.2.1 ih.2.2 σ a0 x1 ht0 hx1 cr hcr0 Q E h, fun σ a0 x1 ht0 hx1 cr hcr0 Q E h => mb_X10_single X l n (wg_X10_any n) ih.1 ih.2.1 ih.2.2 σ a0 x1 ht0 hx1 cr hcr0 Q E h⟩
theorem met_X10_any (X : Cxt) (l : Launch) (n : Nat) : ∀ (σ : St) (a0 : Int) (x1 : Int) (ht0 : tg σ a0 = 9) (hx1 : rng x1) (cr : Int) (hcr0 : 0 ≤ cr) (Q : Int → St → Int → Prop) (E : Int → St → Int → Prop), wg_X10_any n 0 σ a0 x1 cr Q E → MetA X l yX10_any (ws_ yX10_any cX10_any 3 (some (.object "CombTable$Cond"))) (8 + n) cr.toNat (ZP X σ [jR X a0, jI x1]) (qRA X 100 (fun r σ' cr => Kp ws_X10_any σ σ' ∧ Q r σ' cr)) (fun x σ' cr => tg σ' x = 2 ∧ Kp ws_X10_any σ σ' ∧ E x σ' cr) := (mg_X10_any X l n).1
theorem met_X10_both (X : Cxt) (l : Launch) (n : Nat) : ∀ (σ : St) (a0 : Int) (x1 : Int) (ht0 : tg σ a0 = 9) (hx1 : rng x1) (cr : Int) (hcr0 : 0 ≤ cr) (Q : Int → St → Int → Prop) (E : Int → St → Int → Prop), wg_X10_any n 1 σ a0 x1 cr Q E → MetA X l yX10_both (ws_ yX10_both cX10_both 3 (some (.object "CombTable$Cond"))) (8 + n) cr.toNat (ZP X σ [jR X a0, jI x1]) (qRA X 100 (fun r σ' cr => Kp ws_X10_any σ σ' ∧ Q r σ' cr)) (fun x σ' cr => tg σ' x = 2 ∧ Kp ws_X10_any σ σ' ∧ E x σ' cr) := (mg_X10_any X l n).2.1
theorem met_X10_single (X : Cxt) (l : Launch) (n : Nat) : ∀ (σ : St) (a0 : Int) (x1 : Int) (ht0 : tg σ a0 = 9) (hx1 : rng x1) (cr : Int) (hcr0 : 0 ≤ cr) (Q : Int → St → Int → Prop) (E : Int → St → Int → Prop), wg_X10_any n 2 σ a0 x1 cr Q E → MetA X l yX10_single (ws_ yX10_single cX10_single 8 (some (.object "CombTable$Cond"))) (8 + n) cr.toNat (ZP X σ [jR X a0, jI x1]) (qRA X 100 (fun r σ' cr => Kp ws_X10_any σ σ' ∧ Q r σ' cr)) (fun x σ' cr => tg σ' x = 2 ∧ Kp ws_X10_any σ σ' ∧ E x σ' cr) := (mg_X10_any X l n).2.2
def ws_X10_read : List (Int × Nat) := [(2, 6), (2, 7), (6, 1), (6, 2), (6, 3), (6, 4), (6, 5), (6, 6), (7, 1), (7, 2), (7, 3), (7, 4), (7, 5), (7, 6), (8, 1), (8, 2), (8, 3), (8, 4), (8, 5), (8, 6), (9, 1), (9, 2), (9, 3), (9, 4), (9, 5), (9, 6), (9, 10)]
theorem wo_X10_read : wsOk ws_X10_read = true := rfl
def wp_X10_read_b28 (a0 : Int) (Q : Int → St → Int → Prop) (E : Int → St → Int → Prop) (σ0 : St) (σ : St) (cr : Int) (v1 : Int) (s1 : Int) : Prop :=
  wp_X6_must σ a0 s1 1 (fun σ4 => Kp ws_X6_must σ σ4 → Q v1 σ4 cr) (fun x σx => Kp ws_X6_must σ σx → E x σx cr)
def wp_X10_read (σ : St) (a0 : Int) (cr : Int) (Q : Int → St → Int → Prop) (E : Int → St → Int → Prop) : Prop :=
  ∀ σ2 : St, σ2 = st σ a0 10 0 0 → wp_X6_begin σ2 a0 (fun σ9 => Kp ws_X6_begin σ2 σ9 → wg_X10_any 64 0 σ9 a0 1 cr (fun r14 σ17 cr19 => Kp ws_X10_any σ9 σ17 → (if σ17 a0 3 0 = 0 then
    (wp_X10_read_b28 a0 Q E σ σ17 cr19 r14 1)
    else
    (wp_X10_read_b28 a0 Q E σ σ17 cr19 r14 0))) (fun x σx crx => Kp ws_X10_any σ9 σx → E x σx crx))
set_option maxHeartbeats 4000000 in
theorem wk_X10_read_b28 {X : Cxt} {p : Program} {l : Launch} {e : Env} {s : State} {m : MethodId} {args : Array Value} {below : List Frame} {meth : Method} {c : Code} {C0 : Nat} (a0 : Int) (Q : Int → St → Int → Prop) (E : Int → St → Int → Prop) (σ0 : St) (K : MCx X p s m args meth c cX10_read 2 "CombTable$SentenceReader" (some (.object "CombTable$Cond"))) (hex : c.exceptionTable.isEmpty = true) : ∀ (σ : St) (cr : Int) (v1 : Int) (s1 : Int) (cells slots : Nat) (H : Heap) (locs : List Loc) (ls : Array Slot), wp_X10_read_b28 a0 Q E σ0 σ cr v1 s1 → Wc X σ s.heap H locs → Kp ws_X10_read σ0 σ → Cr C0 cells slots cr → (v1 = -1 ∨ okR σ 100 v1) → tg σ a0 = 9 → (0 ≤ s1 ∧ s1 ≤ 1) → lv_has ls 2 [(1, jR X v1)] → W p l e (zrm 73 C0 C0) s m args below meth c H locs cells slots (MQA X below C0 (qRA X 100 (fun r σ' cr => Kp ws_X10_read σ0 σ' ∧ Q r σ' cr)) (fun x σ' cr => tg σ' x = 2 ∧ Kp ws_X10_read σ0 σ' ∧ E x σ' cr) args s) (F0 m 28 ls [jI s1, jR X a0]) := by
  intro σ cr v1 s1 cells slots H locs ls h hw hk hcr hov1 hts0 hs1 hl
  refine z_iconst (pc := 28) K dX10_read_28 ?_
  refine zt_v (pc := 29) (maxL := 3) K hw (met_X6_must_9 X l σ a0 s1 1 hts0 hs1 ⟨by decide, by decide⟩ _ _ h) (i_VU (n := 2) (t := 9) (As := [jI s1, jI 1]) (owner := "CombTable$Reader") K hw (ob hts0) zq9 (by decide) (by decide) q1243 q1244 q758 q1245 (dcl_of K q758 q759) rfl rfl dX10_read_29) (locw K q759 q97) (zr_ok2A (by decide) (by decide)) hl.1 dX10_read_29 (Nat.le_of_ble_eq_true rfl) (cr_le hcr) (fun σ4 _ _ hq3 hw5 => ?_) (fun x σx _ _ hx0 hqx hwx => ?_)
  rotate_left
  · obtain ⟨htx, hkx, h⟩ := hqx
    have h := h hkx
    exact za_out K hwx hcr hx0 ⟨htx, kp_trans wo_X10_read hk hkx (fun _ q => q) (by decide), h⟩ (no_cov hex 29)
  obtain ⟨hk6, h⟩ := hq3
  have h := h hk6
  have hk7 := kp_trans wo_X10_read hk hk6 (fun _ q => q) (by decide)
  have ho8 : v1 = -1 ∨ okR σ4 100 v1 := ((hov1).imp_right (fun q => kp_okR hk6 wo_X6_must q))
  refine z_aload_n (pc := 32) K dX10_read_32 rfl (lv_at hl 0 rfl) ?_
  exact za_aret (pc := 33) K hw5 hcr ho8 ⟨hk7, h⟩ dX10_read_33
set_option maxHeartbeats 4000000 in
theorem met_X10_read (X : Cxt) (l : Launch) (σ : St) (a0 : Int) (ht0 : tg σ a0 = 9) (cr : Int) (hcr0 : 0 ≤ cr) (Q : Int → St → Int → Prop) (E : Int → St → Int → Prop) (h : wp_X10_read σ a0 cr Q E) : MetA X l yX10_read (ws_ yX10_read cX10_read 2 (some (.object "CombTable$Cond"))) 73 cr.toNat (ZP X σ [jR X a0]) (qRA X 100 (fun r σ' cr => Kp ws_X10_read σ σ' ∧ Q r σ' cr)) (fun x σ' cr => tg σ' x = 2 ∧ Kp ws_X10_read σ σ' ∧ E x σ' cr) := by
  have hcr : Cr cr.toNat 0 0 cr := by unfold Cr; omega
  refine z_startA (own := "CombTable$SentenceReader") (lv := [(0, jR X a0)]) (by decide) rfl (by simp [lv_args, jR_cat, jI_cat, jL_cat]) (by simp [lg_sl, jR_cat, jI_cat, jL_cat]) (fun p e s m below meth c ls _ K hex _ hw hl => ?_)
  have hk : Kp ws_X10_read σ σ := kp_rf σ
  refine z_aload_n (pc := 0) K dX10_read_0 rfl (lv_at hl 0 rfl) ?_
  refine z_iconst (pc := 1) K dX10_read_1 ?_
  refine z_puti (pc := 2) (t := 9) 10 K hw (ob ht0) zq9 (by decide) kf_9_10 zt_9_10 ⟨by decide, by decide⟩ q485 (fun _ h => h) rfl dX10_read_2 (fun _ _ hw1 => ?_)
  obtain ⟨σ2, e3⟩ : ∃ z, z = st σ a0 10 0 0 := ⟨_, rfl⟩
  have h := h σ2 e3
  have hw1 := wc_e e3 hw1
  have hk4 := kp_e e3 hk wo_X10_read (by decide) ht0 (t := 9) (by decide)
  have hg5 : tg σ2 a0 = 9 := (tg_e e3 (by decide)).trans ht0
  refine z_aload_n (pc := 5) K dX10_read_5 rfl (lv_at hl 0 rfl) ?_
  refine zc_v (pc := 6) (maxL := 1) K hw1 (met_X6_begin_9 X l σ2 a0 hg5 _ h) (i_VU (n := 0) (t := 9) (As := []) (owner := "CombTable$Reader") K hw1 (ob hg5) zq9 (by decide) (by decide) q1217 q1218 q663 q1219 (dcl_of K q663 q664) rfl rfl dX10_read_6) (locw K q664 q97) (zr_ok2A (by decide) (by decide)) hl.1 dX10_read_6 (Nat.le_of_ble_eq_true rfl) (cr_le hcr) (fun σ9 _ _ hq8 hw10 => ?_)
  obtain ⟨hk11, h⟩ := hq8
  have h := h hk11
  have hk12 := kp_trans wo_X10_read hk4 hk11 (fun _ q => q) (by decide)
  have hg13 : tg σ9 a0 = 9 := kp_tg hk11 wo_X6_begin hg5 (by decide)
  refine z_aload_n (pc := 9) K dX10_read_9 rfl (lv_at hl 0 rfl) ?_
  refine z_iconst (pc := 10) K dX10_read_10 ?_
  refine zat_r (pc := 11) (maxL := 3) K hw10 (met_X10_any X l 64 σ9 a0 1 hg13 ⟨by decide, by decide⟩ cr hcr.2.2 _ _ h) (i_V (n := 1) (t := 9) (As := [jI 1]) K hw10 (ob hg13) zq9 (by decide) q1220 q1222 qs23 (sg_of K q1223) rfl rfl dX10_read_11) (locw K q1223 q101) (zr_ok2A (by decide) (by decide)) hl.1 dX10_read_11 (by decide) hcr (Int.toNat_of_nonneg hcr.2.2) ⟨Nat.le_refl _, Nat.le_refl _⟩ (fun r14 σ17 _ _ _ _ cr19 hr15 hq16 hw18 hcr20 => ?_) (fun x σx _ _ _ _ crx hx0 hqx hwx hcx => ?_)
  rotate_left
  · obtain ⟨htx, hkx, h⟩ := hqx
    have h := h hkx
    exact za_out K hwx hcx hx0 ⟨htx, kp_trans wo_X10_read hk12 hkx (fun _ q => q) (by decide), h⟩ (no_cov hex 11)
  obtain ⟨hk21, h⟩ := hq16
  have h := h hk21
  have hk22 := kp_trans wo_X10_read hk12 hk21 (fun _ q => q) (by decide)
  have hg23 : tg σ17 a0 = 9 := kp_tg hk21 wo_X10_any hg13 (by decide)
  refine z_astore_n (pc := 14) (lv' := [(1, jR X r14), (0, jR X a0)]) K dX10_read_14 rfl hl (by decide) (by simp [jR_cat]) (fun ls hl => ?_)
  refine z_aload_n (pc := 15) K dX10_read_15 rfl (lv_at hl 1 rfl) ?_
  refine z_aload_n (pc := 16) K dX10_read_16 rfl (lv_at hl 1 rfl) ?_
  refine z_get (pc := 17) (t := 9) (k := 3) K hw18 (ob (t := 9) hg23) zq9 (by decide) q392 (u_same (K.ts _ q393)) dX10_read_17 (zval_i kf_9_3) ?_
  refine z_if_ne (pc := 20) (tgt := 27) K (z_rI hw18 (ob (t := 9) hg23) kf_9_3) dX10_read_20 (by decide) (fun hc24 => ?_) (fun hc24 => ?_)
  · have h := ite_t h hc24
    refine z_iconst (pc := 23) K dX10_read_23 ?_
    refine z_goto (pc := 24) (tgt := 28) K dX10_read_24 (by decide) ?_
    exact wk_X10_read_b28 a0 Q E σ K hex σ17 cr19 r14 1 _ _ _ _ _ h hw18 hk22 hcr20 hr15 hg23 ⟨by decide, by decide⟩ (lv_sub hl [0] rfl)
  · have h := ite_f h hc24
    refine z_iconst (pc := 27) K dX10_read_27 ?_
    exact wk_X10_read_b28 a0 Q E σ K hex σ17 cr19 r14 0 _ _ _ _ _ h hw18 hk22 hcr20 hr15 hg23 ⟨by decide, by decide⟩ (lv_sub hl [0] rfl)
