/-! printed by gen/walk2.py -/
set_option maxRecDepth 100000
def ws_L_law : List (Int × Nat) := [(1, 0), (1, 1), (1, 2), (1, 17), (1, 18), (1, 19), (1, 20), (1, 21), (1, 22), (1, 23), (1, 24), (1, 25), (1, 26), (1, 27), (1, 28), (1, 29), (1, 30), (1, 31), (1, 32), (1, 34), (1, 35), (1, 36), (1, 37), (2, 6), (2, 7), (3, 0), (3, 1), (3, 2), (3, 3), (3, 4), (3, 5), (3, 6), (3, 7), (3, 8), (3, 9), (4, 0), (4, 1), (4, 2), (4, 3), (4, 4), (4, 5), (4, 6), (4, 7), (4, 8), (5, 0), (5, 1), (5, 2), (6, 1), (6, 2), (6, 3), (6, 4), (6, 5), (6, 6), (6, 8), (6, 9), (7, 1), (7, 2), (7, 3), (7, 4), (7, 5), (7, 6), (7, 8), (8, 1), (8, 2), (8, 3), (8, 4), (8, 5), (8, 6), (8, 8), (9, 1), (9, 2), (9, 3), (9, 4), (9, 5), (9, 6), (9, 10), (10, 0), (10, 1), (10, 2), (10, 3), (10, 4), (10, 5), (10, 6), (10, 7), (10, 8), (10, 9), (10, 10), (10, 11), (10, 12), (10, 13), (10, 14), (10, 15), (10, 16), (10, 17), (10, 18), (10, 19), (10, 20), (10, 21), (10, 22), (10, 23), (10, 24), (10, 25), (10, 26), (10, 27), (10, 28), (10, 29), (10, 30), (10, 31), (10, 32), (10, 33), (10, 34), (10, 35), (10, 36), (10, 37), (10, 38), (10, 39), (10, 40), (10, 41), (10, 42), (10, 43), (10, 44), (10, 45), (10, 46), (10, 47), (10, 48), (10, 49), (10, 50), (10, 51), (10, 52), (10, 53), (10, 54), (10, 55), (10, 56), (10, 57), (12, 1), (12, 2), (12, 3), (12, 4), (62, 0)]
theorem wo_L_law : wsOk ws_L_law = true := rfl
def lp_L_law_23 (sc : Int → Int) (sn : Int) (Q : Int → St → Int → Prop) (σ0 : St) : Nat → St → Int → Int → Int → Int → Int → Prop
  | 0 => fun _ _ _ _ _ _ => False
  | n + 1 => fun σ cr v1 v2 v3 v4 => 
    Kp ws_L_law σ0 σ → rng (sn - 6) ∧ (if v4 ≤ sn - 6 then
      (0 ≤ v4 ∧ v4 < sn) ∧ (if zand (sc v4) 63 = 0 then
        (0 ≤ v4 + 1 ∧ v4 + 1 < sn) ∧ (0 ≤ v4 + 2 ∧ v4 + 2 < sn) ∧ (0 ≤ v4 + 3 ∧ v4 + 3 < sn) ∧ (0 ≤ v4 + 4 ∧ v4 + 4 < sn) ∧ (0 ≤ v4 + 5 ∧ v4 + 5 < sn) ∧ wp_X1_feed σ v1 (sc (v4 + 1)) (sc (v4 + 2)) (sc (v4 + 3)) (sc (v4 + 4)) (sc (v4 + 5)) (fun r11 σ14 => Kp ws_X1_feed σ σ14 → (0 ≤ v4 + 1 ∧ v4 + 1 < sn) ∧ (0 ≤ v4 + 2 ∧ v4 + 2 < sn) ∧ (0 ≤ v4 + 3 ∧ v4 + 3 < sn) ∧ (0 ≤ v4 + 4 ∧ v4 + 4 < sn) ∧ (0 ≤ v4 + 5 ∧ v4 + 5 < sn) ∧ wp_X11_feed σ14 v2 (sc (v4 + 1)) (sc (v4 + 2)) (sc (v4 + 3)) (sc (v4 + 4)) (sc (v4 + 5)) (fun r27 σ30 => Kp ws_X11_feed σ14 σ30 → (if r11 = r27 then
          rng (v4 + 6) ∧ (lp_L_law_23 sc sn Q σ0 n σ30 cr v1 v2 v3 (v4 + 6))
          else
          Q 0 σ30 cr)))
        else
        (if zand (sc v4) 63 = 1 then
          (0 ≤ v4 + 1 ∧ v4 + 1 < sn) ∧ wp_X1_end σ v1 (sc (v4 + 1)) (fun r42 σ45 => Kp ws_X1_end σ σ45 → (0 ≤ v4 + 1 ∧ v4 + 1 < sn) ∧ wp_X11_end σ45 v2 (sc (v4 + 1)) (fun r54 σ57 => Kp ws_X11_end σ45 σ57 → (if r42 = r54 then
            rng (v4 + 6) ∧ (lp_L_law_23 sc sn Q σ0 n σ57 cr v1 v2 v3 (v4 + 6))
            else
            Q 0 σ57 cr)))
          else
          (if zand (sc v4) 63 = 2 then
            wp_X1_table σ v1 cr (fun r68 σ71 cr73 => Kp ws_X1_table σ σ71 → wp_X11_table σ71 v2 (fun r81 σ84 => Kp ws_X11_table σ71 σ84 → (if r68 = r81 then
              rng (v4 + 6) ∧ (lp_L_law_23 sc sn Q σ0 n σ84 cr73 v1 v2 v3 (v4 + 6))
              else
              Q 0 σ84 cr73)))
            else
            (if zand (sc v4) 63 = 3 then
              wp_X1_fault σ v1 (fun r95 => wp_X11_fault σ v2 (fun r100 σ103 => Kp ws_X11_fault σ σ103 → (if r95 = r100 then
                rng (v4 + 6) ∧ (lp_L_law_23 sc sn Q σ0 n σ103 cr v1 v2 v3 (v4 + 6))
                else
                Q 0 σ103 cr)))
              else
              (if zand (sc v4) 63 = 4 then
                (0 ≤ v4 + 1 ∧ v4 + 1 < sn) ∧ wp_X1_rank σ v1 (sc (v4 + 1)) (fun r115 => (0 ≤ v4 + 1 ∧ v4 + 1 < sn) ∧ wp_X11_rank σ v2 (sc (v4 + 1)) (fun r121 σ124 => Kp ws_X11_rank σ σ124 → (if r115 = r121 then
                  rng (v4 + 6) ∧ (lp_L_law_23 sc sn Q σ0 n σ124 cr v1 v2 v3 (v4 + 6))
                  else
                  Q 0 σ124 cr)))
                else
                (if zand (sc v4) 63 = 5 then
                  (0 ≤ v4 + 1 ∧ v4 + 1 < sn) ∧ (0 ≤ v4 + 2 ∧ v4 + 2 < sn) ∧ wp_X0_kind σ v1 (sc (v4 + 1)) (sc (v4 + 2)) v3 cr (fun r137 σ140 cr142 => Kp ws_X0_kind σ σ140 → (0 ≤ v4 + 1 ∧ v4 + 1 < sn) ∧ (0 ≤ v4 + 2 ∧ v4 + 2 < sn) ∧ wp_X11_kind σ140 v2 (sc (v4 + 1)) (sc (v4 + 2)) (fun r152 σ155 => Kp ws_X11_kind σ140 σ155 → wp_X11_thrown σ155 v2 (fun r163 => (if r163 = r137 then
                    (if r137 = 0 then
                      (if σ155 v3 0 0 = r152 then
                        rng (v4 + 6) ∧ (lp_L_law_23 sc sn Q σ0 n σ155 cr142 v1 v2 v3 (v4 + 6))
                        else
                        Q 0 σ155 cr142)
                      else
                      rng (v4 + 6) ∧ (lp_L_law_23 sc sn Q σ0 n σ155 cr142 v1 v2 v3 (v4 + 6)))
                    else
                    Q 0 σ155 cr142))))
                  else
                  (if zand (sc v4) 63 = 6 then
                    (0 ≤ v4 + 1 ∧ v4 + 1 < sn) ∧ (0 ≤ v4 + 2 ∧ v4 + 2 < sn) ∧ wp_X1_say σ v1 (sc (v4 + 1)) (sc (v4 + 2)) (fun r177 σ180 => Kp ws_X1_say σ σ180 → (0 ≤ v4 + 1 ∧ v4 + 1 < sn) ∧ (0 ≤ v4 + 2 ∧ v4 + 2 < sn) ∧ wp_X11_say σ180 v2 (sc (v4 + 1)) (sc (v4 + 2)) (fun r190 σ193 => Kp ws_X11_say σ180 σ193 → (if r177 = r190 then
                      rng (v4 + 6) ∧ (lp_L_law_23 sc sn Q σ0 n σ193 cr v1 v2 v3 (v4 + 6))
                      else
                      Q 0 σ193 cr)))
                    else
                    (if zand (sc v4) 63 = 7 then
                      (0 ≤ v4 + 1 ∧ v4 + 1 < sn) ∧ (0 ≤ v4 + 2 ∧ v4 + 2 < sn) ∧ wp_X1_wrong σ v1 (sc (v4 + 1)) (sc (v4 + 2)) (fun r206 => (0 ≤ v4 + 1 ∧ v4 + 1 < sn) ∧ (0 ≤ v4 + 2 ∧ v4 + 2 < sn) ∧ wp_X11_wrong σ v2 (sc (v4 + 1)) (sc (v4 + 2)) (fun r213 σ216 => Kp ws_X11_wrong σ σ216 → (if r206 = r213 then
                        rng (v4 + 6) ∧ (lp_L_law_23 sc sn Q σ0 n σ216 cr v1 v2 v3 (v4 + 6))
                        else
                        Q 0 σ216 cr)))
                      else
                      (if zand (sc v4) 63 = 8 then
                        (0 ≤ v4 + 1 ∧ v4 + 1 < sn) ∧ wp_X1_may σ v1 (sc (v4 + 1)) (fun r228 => (0 ≤ v4 + 1 ∧ v4 + 1 < sn) ∧ wp_X11_may σ v2 (sc (v4 + 1)) (fun r234 σ237 => Kp ws_X11_may σ σ237 → (if r228 = r234 then
                          rng (v4 + 6) ∧ (lp_L_law_23 sc sn Q σ0 n σ237 cr v1 v2 v3 (v4 + 6))
                          else
                          Q 0 σ237 cr)))
                        else
                        (if zand (sc v4) 63 = 9 then
                          wp_X1_undo σ v1 (fun r248 σ251 => Kp ws_X1_undo σ σ251 → wp_X11_undo σ251 v2 (fun r259 σ262 => Kp ws_X11_undo σ251 σ262 → (if r248 = r259 then
                            rng (v4 + 6) ∧ (lp_L_law_23 sc sn Q σ0 n σ262 cr v1 v2 v3 (v4 + 6))
                            else
                            Q 0 σ262 cr)))
                          else
                          (if zand (sc v4) 63 = 10 then
                            wp_X1_talk σ v1 cr (fun r273 σ276 cr278 => Kp ws_X1_talk σ σ276 → wp_X11_talk σ276 v2 (fun r286 σ289 => Kp ws_X11_talk σ276 σ289 → (if r273 = r286 then
                              rng (v4 + 6) ∧ (lp_L_law_23 sc sn Q σ0 n σ289 cr278 v1 v2 v3 (v4 + 6))
                              else
                              Q 0 σ289 cr278)))
                            else
                            (if zand (sc v4) 63 = 11 then
                              wp_X1_why σ v1 (fun r300 => wp_X11_why σ v2 (fun r305 σ308 => Kp ws_X11_why σ σ308 → (if r300 = r305 then
                                rng (v4 + 6) ∧ (lp_L_law_23 sc sn Q σ0 n σ308 cr v1 v2 v3 (v4 + 6))
                                else
                                Q 0 σ308 cr)))
                              else
                              (if zand (sc v4) 63 = 12 then
                                (0 ≤ v4 + 1 ∧ v4 + 1 < sn) ∧ (0 ≤ v4 + 2 ∧ v4 + 2 < sn) ∧ wp_X0_word σ v1 (sc (v4 + 1)) (sc (v4 + 2)) v3 cr (fun r321 σ324 cr326 => Kp ws_X0_word σ σ324 → (0 ≤ v4 + 1 ∧ v4 + 1 < sn) ∧ (0 ≤ v4 + 2 ∧ v4 + 2 < sn) ∧ wp_X11_word σ324 v2 (sc (v4 + 1)) (sc (v4 + 2)) (fun r336 σ339 => Kp ws_X11_word σ324 σ339 → wp_X11_thrown σ339 v2 (fun r347 => (if r347 = r321 then
                                  (if r321 = 0 then
                                    (if σ339 v3 0 0 = r336 then
                                      rng (v4 + 6) ∧ (lp_L_law_23 sc sn Q σ0 n σ339 cr326 v1 v2 v3 (v4 + 6))
                                      else
                                      Q 0 σ339 cr326)
                                    else
                                    rng (v4 + 6) ∧ (lp_L_law_23 sc sn Q σ0 n σ339 cr326 v1 v2 v3 (v4 + 6)))
                                  else
                                  Q 0 σ339 cr326))))
                                else
                                (if zand (sc v4) 63 = 13 then
                                  wp_X1_threads σ v1 (fun r359 => wp_X11_threads σ v2 (fun r364 σ367 => Kp ws_X11_threads σ σ367 → (if r359 = r364 then
                                    rng (v4 + 6) ∧ (lp_L_law_23 sc sn Q σ0 n σ367 cr v1 v2 v3 (v4 + 6))
                                    else
                                    Q 0 σ367 cr)))
                                  else
                                  (if zand (sc v4) 63 = 14 then
                                    (0 ≤ v4 + 1 ∧ v4 + 1 < sn) ∧ (0 ≤ v4 + 2 ∧ v4 + 2 < sn) ∧ wp_X1_thread σ v1 (sc (v4 + 1)) (sc (v4 + 2)) (fun r380 => (0 ≤ v4 + 1 ∧ v4 + 1 < sn) ∧ (0 ≤ v4 + 2 ∧ v4 + 2 < sn) ∧ wp_X11_thread σ v2 (sc (v4 + 1)) (sc (v4 + 2)) (fun r387 σ390 => Kp ws_X11_thread σ σ390 → (if r380 = r387 then
                                      rng (v4 + 6) ∧ (lp_L_law_23 sc sn Q σ0 n σ390 cr v1 v2 v3 (v4 + 6))
                                      else
                                      Q 0 σ390 cr)))
                                    else
                                    (if zand (sc v4) 63 = 15 then
                                      (0 ≤ v4 + 1 ∧ v4 + 1 < sn) ∧ (0 ≤ v4 + 2 ∧ v4 + 2 < sn) ∧ wp_X1_with σ v1 (sc (v4 + 1)) (sc (v4 + 2)) (fun r403 => (0 ≤ v4 + 1 ∧ v4 + 1 < sn) ∧ (0 ≤ v4 + 2 ∧ v4 + 2 < sn) ∧ wp_X11_with σ v2 (sc (v4 + 1)) (sc (v4 + 2)) (fun r410 σ413 => Kp ws_X11_with σ σ413 → (if r403 = r410 then
                                        rng (v4 + 6) ∧ (lp_L_law_23 sc sn Q σ0 n σ413 cr v1 v2 v3 (v4 + 6))
                                        else
                                        Q 0 σ413 cr)))
                                      else
                                      (if zand (sc v4) 63 = 16 then
                                        (0 ≤ v4 + 1 ∧ v4 + 1 < sn) ∧ (0 ≤ v4 + 2 ∧ v4 + 2 < sn) ∧ (0 ≤ v4 + 3 ∧ v4 + 3 < sn) ∧ wp_X1_promised σ v1 (sc (v4 + 1)) (sc (v4 + 2)) (sc (v4 + 3)) (fun r427 => (0 ≤ v4 + 1 ∧ v4 + 1 < sn) ∧ (0 ≤ v4 + 2 ∧ v4 + 2 < sn) ∧ (0 ≤ v4 + 3 ∧ v4 + 3 < sn) ∧ wp_X11_promised σ v2 (sc (v4 + 1)) (sc (v4 + 2)) (sc (v4 + 3)) (fun r435 σ438 => Kp ws_X11_promised σ σ438 → (if r427 = r435 then
                                          rng (v4 + 6) ∧ (lp_L_law_23 sc sn Q σ0 n σ438 cr v1 v2 v3 (v4 + 6))
                                          else
                                          Q 0 σ438 cr)))
                                        else
                                        (if zand (sc v4) 63 = 17 then
                                          wp_X1_minutes σ v1 cr (fun r449 σ452 cr454 => Kp ws_X1_minutes σ σ452 → wp_X11_minutes σ452 v2 (fun r462 σ465 => Kp ws_X11_minutes σ452 σ465 → (if r449 = r462 then
                                            rng (v4 + 6) ∧ (lp_L_law_23 sc sn Q σ0 n σ465 cr454 v1 v2 v3 (v4 + 6))
                                            else
                                            Q 0 σ465 cr454)))
                                          else
                                          (if zand (sc v4) 63 = 18 then
                                            (0 ≤ v4 + 1 ∧ v4 + 1 < sn) ∧ wp_X1_wholes σ v1 (sc (v4 + 1)) (fun r477 σ480 => Kp ws_X1_wholes σ σ480 → (0 ≤ v4 + 1 ∧ v4 + 1 < sn) ∧ wp_X11_wholes σ480 v2 (sc (v4 + 1)) (fun r489 σ492 => Kp ws_X11_wholes σ480 σ492 → (if r477 = r489 then
                                              rng (v4 + 6) ∧ (lp_L_law_23 sc sn Q σ0 n σ492 cr v1 v2 v3 (v4 + 6))
                                              else
                                              Q 0 σ492 cr)))
                                            else
                                            (if zand (sc v4) 63 = 19 then
                                              (0 ≤ v4 + 1 ∧ v4 + 1 < sn) ∧ (0 ≤ v4 + 2 ∧ v4 + 2 < sn) ∧ wp_X1_sure σ v1 (sc (v4 + 1)) (sc (v4 + 2)) (fun r505 => (0 ≤ v4 + 1 ∧ v4 + 1 < sn) ∧ (0 ≤ v4 + 2 ∧ v4 + 2 < sn) ∧ wp_X11_sure σ v2 (sc (v4 + 1)) (sc (v4 + 2)) (fun r512 σ515 => Kp ws_X11_sure σ σ515 → (if r505 = r512 then
                                                rng (v4 + 6) ∧ (lp_L_law_23 sc sn Q σ0 n σ515 cr v1 v2 v3 (v4 + 6))
                                                else
                                                Q 0 σ515 cr)))
                                              else
                                              (if zand (sc v4) 63 = 20 then
                                                wp_X1_hangs σ v1 (fun r526 σ529 => Kp ws_X1_hangs σ σ529 → wp_X11_hangs σ529 v2 (fun r537 σ540 => Kp ws_X11_hangs σ529 σ540 → (if r526 = r537 then
                                                  rng (v4 + 6) ∧ (lp_L_law_23 sc sn Q σ0 n σ540 cr v1 v2 v3 (v4 + 6))
                                                  else
                                                  Q 0 σ540 cr)))
                                                else
                                                (if zand (sc v4) 63 = 21 then
                                                  wp_X1_mend σ v1 (fun r551 σ554 => Kp ws_X1_mend σ σ554 → wp_X11_mend σ554 v2 (fun r562 σ565 => Kp ws_X11_mend σ554 σ565 → (if r551 = r562 then
                                                    rng (v4 + 6) ∧ (lp_L_law_23 sc sn Q σ0 n σ565 cr v1 v2 v3 (v4 + 6))
                                                    else
                                                    Q 0 σ565 cr)))
                                                  else
                                                  (if zand (sc v4) 63 = 22 then
                                                    wp_X1_mended σ v1 (fun r576 => wp_X11_mended σ v2 (fun r581 σ584 => Kp ws_X11_mended σ σ584 → (if r576 = r581 then
                                                      rng (v4 + 6) ∧ (lp_L_law_23 sc sn Q σ0 n σ584 cr v1 v2 v3 (v4 + 6))
                                                      else
                                                      Q 0 σ584 cr)))
                                                    else
                                                    (if zand (sc v4) 63 = 23 then
                                                      wp_X1_orders σ v1 (fun r595 σ598 => Kp ws_X1_orders σ σ598 → wp_X11_orders σ598 v2 (fun r606 σ609 => Kp ws_X11_orders σ598 σ609 → (if r595 = r606 then
                                                        rng (v4 + 6) ∧ (lp_L_law_23 sc sn Q σ0 n σ609 cr v1 v2 v3 (v4 + 6))
                                                        else
                                                        Q 0 σ609 cr)))
                                                      else
                                                      (if zand (sc v4) 63 = 24 then
                                                        (0 ≤ v4 + 1 ∧ v4 + 1 < sn) ∧ wp_X1_orderAt σ v1 (sc (v4 + 1)) (fun r621 => (0 ≤ v4 + 1 ∧ v4 + 1 < sn) ∧ wp_X11_orderAt σ v2 (sc (v4 + 1)) (fun r627 σ630 => Kp ws_X11_orderAt σ σ630 → (if r621 = r627 then
                                                          rng (v4 + 6) ∧ (lp_L_law_23 sc sn Q σ0 n σ630 cr v1 v2 v3 (v4 + 6))
                                                          else
                                                          Q 0 σ630 cr)))
                                                        else
                                                        (if zand (sc v4) 63 = 25 then
                                                          (0 ≤ v4 + 1 ∧ v4 + 1 < sn) ∧ (0 ≤ v4 + 2 ∧ v4 + 2 < sn) ∧ wp_X1_drawn σ v1 (sc (v4 + 1)) (sc (v4 + 2)) (fun r643 σ646 => Kp ws_X1_drawn σ σ646 → (0 ≤ v4 + 1 ∧ v4 + 1 < sn) ∧ (0 ≤ v4 + 2 ∧ v4 + 2 < sn) ∧ wp_X11_drawn σ646 v2 (sc (v4 + 1)) (sc (v4 + 2)) (fun r656 σ659 => Kp ws_X11_drawn σ646 σ659 → (if r643 = r656 then
                                                            rng (v4 + 6) ∧ (lp_L_law_23 sc sn Q σ0 n σ659 cr v1 v2 v3 (v4 + 6))
                                                            else
                                                            Q 0 σ659 cr)))
                                                          else
                                                          (if zand (sc v4) 63 = 26 then
                                                            (0 ≤ v4 + 1 ∧ v4 + 1 < sn) ∧ (0 ≤ v4 + 2 ∧ v4 + 2 < sn) ∧ wp_X1_spoke σ v1 (sc (v4 + 1)) (sc (v4 + 2)) (fun r672 => (0 ≤ v4 + 1 ∧ v4 + 1 < sn) ∧ (0 ≤ v4 + 2 ∧ v4 + 2 < sn) ∧ wp_X11_spoke σ v2 (sc (v4 + 1)) (sc (v4 + 2)) (fun r679 σ682 => Kp ws_X11_spoke σ σ682 → (if r672 = r679 then
                                                              rng (v4 + 6) ∧ (lp_L_law_23 sc sn Q σ0 n σ682 cr v1 v2 v3 (v4 + 6))
                                                              else
                                                              Q 0 σ682 cr)))
                                                            else
                                                            (if zand (sc v4) 63 = 27 then
                                                              (0 ≤ v4 + 1 ∧ v4 + 1 < sn) ∧ (0 ≤ v4 + 2 ∧ v4 + 2 < sn) ∧ (0 ≤ v4 + 3 ∧ v4 + 3 < sn) ∧ wp_X1_road σ v1 (sc (v4 + 1)) (sc (v4 + 2)) (sc (v4 + 3)) (fun r696 σ699 => Kp ws_X1_road σ σ699 → (0 ≤ v4 + 1 ∧ v4 + 1 < sn) ∧ (0 ≤ v4 + 2 ∧ v4 + 2 < sn) ∧ (0 ≤ v4 + 3 ∧ v4 + 3 < sn) ∧ wp_X11_road σ699 v2 (sc (v4 + 1)) (sc (v4 + 2)) (sc (v4 + 3)) (fun r710 σ713 => Kp ws_X11_road σ699 σ713 → (if r696 = r710 then
                                                                rng (v4 + 6) ∧ (lp_L_law_23 sc sn Q σ0 n σ713 cr v1 v2 v3 (v4 + 6))
                                                                else
                                                                Q 0 σ713 cr)))
                                                              else
                                                              (if zand (sc v4) 63 = 28 then
                                                                (0 ≤ v4 + 1 ∧ v4 + 1 < sn) ∧ (0 ≤ v4 + 2 ∧ v4 + 2 < sn) ∧ (0 ≤ v4 + 3 ∧ v4 + 3 < sn) ∧ (0 ≤ v4 + 4 ∧ v4 + 4 < sn) ∧ wp_X1_without σ v1 (sc (v4 + 1)) (sc (v4 + 2)) (sc (v4 + 3)) (sc (v4 + 4)) (fun r728 σ731 => Kp ws_X1_without σ σ731 → (0 ≤ v4 + 1 ∧ v4 + 1 < sn) ∧ (0 ≤ v4 + 2 ∧ v4 + 2 < sn) ∧ (0 ≤ v4 + 3 ∧ v4 + 3 < sn) ∧ (0 ≤ v4 + 4 ∧ v4 + 4 < sn) ∧ wp_X11_without σ731 v2 (sc (v4 + 1)) (sc (v4 + 2)) (sc (v4 + 3)) (sc (v4 + 4)) (fun r743 σ746 => Kp ws_X11_without σ731 σ746 → (if r728 = r743 then
                                                                  rng (v4 + 6) ∧ (lp_L_law_23 sc sn Q σ0 n σ746 cr v1 v2 v3 (v4 + 6))
                                                                  else
                                                                  Q 0 σ746 cr)))
                                                                else
                                                                (if zand (sc v4) 63 = 29 then
                                                                  (0 ≤ v4 + 1 ∧ v4 + 1 < sn) ∧ (0 ≤ v4 + 2 ∧ v4 + 2 < sn) ∧ (0 ≤ v4 + 3 ∧ v4 + 3 < sn) ∧ (0 ≤ v4 + 4 ∧ v4 + 4 < sn) ∧ wp_X1_game σ v1 (sc (v4 + 1)) (sc (v4 + 2)) (sc (v4 + 3)) (sc (v4 + 4)) (fun r761 σ764 => Kp ws_X1_game σ σ764 → (0 ≤ v4 + 1 ∧ v4 + 1 < sn) ∧ (0 ≤ v4 + 2 ∧ v4 + 2 < sn) ∧ (0 ≤ v4 + 3 ∧ v4 + 3 < sn) ∧ (0 ≤ v4 + 4 ∧ v4 + 4 < sn) ∧ wp_X11_game σ764 v2 (sc (v4 + 1)) (sc (v4 + 2)) (sc (v4 + 3)) (sc (v4 + 4)) (fun r776 σ779 => Kp ws_X11_game σ764 σ779 → (if r761 = r776 then
                                                                    rng (v4 + 6) ∧ (lp_L_law_23 sc sn Q σ0 n σ779 cr v1 v2 v3 (v4 + 6))
                                                                    else
                                                                    Q 0 σ779 cr)))
                                                                  else
                                                                  (if zand (sc v4) 63 = 30 then
                                                                    (0 ≤ v4 + 1 ∧ v4 + 1 < sn) ∧ wp_X1_found σ v1 (sc (v4 + 1)) (fun r791 => (0 ≤ v4 + 1 ∧ v4 + 1 < sn) ∧ wp_X11_found σ v2 (sc (v4 + 1)) (fun r797 σ800 => Kp ws_X11_found σ σ800 → (if r791 = r797 then
                                                                      rng (v4 + 6) ∧ (lp_L_law_23 sc sn Q σ0 n σ800 cr v1 v2 v3 (v4 + 6))
                                                                      else
                                                                      Q 0 σ800 cr)))
                                                                    else
                                                                    (if zand (sc v4) 63 = 31 then
                                                                      (0 ≤ v4 + 1 ∧ v4 + 1 < sn) ∧ (0 ≤ v4 + 2 ∧ v4 + 2 < sn) ∧ wp_X1_unlike σ v1 (sc (v4 + 1)) (sc (v4 + 2)) (fun r813 σ816 => Kp ws_X1_unlike σ σ816 → (0 ≤ v4 + 1 ∧ v4 + 1 < sn) ∧ (0 ≤ v4 + 2 ∧ v4 + 2 < sn) ∧ wp_X11_unlike σ816 v2 (sc (v4 + 1)) (sc (v4 + 2)) (fun r826 σ829 => Kp ws_X11_unlike σ816 σ829 → (if r813 = r826 then
                                                                        rng (v4 + 6) ∧ (lp_L_law_23 sc sn Q σ0 n σ829 cr v1 v2 v3 (v4 + 6))
                                                                        else
                                                                        Q 0 σ829 cr)))
                                                                      else
                                                                      (if zand (sc v4) 63 = 32 then
                                                                        wp_X1_sentence σ v1 cr (fun r840 σ843 cr845 => Kp ws_X1_sentence σ σ843 → wp_X11_sentence σ843 v2 (fun r853 σ856 => Kp ws_X11_sentence σ843 σ856 → (if r840 = r853 then
                                                                          rng (v4 + 6) ∧ (lp_L_law_23 sc sn Q σ0 n σ856 cr845 v1 v2 v3 (v4 + 6))
                                                                          else
                                                                          Q 0 σ856 cr845)))
                                                                        else
                                                                        (if zand (sc v4) 63 = 33 then
                                                                          (0 ≤ v4 + 1 ∧ v4 + 1 < sn) ∧ wp_X1_said σ v1 (sc (v4 + 1)) (fun r868 => (0 ≤ v4 + 1 ∧ v4 + 1 < sn) ∧ wp_X11_said σ v2 (sc (v4 + 1)) (fun r874 σ877 => Kp ws_X11_said σ σ877 → (if r868 = r874 then
                                                                            rng (v4 + 6) ∧ (lp_L_law_23 sc sn Q σ0 n σ877 cr v1 v2 v3 (v4 + 6))
                                                                            else
                                                                            Q 0 σ877 cr)))
                                                                          else
                                                                          (if zand (sc v4) 63 = 34 then
                                                                            (0 ≤ v4 + 1 ∧ v4 + 1 < sn) ∧ wp_X1_image σ v1 (sc (v4 + 1)) cr (fun r889 σ892 cr894 => Kp ws_X1_image σ σ892 → (0 ≤ v4 + 1 ∧ v4 + 1 < sn) ∧ wp_X11_image σ892 v2 (sc (v4 + 1)) (fun r903 σ906 => Kp ws_X11_image σ892 σ906 → (if r889 = r903 then
                                                                              rng (v4 + 6) ∧ (lp_L_law_23 sc sn Q σ0 n σ906 cr894 v1 v2 v3 (v4 + 6))
                                                                              else
                                                                              Q 0 σ906 cr894)))
                                                                            else
                                                                            (if zand (sc v4) 63 = 35 then
                                                                              (0 ≤ v4 + 1 ∧ v4 + 1 < sn) ∧ wp_X1_restore σ v1 (sc (v4 + 1)) (fun r918 σ921 => Kp ws_X1_restore σ σ921 → (0 ≤ v4 + 1 ∧ v4 + 1 < sn) ∧ wp_X11_restore σ921 v2 (sc (v4 + 1)) (fun r930 σ933 => Kp ws_X11_restore σ921 σ933 → (if r918 = r930 then
                                                                                rng (v4 + 6) ∧ (lp_L_law_23 sc sn Q σ0 n σ933 cr v1 v2 v3 (v4 + 6))
                                                                                else
                                                                                Q 0 σ933 cr)))
                                                                              else
                                                                              (if zand (sc v4) 63 = 36 then
                                                                                (0 ≤ v4 + 1 ∧ v4 + 1 < sn) ∧ wp_X1_count σ v1 (sc (v4 + 1)) (fun r945 => (0 ≤ v4 + 1 ∧ v4 + 1 < sn) ∧ wp_X11_count σ v2 (sc (v4 + 1)) (fun r951 σ954 => Kp ws_X11_count σ σ954 → (if r945 = r951 then
                                                                                  rng (v4 + 6) ∧ (lp_L_law_23 sc sn Q σ0 n σ954 cr v1 v2 v3 (v4 + 6))
                                                                                  else
                                                                                  Q 0 σ954 cr)))
                                                                                else
                                                                                rng (v4 + 6) ∧ (lp_L_law_23 sc sn Q σ0 n σ cr v1 v2 v3 (v4 + 6)))))))))))))))))))))))))))))))))))))))
      else
      Q 1 σ cr)
def wp_L_law (sc : Int → Int) (sn : Int) (σ : St) (cr : Int) (Q : Int → St → Int → Prop) : Prop :=
  38 ≤ cr ∧ ∀ σ4 : St, σ4 = nw σ 1 → wp_X1_init σ4 (nx σ) (cr - 38) (fun σ13 cr15 => Ki (nx σ) σ4 σ13 → tg σ13 (nx σ) = 1 → 58 ≤ cr15 ∧ ∀ σ24 : St, σ24 = nw σ13 10 → wp_X11_init σ24 (nx σ13) (cr15 - 58) (fun σ34 cr36 => Ki (nx σ13) σ24 σ34 → tg σ34 (nx σ13) = 10 → 1 ≤ cr36 ∧ ∀ σ46 : St, σ46 = na σ34 2 1 → (∃ kk, lp_L_law_23 sc sn Q σ kk σ46 (cr36 - 1) (nx σ) (nx σ13) (nx σ34) 0)))
set_option maxHeartbeats 4000000 in
theorem wk_L_law_23 {X : Cxt} {p : Program} {l : Launch} {e : Env} {s : State} {m : MethodId} {args : Array Value} {below : List Frame} {meth : Method} {c : Code} (sc : Int → Int) (sn : Int) (Q : Int → St → Int → Prop) (σ0 : St) (K : MCx X p s m args meth c code 7 "CombTableLaw" (some .boolean)) (b : Nat) (hX : ScrOk X s b sc sn) (hfl : l.flags = pinnedFlags ++ [noTraceFlag]) : ∀ (n : Nat), ∀ (σ : St) (cr : Int) (v1 : Int) (v2 : Int) (v3 : Int) (v4 : Int) (cells slots : Nat) (H : Heap) (locs : List Loc) (ls : Array Slot), lp_L_law_23 sc sn Q σ0 n σ cr v1 v2 v3 v4 → Wc X σ s.heap H locs → Kp ws_L_law σ0 σ → Cr 601024 cells slots cr → tg σ v1 = 1 → tg σ v2 = 10 → tg σ v3 = 62 → σ v3 1 0 = 1 → rng v4 → lv_has ls 7 [(0, .ref b), (1, jR X v1), (2, jR X v2), (3, jR X v3), (4, jI v4)] → W p l e room_1 s m args below meth c H locs cells slots (MQA X below 601024 (qZA (fun r σ' cr => Kp ws_L_law σ0 σ' ∧ Q r σ' cr)) (fun _ _ _ => False) args s) (F0 m 23 ls []) := by
  intro n
  induction n with
  | zero => intro σ cr v1 v2 v3 v4 cells slots H locs ls h; exact h.elim
  | succ n ih =>
    intro σ cr v1 v2 v3 v4 cells slots H locs ls h hw hk hcr htv1 htv2 htv3 hlnv3 hv4 hl
    have h := h hk
    refine lv_iload (pc := 23) K.x K.b dL_law_23 (lv_at hl 4 rfl) ?_
    refine lv_aload_n (pc := 25) K.x K.b dL_law_25 rfl (lv_at hl 0 rfl) ?_
    refine z_sln (pc := 26) K hw hX dL_law_26 ?_
    refine z_bipush (pc := 27) K dL_law_27 (by decide) ?_
    refine z_isub (pc := 29) K dL_law_29 ?_
    obtain ⟨hr2, h⟩ := h
    refine z_icmp_gt (pc := 30) (tgt := 1341) K hv4 hr2 dL_law_30 (by decide) (fun hc1 => ?_) (fun hc1 => ?_)
    · have h := ite_t h hc1
      refine lv_aload_n (pc := 33) K.x K.b dL_law_33 rfl (lv_at hl 0 rfl) ?_
      refine lv_iload (pc := 34) K.x K.b dL_law_34 (lv_at hl 4 rfl) ?_
      obtain ⟨hj3, h⟩ := h
      refine z_sld (pc := 36) K hw hX hj3 dL_law_36 ?_
      refine z_bipush (pc := 37) K dL_law_37 (by decide) ?_
      refine z_iand (pc := 39) K dL_law_39 ?_
      have hrs4 : rng (zand (sc v4) 63) := (rng_toInt _)
      by_cases hc5 : (zand (sc v4) 63) = 0
      · replace h := ite_t h hc5
        refine lv_tableIn (pc := 40) (tgt := 204) K.x K.b dL_law_40 (by rw [rng_ofInt hrs4, hc5]; decide) (by rw [rng_ofInt hrs4, hc5]; decide) (off := 164) (by rw [rng_ofInt hrs4, hc5]; rfl) (by decide) ?_
        refine z_aload_n (pc := 204) K dL_law_204 rfl (lv_at hl 1 rfl) ?_
        refine lv_aload_n (pc := 205) K.x K.b dL_law_205 rfl (lv_at hl 0 rfl) ?_
        refine lv_iload (pc := 206) K.x K.b dL_law_206 (lv_at hl 4 rfl) ?_
        refine z_iconst (pc := 208) K dL_law_208 ?_
        refine z_iadd (pc := 209) K dL_law_209 ?_
        obtain ⟨hj6, h⟩ := h
        refine z_sld (pc := 210) K hw hX hj6 dL_law_210 ?_
        refine lv_aload_n (pc := 211) K.x K.b dL_law_211 rfl (lv_at hl 0 rfl) ?_
        refine lv_iload (pc := 212) K.x K.b dL_law_212 (lv_at hl 4 rfl) ?_
        refine z_iconst (pc := 214) K dL_law_214 ?_
        refine z_iadd (pc := 215) K dL_law_215 ?_
        obtain ⟨hj7, h⟩ := h
        refine z_sld (pc := 216) K hw hX hj7 dL_law_216 ?_
        refine lv_aload_n (pc := 217) K.x K.b dL_law_217 rfl (lv_at hl 0 rfl) ?_
        refine lv_iload (pc := 218) K.x K.b dL_law_218 (lv_at hl 4 rfl) ?_
        refine z_iconst (pc := 220) K dL_law_220 ?_
        refine z_iadd (pc := 221) K dL_law_221 ?_
        obtain ⟨hj8, h⟩ := h
        refine z_sld (pc := 222) K hw hX hj8 dL_law_222 ?_
        refine lv_aload_n (pc := 223) K.x K.b dL_law_223 rfl (lv_at hl 0 rfl) ?_
        refine lv_iload (pc := 224) K.x K.b dL_law_224 (lv_at hl 4 rfl) ?_
        refine z_iconst (pc := 226) K dL_law_226 ?_
        refine z_iadd (pc := 227) K dL_law_227 ?_
        obtain ⟨hj9, h⟩ := h
        refine z_sld (pc := 228) K hw hX hj9 dL_law_228 ?_
        refine lv_aload_n (pc := 229) K.x K.b dL_law_229 rfl (lv_at hl 0 rfl) ?_
        refine lv_iload (pc := 230) K.x K.b dL_law_230 (lv_at hl 4 rfl) ?_
        refine z_iconst (pc := 232) K dL_law_232 ?_
        refine z_iadd (pc := 233) K dL_law_233 ?_
        obtain ⟨hj10, h⟩ := h
        refine z_sld (pc := 234) K hw hX hj10 dL_law_234 ?_
        refine zc_i (pc := 235) (maxL := 6) K hw (met_X1_feed X l σ v1 (sc (v4 + 1)) (sc (v4 + 2)) (sc (v4 + 3)) (sc (v4 + 4)) (sc (v4 + 5)) htv1 (hX.r hj6) (hX.r hj7) (hX.r hj8) (hX.r hj9) (hX.r hj10) _ h) (i_V (n := 5) (t := 1) (As := [jI (sc (v4 + 1)), jI (sc (v4 + 2)), jI (sc (v4 + 3)), jI (sc (v4 + 4)), jI (sc (v4 + 5))]) K hw (ob htv1) zq1 (by decide) q633 q634 q635 (sg_of K q636) rfl rfl dL_law_235) (locw K q636 q90) ⟨by decide, by decide⟩ hl.1 dL_law_235 (Nat.le_of_ble_eq_true rfl) (cr_le1 hcr) (fun r11 σ14 _ _ hr12 hq13 hw15 => ?_)
        obtain ⟨hk16, h⟩ := hq13
        have h := h hk16
        have hk17 := kp_trans wo_L_law hk hk16 (fun _ q => q) (by decide)
        have hg18 : tg σ14 v1 = 1 := kp_tg hk16 wo_X1_feed htv1 (by decide)
        have hg19 : tg σ14 v2 = 10 := kp_tg hk16 wo_X1_feed htv2 (by decide)
        have hg20 : tg σ14 v3 = 62 := kp_tg hk16 wo_X1_feed htv3 (by decide)
        have hln21 : σ14 v3 1 0 = 1 := len_kp hk16 htv3 (by decide) (by decide) hlnv3
        refine z_aload_n (pc := 238) K dL_law_238 rfl (lv_at hl 2 rfl) ?_
        refine lv_aload_n (pc := 239) K.x K.b dL_law_239 rfl (lv_at hl 0 rfl) ?_
        refine lv_iload (pc := 240) K.x K.b dL_law_240 (lv_at hl 4 rfl) ?_
        refine z_iconst (pc := 242) K dL_law_242 ?_
        refine z_iadd (pc := 243) K dL_law_243 ?_
        obtain ⟨hj22, h⟩ := h
        refine z_sld (pc := 244) K hw15 hX hj22 dL_law_244 ?_
        refine lv_aload_n (pc := 245) K.x K.b dL_law_245 rfl (lv_at hl 0 rfl) ?_
        refine lv_iload (pc := 246) K.x K.b dL_law_246 (lv_at hl 4 rfl) ?_
        refine z_iconst (pc := 248) K dL_law_248 ?_
        refine z_iadd (pc := 249) K dL_law_249 ?_
        obtain ⟨hj23, h⟩ := h
        refine z_sld (pc := 250) K hw15 hX hj23 dL_law_250 ?_
        refine lv_aload_n (pc := 251) K.x K.b dL_law_251 rfl (lv_at hl 0 rfl) ?_
        refine lv_iload (pc := 252) K.x K.b dL_law_252 (lv_at hl 4 rfl) ?_
        refine z_iconst (pc := 254) K dL_law_254 ?_
        refine z_iadd (pc := 255) K dL_law_255 ?_
        obtain ⟨hj24, h⟩ := h
        refine z_sld (pc := 256) K hw15 hX hj24 dL_law_256 ?_
        refine lv_aload_n (pc := 257) K.x K.b dL_law_257 rfl (lv_at hl 0 rfl) ?_
        refine lv_iload (pc := 258) K.x K.b dL_law_258 (lv_at hl 4 rfl) ?_
        refine z_iconst (pc := 260) K dL_law_260 ?_
        refine z_iadd (pc := 261) K dL_law_261 ?_
        obtain ⟨hj25, h⟩ := h
        refine z_sld (pc := 262) K hw15 hX hj25 dL_law_262 ?_
        refine lv_aload_n (pc := 263) K.x K.b dL_law_263 rfl (lv_at hl 0 rfl) ?_
        refine lv_iload (pc := 264) K.x K.b dL_law_264 (lv_at hl 4 rfl) ?_
        refine z_iconst (pc := 266) K dL_law_266 ?_
        refine z_iadd (pc := 267) K dL_law_267 ?_
        obtain ⟨hj26, h⟩ := h
        refine z_sld (pc := 268) K hw15 hX hj26 dL_law_268 ?_
        refine zc_i (pc := 269) (maxL := 6) K hw15 (met_X11_feed X l σ14 v2 (sc (v4 + 1)) (sc (v4 + 2)) (sc (v4 + 3)) (sc (v4 + 4)) (sc (v4 + 5)) hg19 (hX.r hj22) (hX.r hj23) (hX.r hj24) (hX.r hj25) (hX.r hj26) _ h) (i_V (n := 5) (t := 10) (As := [jI (sc (v4 + 1)), jI (sc (v4 + 2)), jI (sc (v4 + 3)), jI (sc (v4 + 4)), jI (sc (v4 + 5))]) K hw15 (ob hg19) zq10 (by decide) q1592 q1593 q1594 (sg_of K q1595) rfl rfl dL_law_269) (locw K q1595 q102) ⟨by decide, by decide⟩ hl.1 dL_law_269 (Nat.le_of_ble_eq_true rfl) (cr_le1 hcr) (fun r27 σ30 _ _ hr28 hq29 hw31 => ?_)
        obtain ⟨hk32, h⟩ := hq29
        have h := h hk32
        have hk33 := kp_trans wo_L_law hk17 hk32 (fun _ q => q) (by decide)
        have hg34 : tg σ30 v1 = 1 := kp_tg hk32 wo_X11_feed hg18 (by decide)
        have hg35 : tg σ30 v2 = 10 := kp_tg hk32 wo_X11_feed hg19 (by decide)
        have hg36 : tg σ30 v3 = 62 := kp_tg hk32 wo_X11_feed hg20 (by decide)
        have hln37 : σ30 v3 1 0 = 1 := len_kp hk32 hg20 (by decide) (by decide) hln21
        refine z_icmp_eq (pc := 272) (tgt := 1335) K hr12 hr28 dL_law_272 (by decide) (fun hc38 => ?_) (fun hc38 => ?_)
        · have h := ite_t h hc38
          refine z_iinc (pc := 1335) (k := 4) (lv' := [(4, jI (v4 + 6)), (0, .ref b), (1, jR X v1), (2, jR X v2), (3, jR X v3)]) K dL_law_1335 hl rfl (by decide) (by first | (simp [jR_cat]; done) | (simp [jR_cat, show ((3 : Fin 4) : Nat) = 3 from rfl]; done)) (fun ls hl => ?_)
          refine z_goto (pc := 1338) (tgt := 23) K dL_law_1338 (by decide) ?_
          obtain ⟨hr39, h⟩ := h
          exact ih σ30 cr v1 v2 v3 (v4 + 6) _ _ _ _ _ h hw31 hk33 hcr hg34 hg35 hg36 hln37 hr39 (lv_sub hl [1, 2, 3, 4, 0] rfl)
        · have h := ite_f h hc38
          refine z_iconst (pc := 275) K dL_law_275 ?_
          exact za_zret (pc := 276) K hw31 hcr ⟨by decide, by decide⟩ ⟨hk33, h⟩ dL_law_276
      · replace h := ite_f h hc5
        by_cases hc40 : (zand (sc v4) 63) = 1
        · replace h := ite_t h hc40
          refine lv_tableIn (pc := 40) (tgt := 277) K.x K.b dL_law_40 (by rw [rng_ofInt hrs4, hc40]; decide) (by rw [rng_ofInt hrs4, hc40]; decide) (off := 237) (by rw [rng_ofInt hrs4, hc40]; rfl) (by decide) ?_
          refine z_aload_n (pc := 277) K dL_law_277 rfl (lv_at hl 1 rfl) ?_
          refine lv_aload_n (pc := 278) K.x K.b dL_law_278 rfl (lv_at hl 0 rfl) ?_
          refine lv_iload (pc := 279) K.x K.b dL_law_279 (lv_at hl 4 rfl) ?_
          refine z_iconst (pc := 281) K dL_law_281 ?_
          refine z_iadd (pc := 282) K dL_law_282 ?_
          obtain ⟨hj41, h⟩ := h
          refine z_sld (pc := 283) K hw hX hj41 dL_law_283 ?_
          refine zc_z (pc := 284) (maxL := 2) K hw (met_X1_end X l σ v1 (sc (v4 + 1)) htv1 (hX.r hj41) _ h) (i_V (n := 1) (t := 1) (As := [jI (sc (v4 + 1))]) K hw (ob htv1) zq1 (by decide) q641 q642 q643 (sg_of K q644) rfl rfl dL_law_284) (locw K q644 q90) ⟨by decide, by decide⟩ hl.1 dL_law_284 (Nat.le_of_ble_eq_true rfl) (cr_le1 hcr) (fun r42 σ45 _ _ hr43 hq44 hw46 => ?_)
          obtain ⟨hk47, h⟩ := hq44
          have h := h hk47
          have hk48 := kp_trans wo_L_law hk hk47 (fun _ q => q) (by decide)
          have hg49 : tg σ45 v1 = 1 := kp_tg hk47 wo_X1_end htv1 (by decide)
          have hg50 : tg σ45 v2 = 10 := kp_tg hk47 wo_X1_end htv2 (by decide)
          have hg51 : tg σ45 v3 = 62 := kp_tg hk47 wo_X1_end htv3 (by decide)
          have hln52 : σ45 v3 1 0 = 1 := len_kp hk47 htv3 (by decide) (by decide) hlnv3
          refine z_aload_n (pc := 287) K dL_law_287 rfl (lv_at hl 2 rfl) ?_
          refine lv_aload_n (pc := 288) K.x K.b dL_law_288 rfl (lv_at hl 0 rfl) ?_
          refine lv_iload (pc := 289) K.x K.b dL_law_289 (lv_at hl 4 rfl) ?_
          refine z_iconst (pc := 291) K dL_law_291 ?_
          refine z_iadd (pc := 292) K dL_law_292 ?_
          obtain ⟨hj53, h⟩ := h
          refine z_sld (pc := 293) K hw46 hX hj53 dL_law_293 ?_
          refine zc_z (pc := 294) (maxL := 2) K hw46 (met_X11_end X l σ45 v2 (sc (v4 + 1)) hg50 (hX.r hj53) _ h) (i_V (n := 1) (t := 10) (As := [jI (sc (v4 + 1))]) K hw46 (ob hg50) zq10 (by decide) q1600 q1601 q1602 (sg_of K q1603) rfl rfl dL_law_294) (locw K q1603 q102) ⟨by decide, by decide⟩ hl.1 dL_law_294 (Nat.le_of_ble_eq_true rfl) (cr_le1 hcr) (fun r54 σ57 _ _ hr55 hq56 hw58 => ?_)
          obtain ⟨hk59, h⟩ := hq56
          have h := h hk59
          have hk60 := kp_trans wo_L_law hk48 hk59 (fun _ q => q) (by decide)
          have hg61 : tg σ57 v1 = 1 := kp_tg hk59 wo_X11_end hg49 (by decide)
          have hg62 : tg σ57 v2 = 10 := kp_tg hk59 wo_X11_end hg50 (by decide)
          have hg63 : tg σ57 v3 = 62 := kp_tg hk59 wo_X11_end hg51 (by decide)
          have hln64 : σ57 v3 1 0 = 1 := len_kp hk59 hg51 (by decide) (by decide) hln52
          refine z_icmp_eq (pc := 297) (tgt := 1335) K (b01r hr43) (b01r hr55) dL_law_297 (by decide) (fun hc65 => ?_) (fun hc65 => ?_)
          · have h := ite_t h hc65
            refine z_iinc (pc := 1335) (k := 4) (lv' := [(4, jI (v4 + 6)), (0, .ref b), (1, jR X v1), (2, jR X v2), (3, jR X v3)]) K dL_law_1335 hl rfl (by decide) (by first | (simp [jR_cat]; done) | (simp [jR_cat, show ((3 : Fin 4) : Nat) = 3 from rfl]; done)) (fun ls hl => ?_)
            refine z_goto (pc := 1338) (tgt := 23) K dL_law_1338 (by decide) ?_
            obtain ⟨hr66, h⟩ := h
            exact ih σ57 cr v1 v2 v3 (v4 + 6) _ _ _ _ _ h hw58 hk60 hcr hg61 hg62 hg63 hln64 hr66 (lv_sub hl [1, 2, 3, 4, 0] rfl)
          · have h := ite_f h hc65
            refine z_iconst (pc := 300) K dL_law_300 ?_
            exact za_zret (pc := 301) K hw58 hcr ⟨by decide, by decide⟩ ⟨hk60, h⟩ dL_law_301
        · replace h := ite_f h hc40
          by_cases hc67 : (zand (sc v4) 63) = 2
          · replace h := ite_t h hc67
            refine lv_tableIn (pc := 40) (tgt := 302) K.x K.b dL_law_40 (by rw [rng_ofInt hrs4, hc67]; decide) (by rw [rng_ofInt hrs4, hc67]; decide) (off := 262) (by rw [rng_ofInt hrs4, hc67]; rfl) (by decide) ?_
            refine z_aload_n (pc := 302) K dL_law_302 rfl (lv_at hl 1 rfl) ?_
            refine zac_i (pc := 303) (maxL := 3) K hw (met_X1_table X l σ v1 htv1 cr hcr.2.2 _ h) (i_V (n := 0) (t := 1) (As := []) K hw (ob htv1) zq1 (by decide) q645 q646 q647 (sg_ofW K q648) rfl rfl dL_law_303) (locwW K q648 q90) ⟨by decide, by decide⟩ hl.1 dL_law_303 (by decide) hcr (Int.toNat_of_nonneg hcr.2.2) ⟨by decide, by decide⟩ (fun r68 σ71 _ _ _ _ cr73 hr69 hq70 hw72 hcr74 => ?_)
            obtain ⟨hk75, h⟩ := hq70
            have h := h hk75
            have hk76 := kp_trans wo_L_law hk hk75 (fun _ q => q) (by decide)
            have hg77 : tg σ71 v1 = 1 := kp_tg hk75 wo_X1_table htv1 (by decide)
            have hg78 : tg σ71 v2 = 10 := kp_tg hk75 wo_X1_table htv2 (by decide)
            have hg79 : tg σ71 v3 = 62 := kp_tg hk75 wo_X1_table htv3 (by decide)
            have hln80 : σ71 v3 1 0 = 1 := len_kp hk75 htv3 (by decide) (by decide) hlnv3
            refine z_aload_n (pc := 306) K dL_law_306 rfl (lv_at hl 2 rfl) ?_
            refine zc_i (pc := 307) (maxL := 3) K hw72 (met_X11_table X l σ71 v2 hg78 _ h) (i_V (n := 0) (t := 10) (As := []) K hw72 (ob hg78) zq10 (by decide) q1604 q1605 q1606 (sg_of K q1607) rfl rfl dL_law_307) (locw K q1607 q102) ⟨by decide, by decide⟩ hl.1 dL_law_307 (Nat.le_of_ble_eq_true rfl) (cr_le1 hcr74) (fun r81 σ84 _ _ hr82 hq83 hw85 => ?_)
            obtain ⟨hk86, h⟩ := hq83
            have h := h hk86
            have hk87 := kp_trans wo_L_law hk76 hk86 (fun _ q => q) (by decide)
            have hg88 : tg σ84 v1 = 1 := kp_tg hk86 wo_X11_table hg77 (by decide)
            have hg89 : tg σ84 v2 = 10 := kp_tg hk86 wo_X11_table hg78 (by decide)
            have hg90 : tg σ84 v3 = 62 := kp_tg hk86 wo_X11_table hg79 (by decide)
            have hln91 : σ84 v3 1 0 = 1 := len_kp hk86 hg79 (by decide) (by decide) hln80
            refine z_icmp_eq (pc := 310) (tgt := 1335) K hr69 hr82 dL_law_310 (by decide) (fun hc92 => ?_) (fun hc92 => ?_)
            · have h := ite_t h hc92
              refine z_iinc (pc := 1335) (k := 4) (lv' := [(4, jI (v4 + 6)), (0, .ref b), (1, jR X v1), (2, jR X v2), (3, jR X v3)]) K dL_law_1335 hl rfl (by decide) (by first | (simp [jR_cat]; done) | (simp [jR_cat, show ((3 : Fin 4) : Nat) = 3 from rfl]; done)) (fun ls hl => ?_)
              refine z_goto (pc := 1338) (tgt := 23) K dL_law_1338 (by decide) ?_
              obtain ⟨hr93, h⟩ := h
              exact ih σ84 cr73 v1 v2 v3 (v4 + 6) _ _ _ _ _ h hw85 hk87 hcr74 hg88 hg89 hg90 hln91 hr93 (lv_sub hl [1, 2, 3, 4, 0] rfl)
            · have h := ite_f h hc92
              refine z_iconst (pc := 313) K dL_law_313 ?_
              exact za_zret (pc := 314) K hw85 hcr74 ⟨by decide, by decide⟩ ⟨hk87, h⟩ dL_law_314
          · replace h := ite_f h hc67
            by_cases hc94 : (zand (sc v4) 63) = 3
            · replace h := ite_t h hc94
              refine lv_tableIn (pc := 40) (tgt := 315) K.x K.b dL_law_40 (by rw [rng_ofInt hrs4, hc94]; decide) (by rw [rng_ofInt hrs4, hc94]; decide) (off := 275) (by rw [rng_ofInt hrs4, hc94]; rfl) (by decide) ?_
              refine z_aload_n (pc := 315) K dL_law_315 rfl (lv_at hl 1 rfl) ?_
              refine zr_i (pc := 316) (maxL := 1) K hw (met_X1_fault X l σ v1 htv1 _ h) (i_V (n := 0) (t := 1) (As := []) K hw (ob htv1) zq1 (by decide) q890 q891 q892 (sg_of K q893) rfl rfl dL_law_316) (locw K q893 q90) ⟨by decide, by decide⟩ hl.1 dL_law_316 (Nat.le_of_ble_eq_true rfl) (cr_le1 hcr) (fun r95 _ _ hr96 h hw99 => ?_)
              refine z_aload_n (pc := 319) K dL_law_319 rfl (lv_at hl 2 rfl) ?_
              refine zc_i (pc := 320) (maxL := 1) K hw99 (met_X11_fault X l σ v2 htv2 _ h) (i_V (n := 0) (t := 10) (As := []) K hw99 (ob htv2) zq10 (by decide) q1707 q1708 q1709 (sg_of K q1710) rfl rfl dL_law_320) (locw K q1710 q102) ⟨by decide, by decide⟩ hl.1 dL_law_320 (Nat.le_of_ble_eq_true rfl) (cr_le1 hcr) (fun r100 σ103 _ _ hr101 hq102 hw104 => ?_)
              obtain ⟨hk105, h⟩ := hq102
              have h := h hk105
              have hk106 := kp_trans wo_L_law hk hk105 (fun _ q => q) (by decide)
              have hg107 : tg σ103 v1 = 1 := kp_tg hk105 wo_X11_fault htv1 (by decide)
              have hg108 : tg σ103 v2 = 10 := kp_tg hk105 wo_X11_fault htv2 (by decide)
              have hg109 : tg σ103 v3 = 62 := kp_tg hk105 wo_X11_fault htv3 (by decide)
              have hln110 : σ103 v3 1 0 = 1 := len_kp hk105 htv3 (by decide) (by decide) hlnv3
              refine z_icmp_eq (pc := 323) (tgt := 1335) K hr96 hr101 dL_law_323 (by decide) (fun hc111 => ?_) (fun hc111 => ?_)
              · have h := ite_t h hc111
                refine z_iinc (pc := 1335) (k := 4) (lv' := [(4, jI (v4 + 6)), (0, .ref b), (1, jR X v1), (2, jR X v2), (3, jR X v3)]) K dL_law_1335 hl rfl (by decide) (by first | (simp [jR_cat]; done) | (simp [jR_cat, show ((3 : Fin 4) : Nat) = 3 from rfl]; done)) (fun ls hl => ?_)
                refine z_goto (pc := 1338) (tgt := 23) K dL_law_1338 (by decide) ?_
                obtain ⟨hr112, h⟩ := h
                exact ih σ103 cr v1 v2 v3 (v4 + 6) _ _ _ _ _ h hw104 hk106 hcr hg107 hg108 hg109 hln110 hr112 (lv_sub hl [1, 2, 3, 4, 0] rfl)
              · have h := ite_f h hc111
                refine z_iconst (pc := 326) K dL_law_326 ?_
                exact za_zret (pc := 327) K hw104 hcr ⟨by decide, by decide⟩ ⟨hk106, h⟩ dL_law_327
            · replace h := ite_f h hc94
              by_cases hc113 : (zand (sc v4) 63) = 4
              · replace h := ite_t h hc113
                refine lv_tableIn (pc := 40) (tgt := 328) K.x K.b dL_law_40 (by rw [rng_ofInt hrs4, hc113]; decide) (by rw [rng_ofInt hrs4, hc113]; decide) (off := 288) (by rw [rng_ofInt hrs4, hc113]; rfl) (by decide) ?_
                refine z_aload_n (pc := 328) K dL_law_328 rfl (lv_at hl 1 rfl) ?_
                refine lv_aload_n (pc := 329) K.x K.b dL_law_329 rfl (lv_at hl 0 rfl) ?_
                refine lv_iload (pc := 330) K.x K.b dL_law_330 (lv_at hl 4 rfl) ?_
                refine z_iconst (pc := 332) K dL_law_332 ?_
                refine z_iadd (pc := 333) K dL_law_333 ?_
                obtain ⟨hj114, h⟩ := h
                refine z_sld (pc := 334) K hw hX hj114 dL_law_334 ?_
                refine zr_i (pc := 335) (maxL := 2) K hw (met_X1_rank X l σ v1 (sc (v4 + 1)) htv1 (hX.r hj114) _ h) (i_V (n := 1) (t := 1) (As := [jI (sc (v4 + 1))]) K hw (ob htv1) zq1 (by decide) q894 q895 q896 (sg_of K q897) rfl rfl dL_law_335) (locw K q897 q90) ⟨by decide, by decide⟩ hl.1 dL_law_335 (Nat.le_of_ble_eq_true rfl) (cr_le1 hcr) (fun r115 _ _ hr116 h hw119 => ?_)
                refine z_aload_n (pc := 338) K dL_law_338 rfl (lv_at hl 2 rfl) ?_
                refine lv_aload_n (pc := 339) K.x K.b dL_law_339 rfl (lv_at hl 0 rfl) ?_
                refine lv_iload (pc := 340) K.x K.b dL_law_340 (lv_at hl 4 rfl) ?_
                refine z_iconst (pc := 342) K dL_law_342 ?_
                refine z_iadd (pc := 343) K dL_law_343 ?_
                obtain ⟨hj120, h⟩ := h
                refine z_sld (pc := 344) K hw119 hX hj120 dL_law_344 ?_
                refine zc_i (pc := 345) (maxL := 2) K hw119 (met_X11_rank X l σ v2 (sc (v4 + 1)) htv2 (hX.r hj120) _ h) (i_V (n := 1) (t := 10) (As := [jI (sc (v4 + 1))]) K hw119 (ob htv2) zq10 (by decide) q1711 q1712 q1713 (sg_of K q1714) rfl rfl dL_law_345) (locw K q1714 q102) ⟨by decide, by decide⟩ hl.1 dL_law_345 (Nat.le_of_ble_eq_true rfl) (cr_le1 hcr) (fun r121 σ124 _ _ hr122 hq123 hw125 => ?_)
                obtain ⟨hk126, h⟩ := hq123
                have h := h hk126
                have hk127 := kp_trans wo_L_law hk hk126 (fun _ q => q) (by decide)
                have hg128 : tg σ124 v1 = 1 := kp_tg hk126 wo_X11_rank htv1 (by decide)
                have hg129 : tg σ124 v2 = 10 := kp_tg hk126 wo_X11_rank htv2 (by decide)
                have hg130 : tg σ124 v3 = 62 := kp_tg hk126 wo_X11_rank htv3 (by decide)
                have hln131 : σ124 v3 1 0 = 1 := len_kp hk126 htv3 (by decide) (by decide) hlnv3
                refine z_icmp_eq (pc := 348) (tgt := 1335) K hr116 hr122 dL_law_348 (by decide) (fun hc132 => ?_) (fun hc132 => ?_)
                · have h := ite_t h hc132
                  refine z_iinc (pc := 1335) (k := 4) (lv' := [(4, jI (v4 + 6)), (0, .ref b), (1, jR X v1), (2, jR X v2), (3, jR X v3)]) K dL_law_1335 hl rfl (by decide) (by first | (simp [jR_cat]; done) | (simp [jR_cat, show ((3 : Fin 4) : Nat) = 3 from rfl]; done)) (fun ls hl => ?_)
                  refine z_goto (pc := 1338) (tgt := 23) K dL_law_1338 (by decide) ?_
                  obtain ⟨hr133, h⟩ := h
                  exact ih σ124 cr v1 v2 v3 (v4 + 6) _ _ _ _ _ h hw125 hk127 hcr hg128 hg129 hg130 hln131 hr133 (lv_sub hl [1, 2, 3, 4, 0] rfl)
                · have h := ite_f h hc132
                  refine z_iconst (pc := 351) K dL_law_351 ?_
                  exact za_zret (pc := 352) K hw125 hcr ⟨by decide, by decide⟩ ⟨hk127, h⟩ dL_law_352
              · replace h := ite_f h hc113
                by_cases hc134 : (zand (sc v4) 63) = 5
                · replace h := ite_t h hc134
                  refine lv_tableIn (pc := 40) (tgt := 353) K.x K.b dL_law_40 (by rw [rng_ofInt hrs4, hc134]; decide) (by rw [rng_ofInt hrs4, hc134]; decide) (off := 313) (by rw [rng_ofInt hrs4, hc134]; rfl) (by decide) ?_
                  refine z_aload_n (pc := 353) K dL_law_353 rfl (lv_at hl 1 rfl) ?_
                  refine lv_aload_n (pc := 354) K.x K.b dL_law_354 rfl (lv_at hl 0 rfl) ?_
                  refine lv_iload (pc := 355) K.x K.b dL_law_355 (lv_at hl 4 rfl) ?_
                  refine z_iconst (pc := 357) K dL_law_357 ?_
                  refine z_iadd (pc := 358) K dL_law_358 ?_
                  obtain ⟨hj135, h⟩ := h
                  refine z_sld (pc := 359) K hw hX hj135 dL_law_359 ?_
                  refine lv_aload_n (pc := 360) K.x K.b dL_law_360 rfl (lv_at hl 0 rfl) ?_
                  refine lv_iload (pc := 361) K.x K.b dL_law_361 (lv_at hl 4 rfl) ?_
                  refine z_iconst (pc := 363) K dL_law_363 ?_
                  refine z_iadd (pc := 364) K dL_law_364 ?_
                  obtain ⟨hj136, h⟩ := h
                  refine z_sld (pc := 365) K hw hX hj136 dL_law_365 ?_
                  refine z_aload_n (pc := 366) K dL_law_366 rfl (lv_at hl 3 rfl) ?_
                  refine zac_i (pc := 367) (maxL := 5) K hw (met_X0_kind X l hfl σ v1 (sc (v4 + 1)) (sc (v4 + 2)) v3 htv1 (hX.r hj135) (hX.r hj136) htv3 hlnv3 cr hcr.2.2 _ h) (i_S (n := 4) (As := [jR X v1, jI (sc (v4 + 1)), jI (sc (v4 + 2)), jR X v3]) K (by decide) q1364 q1365 q89 (sg_ofW K q1366) rfl rfl dL_law_367) (locwW K q1366 q89) ⟨by decide, by decide⟩ hl.1 dL_law_367 (by decide) hcr (Int.toNat_of_nonneg hcr.2.2) ⟨by decide, by decide⟩ (fun r137 σ140 _ _ _ _ cr142 hr138 hq139 hw141 hcr143 => ?_)
                  obtain ⟨hk144, h⟩ := hq139
                  have h := h hk144
                  have hk145 := kp_trans wo_L_law hk hk144 (fun _ q => q) (by decide)
                  have hg146 : tg σ140 v1 = 1 := kp_tg hk144 wo_X0_kind htv1 (by decide)
                  have hg147 : tg σ140 v2 = 10 := kp_tg hk144 wo_X0_kind htv2 (by decide)
                  have hg148 : tg σ140 v3 = 62 := kp_tg hk144 wo_X0_kind htv3 (by decide)
                  have hln149 : σ140 v3 1 0 = 1 := len_kp hk144 htv3 (by decide) (by decide) hlnv3
                  refine lv_istore (pc := 370) (lv' := [(5, jI r137), (0, .ref b), (1, jR X v1), (2, jR X v2), (3, jR X v3), (4, jI v4)]) K.x K.b dL_law_370 hl (by decide) rfl (fun ls hl => ?_)
                  refine z_aload_n (pc := 372) K dL_law_372 rfl (lv_at hl 3 rfl) ?_
                  refine lv_aload_n (pc := 373) K.x K.b dL_law_373 rfl (lv_at hl 1 rfl) ?_
                  refine lv_iload (pc := 374) K.x K.b dL_law_374 (lv_at hl 5 rfl) ?_
                  refine z_iconst (pc := 376) K dL_law_376 ?_
                  refine z_iadd (pc := 377) K dL_law_377 ?_
                  obtain ⟨hj150, h⟩ := h
                  refine z_sld (pc := 378) K hw141 hX hj150 dL_law_378 ?_
                  refine lv_aload_n (pc := 379) K.x K.b dL_law_379 rfl (lv_at hl 1 rfl) ?_
                  refine lv_iload (pc := 380) K.x K.b dL_law_380 (lv_at hl 5 rfl) ?_
                  refine z_iconst (pc := 382) K dL_law_382 ?_
                  refine z_iadd (pc := 383) K dL_law_383 ?_
                  obtain ⟨hj151, h⟩ := h
                  refine z_sld (pc := 384) K hw141 hX hj151 dL_law_384 ?_
                  refine zc_i (pc := 385) (maxL := 3) K hw141 (met_X11_kind X l σ140 v2 (sc (v4 + 1)) (sc (v4 + 2)) hg147 (hX.r hj150) (hX.r hj151) _ h) (i_V (n := 2) (t := 10) (As := [jI (sc (v4 + 1)), jI (sc (v4 + 2))]) K hw141 (ob hg147) zq10 (by decide) q1719 q1720 q1721 (sg_of K q1722) rfl rfl dL_law_385) (locw K q1722 q102) ⟨by decide, by decide⟩ hl.1 dL_law_385 (Nat.le_of_ble_eq_true rfl) (cr_le1 hcr143) (fun r152 σ155 _ _ hr153 hq154 hw156 => ?_)
                  obtain ⟨hk157, h⟩ := hq154
                  have h := h hk157
                  have hk158 := kp_trans wo_L_law hk145 hk157 (fun _ q => q) (by decide)
                  have hg159 : tg σ155 v1 = 1 := kp_tg hk157 wo_X11_kind hg146 (by decide)
                  have hg160 : tg σ155 v2 = 10 := kp_tg hk157 wo_X11_kind hg147 (by decide)
                  have hg161 : tg σ155 v3 = 62 := kp_tg hk157 wo_X11_kind hg148 (by decide)
                  have hln162 : σ155 v3 1 0 = 1 := len_kp hk157 hg148 (by decide) (by decide) hln149
                  refine lv_istore (pc := 388) (lv' := [(6, jI r152), (5, jI r137), (0, .ref b), (1, jR X v1), (2, jR X v2), (3, jR X v3), (4, jI v4)]) K.x K.b dL_law_388 hl (by decide) rfl (fun ls hl => ?_)
                  refine z_aload_n (pc := 390) K dL_law_390 rfl (lv_at hl 4 rfl) ?_
                  refine zr_i (pc := 391) (maxL := 1) K hw156 (met_X11_thrown X l σ155 v2 hg160 _ h) (i_V (n := 0) (t := 10) (As := []) K hw156 (ob hg160) zq10 (by decide) q1588 q1589 q1590 (sg_of K q1591) rfl rfl dL_law_391) (locw K q1591 q102) ⟨by decide, by decide⟩ hl.1 dL_law_391 (Nat.le_of_ble_eq_true rfl) (cr_le1 hcr143) (fun r163 _ _ hr164 h hw167 => ?_)
                  refine lv_iload (pc := 394) K.x K.b dL_law_394 (lv_at hl 1 rfl) ?_
                  refine z_icmp_eq (pc := 396) (tgt := 401) K hr164 hr138 dL_law_396 (by decide) (fun hc168 => ?_) (fun hc168 => ?_)
                  · have h := ite_t h hc168
                    refine lv_iload (pc := 401) K.x K.b dL_law_401 (lv_at hl 1 rfl) ?_
                    refine z_if_ne (pc := 403) (tgt := 418) K hr138 dL_law_403 (by decide) (fun hc169 => ?_) (fun hc169 => ?_)
                    · have h := ite_t h hc169
                      refine z_aload_n (pc := 406) K dL_law_406 rfl (lv_at hl 5 rfl) ?_
                      refine z_iconst (pc := 407) K dL_law_407 ?_
                      refine z_laldS (pc := 408) K hw167 hg161 hln162 ⟨by decide, by decide⟩ (by decide) dL_law_408 (fun hr170 => ?_)
                      refine lv_iload (pc := 409) K.x K.b dL_law_409 (lv_at hl 0 rfl) ?_
                      refine z_i2l (pc := 411) K hr153 dL_law_411 ?_
                      refine z_lcmp (pc := 412) K hr170 (rng_L hr153) dL_law_412 ?_
                      refine z_if_eq (pc := 413) (tgt := 418) K (rng_zcmp _ _) dL_law_413 (by decide) (fun hc171 => ?_) (fun hc171 => ?_)
                      · have hc171 := zcmp_eq.mp hc171
                        have h := ite_t h hc171
                        refine z_goto (pc := 418) (tgt := 1335) K dL_law_418 (by decide) ?_
                        refine z_iinc (pc := 1335) (k := 6) (lv' := [(4, jI (v4 + 6)), (6, jI r152), (5, jI r137), (0, .ref b), (1, jR X v1), (2, jR X v2), (3, jR X v3)]) K dL_law_1335 hl rfl (by decide) (by first | (simp [jR_cat]; done) | (simp [jR_cat, show ((3 : Fin 4) : Nat) = 3 from rfl]; done)) (fun ls hl => ?_)
                        refine z_goto (pc := 1338) (tgt := 23) K dL_law_1338 (by decide) ?_
                        obtain ⟨hr172, h⟩ := h
                        exact ih σ155 cr142 v1 v2 v3 (v4 + 6) _ _ _ _ _ h hw167 hk158 hcr143 hg159 hg160 hg161 hln162 hr172 (lv_sub hl [3, 4, 5, 6, 0] rfl)
                      · have hc171 := fun q => hc171 (zcmp_eq.mpr q)
                        have h := ite_f h hc171
                        refine z_iconst (pc := 416) K dL_law_416 ?_
                        exact za_zret (pc := 417) K hw167 hcr143 ⟨by decide, by decide⟩ ⟨hk158, h⟩ dL_law_417
                    · have h := ite_f h hc169
                      refine z_goto (pc := 418) (tgt := 1335) K dL_law_418 (by decide) ?_
                      refine z_iinc (pc := 1335) (k := 6) (lv' := [(4, jI (v4 + 6)), (6, jI r152), (5, jI r137), (0, .ref b), (1, jR X v1), (2, jR X v2), (3, jR X v3)]) K dL_law_1335 hl rfl (by decide) (by first | (simp [jR_cat]; done) | (simp [jR_cat, show ((3 : Fin 4) : Nat) = 3 from rfl]; done)) (fun ls hl => ?_)
                      refine z_goto (pc := 1338) (tgt := 23) K dL_law_1338 (by decide) ?_
                      obtain ⟨hr173, h⟩ := h
                      exact ih σ155 cr142 v1 v2 v3 (v4 + 6) _ _ _ _ _ h hw167 hk158 hcr143 hg159 hg160 hg161 hln162 hr173 (lv_sub hl [3, 4, 5, 6, 0] rfl)
                  · have h := ite_f h hc168
                    refine z_iconst (pc := 399) K dL_law_399 ?_
                    exact za_zret (pc := 400) K hw167 hcr143 ⟨by decide, by decide⟩ ⟨hk158, h⟩ dL_law_400
                · replace h := ite_f h hc134
                  by_cases hc174 : (zand (sc v4) 63) = 6
                  · replace h := ite_t h hc174
                    refine lv_tableIn (pc := 40) (tgt := 421) K.x K.b dL_law_40 (by rw [rng_ofInt hrs4, hc174]; decide) (by rw [rng_ofInt hrs4, hc174]; decide) (off := 381) (by rw [rng_ofInt hrs4, hc174]; rfl) (by decide) ?_
                    refine z_aload_n (pc := 421) K dL_law_421 rfl (lv_at hl 1 rfl) ?_
                    refine lv_aload_n (pc := 422) K.x K.b dL_law_422 rfl (lv_at hl 0 rfl) ?_
                    refine lv_iload (pc := 423) K.x K.b dL_law_423 (lv_at hl 4 rfl) ?_
                    refine z_iconst (pc := 425) K dL_law_425 ?_
                    refine z_iadd (pc := 426) K dL_law_426 ?_
                    obtain ⟨hj175, h⟩ := h
                    refine z_sld (pc := 427) K hw hX hj175 dL_law_427 ?_
                    refine lv_aload_n (pc := 428) K.x K.b dL_law_428 rfl (lv_at hl 0 rfl) ?_
                    refine lv_iload (pc := 429) K.x K.b dL_law_429 (lv_at hl 4 rfl) ?_
                    refine z_iconst (pc := 431) K dL_law_431 ?_
                    refine z_iadd (pc := 432) K dL_law_432 ?_
                    obtain ⟨hj176, h⟩ := h
                    refine z_sld (pc := 433) K hw hX hj176 dL_law_433 ?_
                    refine zc_i (pc := 434) (maxL := 3) K hw (met_X1_say X l σ v1 (sc (v4 + 1)) (sc (v4 + 2)) htv1 (hX.r hj175) (hX.r hj176) _ h) (i_V (n := 2) (t := 1) (As := [jI (sc (v4 + 1)), jI (sc (v4 + 2))]) K hw (ob htv1) zq1 (by decide) q903 q904 q905 (sg_of K q906) rfl rfl dL_law_434) (locw K q906 q90) ⟨by decide, by decide⟩ hl.1 dL_law_434 (Nat.le_of_ble_eq_true rfl) (cr_le1 hcr) (fun r177 σ180 _ _ hr178 hq179 hw181 => ?_)
                    obtain ⟨hk182, h⟩ := hq179
                    have h := h hk182
                    have hk183 := kp_trans wo_L_law hk hk182 (fun _ q => q) (by decide)
                    have hg184 : tg σ180 v1 = 1 := kp_tg hk182 wo_X1_say htv1 (by decide)
                    have hg185 : tg σ180 v2 = 10 := kp_tg hk182 wo_X1_say htv2 (by decide)
                    have hg186 : tg σ180 v3 = 62 := kp_tg hk182 wo_X1_say htv3 (by decide)
                    have hln187 : σ180 v3 1 0 = 1 := len_kp hk182 htv3 (by decide) (by decide) hlnv3
                    refine z_aload_n (pc := 437) K dL_law_437 rfl (lv_at hl 2 rfl) ?_
                    refine lv_aload_n (pc := 438) K.x K.b dL_law_438 rfl (lv_at hl 0 rfl) ?_
                    refine lv_iload (pc := 439) K.x K.b dL_law_439 (lv_at hl 4 rfl) ?_
                    refine z_iconst (pc := 441) K dL_law_441 ?_
                    refine z_iadd (pc := 442) K dL_law_442 ?_
                    obtain ⟨hj188, h⟩ := h
                    refine z_sld (pc := 443) K hw181 hX hj188 dL_law_443 ?_
                    refine lv_aload_n (pc := 444) K.x K.b dL_law_444 rfl (lv_at hl 0 rfl) ?_
                    refine lv_iload (pc := 445) K.x K.b dL_law_445 (lv_at hl 4 rfl) ?_
                    refine z_iconst (pc := 447) K dL_law_447 ?_
                    refine z_iadd (pc := 448) K dL_law_448 ?_
                    obtain ⟨hj189, h⟩ := h
                    refine z_sld (pc := 449) K hw181 hX hj189 dL_law_449 ?_
                    refine zc_i (pc := 450) (maxL := 4) K hw181 (met_X11_say X l σ180 v2 (sc (v4 + 1)) (sc (v4 + 2)) hg185 (hX.r hj188) (hX.r hj189) _ h) (i_V (n := 2) (t := 10) (As := [jI (sc (v4 + 1)), jI (sc (v4 + 2))]) K hw181 (ob hg185) zq10 (by decide) q1731 q1732 q1733 (sg_of K q1734) rfl rfl dL_law_450) (locw K q1734 q102) ⟨by decide, by decide⟩ hl.1 dL_law_450 (Nat.le_of_ble_eq_true rfl) (cr_le1 hcr) (fun r190 σ193 _ _ hr191 hq192 hw194 => ?_)
                    obtain ⟨hk195, h⟩ := hq192
                    have h := h hk195
                    have hk196 := kp_trans wo_L_law hk183 hk195 (fun _ q => q) (by decide)
                    have hg197 : tg σ193 v1 = 1 := kp_tg hk195 wo_X11_say hg184 (by decide)
                    have hg198 : tg σ193 v2 = 10 := kp_tg hk195 wo_X11_say hg185 (by decide)
                    have hg199 : tg σ193 v3 = 62 := kp_tg hk195 wo_X11_say hg186 (by decide)
                    have hln200 : σ193 v3 1 0 = 1 := len_kp hk195 hg186 (by decide) (by decide) hln187
                    refine z_icmp_eq (pc := 453) (tgt := 1335) K hr178 hr191 dL_law_453 (by decide) (fun hc201 => ?_) (fun hc201 => ?_)
                    · have h := ite_t h hc201
                      refine z_iinc (pc := 1335) (k := 4) (lv' := [(4, jI (v4 + 6)), (0, .ref b), (1, jR X v1), (2, jR X v2), (3, jR X v3)]) K dL_law_1335 hl rfl (by decide) (by first | (simp [jR_cat]; done) | (simp [jR_cat, show ((3 : Fin 4) : Nat) = 3 from rfl]; done)) (fun ls hl => ?_)
                      refine z_goto (pc := 1338) (tgt := 23) K dL_law_1338 (by decide) ?_
                      obtain ⟨hr202, h⟩ := h
                      exact ih σ193 cr v1 v2 v3 (v4 + 6) _ _ _ _ _ h hw194 hk196 hcr hg197 hg198 hg199 hln200 hr202 (lv_sub hl [1, 2, 3, 4, 0] rfl)
                    · have h := ite_f h hc201
                      refine z_iconst (pc := 456) K dL_law_456 ?_
                      exact za_zret (pc := 457) K hw194 hcr ⟨by decide, by decide⟩ ⟨hk196, h⟩ dL_law_457
                  · replace h := ite_f h hc174
                    by_cases hc203 : (zand (sc v4) 63) = 7
                    · replace h := ite_t h hc203
                      refine lv_tableIn (pc := 40) (tgt := 458) K.x K.b dL_law_40 (by rw [rng_ofInt hrs4, hc203]; decide) (by rw [rng_ofInt hrs4, hc203]; decide) (off := 418) (by rw [rng_ofInt hrs4, hc203]; rfl) (by decide) ?_
                      refine z_aload_n (pc := 458) K dL_law_458 rfl (lv_at hl 1 rfl) ?_
                      refine lv_aload_n (pc := 459) K.x K.b dL_law_459 rfl (lv_at hl 0 rfl) ?_
                      refine lv_iload (pc := 460) K.x K.b dL_law_460 (lv_at hl 4 rfl) ?_
                      refine z_iconst (pc := 462) K dL_law_462 ?_
                      refine z_iadd (pc := 463) K dL_law_463 ?_
                      obtain ⟨hj204, h⟩ := h
                      refine z_sld (pc := 464) K hw hX hj204 dL_law_464 ?_
                      refine lv_aload_n (pc := 465) K.x K.b dL_law_465 rfl (lv_at hl 0 rfl) ?_
                      refine lv_iload (pc := 466) K.x K.b dL_law_466 (lv_at hl 4 rfl) ?_
                      refine z_iconst (pc := 468) K dL_law_468 ?_
                      refine z_iadd (pc := 469) K dL_law_469 ?_
                      obtain ⟨hj205, h⟩ := h
                      refine z_sld (pc := 470) K hw hX hj205 dL_law_470 ?_
                      refine zr_i (pc := 471) (maxL := 3) K hw (met_X1_wrong X l σ v1 (sc (v4 + 1)) (sc (v4 + 2)) htv1 (hX.r hj204) (hX.r hj205) _ h) (i_V (n := 2) (t := 1) (As := [jI (sc (v4 + 1)), jI (sc (v4 + 2))]) K hw (ob htv1) zq1 (by decide) q940 q941 q942 (sg_of K q943) rfl rfl dL_law_471) (locw K q943 q90) ⟨by decide, by decide⟩ hl.1 dL_law_471 (Nat.le_of_ble_eq_true rfl) (cr_le1 hcr) (fun r206 _ _ hr207 h hw210 => ?_)
                      refine z_aload_n (pc := 474) K dL_law_474 rfl (lv_at hl 2 rfl) ?_
                      refine lv_aload_n (pc := 475) K.x K.b dL_law_475 rfl (lv_at hl 0 rfl) ?_
                      refine lv_iload (pc := 476) K.x K.b dL_law_476 (lv_at hl 4 rfl) ?_
                      refine z_iconst (pc := 478) K dL_law_478 ?_
                      refine z_iadd (pc := 479) K dL_law_479 ?_
                      obtain ⟨hj211, h⟩ := h
                      refine z_sld (pc := 480) K hw210 hX hj211 dL_law_480 ?_
                      refine lv_aload_n (pc := 481) K.x K.b dL_law_481 rfl (lv_at hl 0 rfl) ?_
                      refine lv_iload (pc := 482) K.x K.b dL_law_482 (lv_at hl 4 rfl) ?_
                      refine z_iconst (pc := 484) K dL_law_484 ?_
                      refine z_iadd (pc := 485) K dL_law_485 ?_
                      obtain ⟨hj212, h⟩ := h
                      refine z_sld (pc := 486) K hw210 hX hj212 dL_law_486 ?_
                      refine zc_i (pc := 487) (maxL := 3) K hw210 (met_X11_wrong X l σ v2 (sc (v4 + 1)) (sc (v4 + 2)) htv2 (hX.r hj211) (hX.r hj212) _ h) (i_V (n := 2) (t := 10) (As := [jI (sc (v4 + 1)), jI (sc (v4 + 2))]) K hw210 (ob htv2) zq10 (by decide) q1771 q1772 q1773 (sg_of K q1774) rfl rfl dL_law_487) (locw K q1774 q102) ⟨by decide, by decide⟩ hl.1 dL_law_487 (Nat.le_of_ble_eq_true rfl) (cr_le1 hcr) (fun r213 σ216 _ _ hr214 hq215 hw217 => ?_)
                      obtain ⟨hk218, h⟩ := hq215
                      have h := h hk218
                      have hk219 := kp_trans wo_L_law hk hk218 (fun _ q => q) (by decide)
                      have hg220 : tg σ216 v1 = 1 := kp_tg hk218 wo_X11_wrong htv1 (by decide)
                      have hg221 : tg σ216 v2 = 10 := kp_tg hk218 wo_X11_wrong htv2 (by decide)
                      have hg222 : tg σ216 v3 = 62 := kp_tg hk218 wo_X11_wrong htv3 (by decide)
                      have hln223 : σ216 v3 1 0 = 1 := len_kp hk218 htv3 (by decide) (by decide) hlnv3
                      refine z_icmp_eq (pc := 490) (tgt := 1335) K hr207 hr214 dL_law_490 (by decide) (fun hc224 => ?_) (fun hc224 => ?_)
                      · have h := ite_t h hc224
                        refine z_iinc (pc := 1335) (k := 4) (lv' := [(4, jI (v4 + 6)), (0, .ref b), (1, jR X v1), (2, jR X v2), (3, jR X v3)]) K dL_law_1335 hl rfl (by decide) (by first | (simp [jR_cat]; done) | (simp [jR_cat, show ((3 : Fin 4) : Nat) = 3 from rfl]; done)) (fun ls hl => ?_)
                        refine z_goto (pc := 1338) (tgt := 23) K dL_law_1338 (by decide) ?_
                        obtain ⟨hr225, h⟩ := h
                        exact ih σ216 cr v1 v2 v3 (v4 + 6) _ _ _ _ _ h hw217 hk219 hcr hg220 hg221 hg222 hln223 hr225 (lv_sub hl [1, 2, 3, 4, 0] rfl)
                      · have h := ite_f h hc224
                        refine z_iconst (pc := 493) K dL_law_493 ?_
                        exact za_zret (pc := 494) K hw217 hcr ⟨by decide, by decide⟩ ⟨hk219, h⟩ dL_law_494
                    · replace h := ite_f h hc203
                      by_cases hc226 : (zand (sc v4) 63) = 8
                      · replace h := ite_t h hc226
                        refine lv_tableIn (pc := 40) (tgt := 495) K.x K.b dL_law_40 (by rw [rng_ofInt hrs4, hc226]; decide) (by rw [rng_ofInt hrs4, hc226]; decide) (off := 455) (by rw [rng_ofInt hrs4, hc226]; rfl) (by decide) ?_
                        refine z_aload_n (pc := 495) K dL_law_495 rfl (lv_at hl 1 rfl) ?_
                        refine lv_aload_n (pc := 496) K.x K.b dL_law_496 rfl (lv_at hl 0 rfl) ?_
                        refine lv_iload (pc := 497) K.x K.b dL_law_497 (lv_at hl 4 rfl) ?_
                        refine z_iconst (pc := 499) K dL_law_499 ?_
                        refine z_iadd (pc := 500) K dL_law_500 ?_
                        obtain ⟨hj227, h⟩ := h
                        refine z_sld (pc := 501) K hw hX hj227 dL_law_501 ?_
                        refine zr_i (pc := 502) (maxL := 4) K hw (met_X1_may X l σ v1 (sc (v4 + 1)) htv1 (hX.r hj227) _ h) (i_V (n := 1) (t := 1) (As := [jI (sc (v4 + 1))]) K hw (ob htv1) zq1 (by decide) q945 q946 q947 (sg_of K q948) rfl rfl dL_law_502) (locw K q948 q90) ⟨by decide, by decide⟩ hl.1 dL_law_502 (Nat.le_of_ble_eq_true rfl) (cr_le1 hcr) (fun r228 _ _ hr229 h hw232 => ?_)
                        refine z_aload_n (pc := 505) K dL_law_505 rfl (lv_at hl 2 rfl) ?_
                        refine lv_aload_n (pc := 506) K.x K.b dL_law_506 rfl (lv_at hl 0 rfl) ?_
                        refine lv_iload (pc := 507) K.x K.b dL_law_507 (lv_at hl 4 rfl) ?_
                        refine z_iconst (pc := 509) K dL_law_509 ?_
                        refine z_iadd (pc := 510) K dL_law_510 ?_
                        obtain ⟨hj233, h⟩ := h
                        refine z_sld (pc := 511) K hw232 hX hj233 dL_law_511 ?_
                        refine zc_i (pc := 512) (maxL := 4) K hw232 (met_X11_may X l σ v2 (sc (v4 + 1)) htv2 (hX.r hj233) _ h) (i_V (n := 1) (t := 10) (As := [jI (sc (v4 + 1))]) K hw232 (ob htv2) zq10 (by decide) q1775 q1776 q1777 (sg_of K q1778) rfl rfl dL_law_512) (locw K q1778 q102) ⟨by decide, by decide⟩ hl.1 dL_law_512 (Nat.le_of_ble_eq_true rfl) (cr_le1 hcr) (fun r234 σ237 _ _ hr235 hq236 hw238 => ?_)
                        obtain ⟨hk239, h⟩ := hq236
                        have h := h hk239
                        have hk240 := kp_trans wo_L_law hk hk239 (fun _ q => q) (by decide)
                        have hg241 : tg σ237 v1 = 1 := kp_tg hk239 wo_X11_may htv1 (by decide)
                        have hg242 : tg σ237 v2 = 10 := kp_tg hk239 wo_X11_may htv2 (by decide)
                        have hg243 : tg σ237 v3 = 62 := kp_tg hk239 wo_X11_may htv3 (by decide)
                        have hln244 : σ237 v3 1 0 = 1 := len_kp hk239 htv3 (by decide) (by decide) hlnv3
                        refine z_icmp_eq (pc := 515) (tgt := 1335) K hr229 hr235 dL_law_515 (by decide) (fun hc245 => ?_) (fun hc245 => ?_)
                        · have h := ite_t h hc245
                          refine z_iinc (pc := 1335) (k := 4) (lv' := [(4, jI (v4 + 6)), (0, .ref b), (1, jR X v1), (2, jR X v2), (3, jR X v3)]) K dL_law_1335 hl rfl (by decide) (by first | (simp [jR_cat]; done) | (simp [jR_cat, show ((3 : Fin 4) : Nat) = 3 from rfl]; done)) (fun ls hl => ?_)
                          refine z_goto (pc := 1338) (tgt := 23) K dL_law_1338 (by decide) ?_
                          obtain ⟨hr246, h⟩ := h
                          exact ih σ237 cr v1 v2 v3 (v4 + 6) _ _ _ _ _ h hw238 hk240 hcr hg241 hg242 hg243 hln244 hr246 (lv_sub hl [1, 2, 3, 4, 0] rfl)
                        · have h := ite_f h hc245
                          refine z_iconst (pc := 518) K dL_law_518 ?_
                          exact za_zret (pc := 519) K hw238 hcr ⟨by decide, by decide⟩ ⟨hk240, h⟩ dL_law_519
                      · replace h := ite_f h hc226
                        by_cases hc247 : (zand (sc v4) 63) = 9
                        · replace h := ite_t h hc247
                          refine lv_tableIn (pc := 40) (tgt := 520) K.x K.b dL_law_40 (by rw [rng_ofInt hrs4, hc247]; decide) (by rw [rng_ofInt hrs4, hc247]; decide) (off := 480) (by rw [rng_ofInt hrs4, hc247]; rfl) (by decide) ?_
                          refine z_aload_n (pc := 520) K dL_law_520 rfl (lv_at hl 1 rfl) ?_
                          refine zc_i (pc := 521) (maxL := 1) K hw (met_X1_undo X l σ v1 htv1 _ h) (i_V (n := 0) (t := 1) (As := []) K hw (ob htv1) zq1 (by decide) q949 q950 q951 (sg_of K q952) rfl rfl dL_law_521) (locw K q952 q90) ⟨by decide, by decide⟩ hl.1 dL_law_521 (Nat.le_of_ble_eq_true rfl) (cr_le1 hcr) (fun r248 σ251 _ _ hr249 hq250 hw252 => ?_)
                          obtain ⟨hk253, h⟩ := hq250
                          have h := h hk253
                          have hk254 := kp_trans wo_L_law hk hk253 (fun _ q => q) (by decide)
                          have hg255 : tg σ251 v1 = 1 := kp_tg hk253 wo_X1_undo htv1 (by decide)
                          have hg256 : tg σ251 v2 = 10 := kp_tg hk253 wo_X1_undo htv2 (by decide)
                          have hg257 : tg σ251 v3 = 62 := kp_tg hk253 wo_X1_undo htv3 (by decide)
                          have hln258 : σ251 v3 1 0 = 1 := len_kp hk253 htv3 (by decide) (by decide) hlnv3
                          refine z_aload_n (pc := 524) K dL_law_524 rfl (lv_at hl 2 rfl) ?_
                          refine zc_i (pc := 525) (maxL := 1) K hw252 (met_X11_undo X l σ251 v2 hg256 _ h) (i_V (n := 0) (t := 10) (As := []) K hw252 (ob hg256) zq10 (by decide) q1779 q1780 q1781 (sg_of K q1782) rfl rfl dL_law_525) (locw K q1782 q102) ⟨by decide, by decide⟩ hl.1 dL_law_525 (Nat.le_of_ble_eq_true rfl) (cr_le1 hcr) (fun r259 σ262 _ _ hr260 hq261 hw263 => ?_)
                          obtain ⟨hk264, h⟩ := hq261
                          have h := h hk264
                          have hk265 := kp_trans wo_L_law hk254 hk264 (fun _ q => q) (by decide)
                          have hg266 : tg σ262 v1 = 1 := kp_tg hk264 wo_X11_undo hg255 (by decide)
                          have hg267 : tg σ262 v2 = 10 := kp_tg hk264 wo_X11_undo hg256 (by decide)
                          have hg268 : tg σ262 v3 = 62 := kp_tg hk264 wo_X11_undo hg257 (by decide)
                          have hln269 : σ262 v3 1 0 = 1 := len_kp hk264 hg257 (by decide) (by decide) hln258
                          refine z_icmp_eq (pc := 528) (tgt := 1335) K hr249 hr260 dL_law_528 (by decide) (fun hc270 => ?_) (fun hc270 => ?_)
                          · have h := ite_t h hc270
                            refine z_iinc (pc := 1335) (k := 4) (lv' := [(4, jI (v4 + 6)), (0, .ref b), (1, jR X v1), (2, jR X v2), (3, jR X v3)]) K dL_law_1335 hl rfl (by decide) (by first | (simp [jR_cat]; done) | (simp [jR_cat, show ((3 : Fin 4) : Nat) = 3 from rfl]; done)) (fun ls hl => ?_)
                            refine z_goto (pc := 1338) (tgt := 23) K dL_law_1338 (by decide) ?_
                            obtain ⟨hr271, h⟩ := h
                            exact ih σ262 cr v1 v2 v3 (v4 + 6) _ _ _ _ _ h hw263 hk265 hcr hg266 hg267 hg268 hln269 hr271 (lv_sub hl [1, 2, 3, 4, 0] rfl)
                          · have h := ite_f h hc270
                            refine z_iconst (pc := 531) K dL_law_531 ?_
                            exact za_zret (pc := 532) K hw263 hcr ⟨by decide, by decide⟩ ⟨hk265, h⟩ dL_law_532
                        · replace h := ite_f h hc247
                          by_cases hc272 : (zand (sc v4) 63) = 10
                          · replace h := ite_t h hc272
                            refine lv_tableIn (pc := 40) (tgt := 533) K.x K.b dL_law_40 (by rw [rng_ofInt hrs4, hc272]; decide) (by rw [rng_ofInt hrs4, hc272]; decide) (off := 493) (by rw [rng_ofInt hrs4, hc272]; rfl) (by decide) ?_
                            refine z_aload_n (pc := 533) K dL_law_533 rfl (lv_at hl 1 rfl) ?_
                            refine zac_i (pc := 534) (maxL := 2) K hw (met_X1_talk X l σ v1 htv1 cr hcr.2.2 _ h) (i_V (n := 0) (t := 1) (As := []) K hw (ob htv1) zq1 (by decide) q957 q958 q959 (sg_ofW K q960) rfl rfl dL_law_534) (locwW K q960 q90) ⟨by decide, by decide⟩ hl.1 dL_law_534 (by decide) hcr (Int.toNat_of_nonneg hcr.2.2) ⟨by decide, by decide⟩ (fun r273 σ276 _ _ _ _ cr278 hr274 hq275 hw277 hcr279 => ?_)
                            obtain ⟨hk280, h⟩ := hq275
                            have h := h hk280
                            have hk281 := kp_trans wo_L_law hk hk280 (fun _ q => q) (by decide)
                            have hg282 : tg σ276 v1 = 1 := kp_tg hk280 wo_X1_talk htv1 (by decide)
                            have hg283 : tg σ276 v2 = 10 := kp_tg hk280 wo_X1_talk htv2 (by decide)
                            have hg284 : tg σ276 v3 = 62 := kp_tg hk280 wo_X1_talk htv3 (by decide)
                            have hln285 : σ276 v3 1 0 = 1 := len_kp hk280 htv3 (by decide) (by decide) hlnv3
                            refine z_aload_n (pc := 537) K dL_law_537 rfl (lv_at hl 2 rfl) ?_
                            refine zc_i (pc := 538) (maxL := 2) K hw277 (met_X11_talk X l σ276 v2 hg283 _ h) (i_V (n := 0) (t := 10) (As := []) K hw277 (ob hg283) zq10 (by decide) q1783 q1784 q1785 (sg_of K q1786) rfl rfl dL_law_538) (locw K q1786 q102) ⟨by decide, by decide⟩ hl.1 dL_law_538 (Nat.le_of_ble_eq_true rfl) (cr_le1 hcr279) (fun r286 σ289 _ _ hr287 hq288 hw290 => ?_)
                            obtain ⟨hk291, h⟩ := hq288
                            have h := h hk291
                            have hk292 := kp_trans wo_L_law hk281 hk291 (fun _ q => q) (by decide)
                            have hg293 : tg σ289 v1 = 1 := kp_tg hk291 wo_X11_talk hg282 (by decide)
                            have hg294 : tg σ289 v2 = 10 := kp_tg hk291 wo_X11_talk hg283 (by decide)
                            have hg295 : tg σ289 v3 = 62 := kp_tg hk291 wo_X11_talk hg284 (by decide)
                            have hln296 : σ289 v3 1 0 = 1 := len_kp hk291 hg284 (by decide) (by decide) hln285
                            refine z_icmp_eq (pc := 541) (tgt := 1335) K hr274 hr287 dL_law_541 (by decide) (fun hc297 => ?_) (fun hc297 => ?_)
                            · have h := ite_t h hc297
                              refine z_iinc (pc := 1335) (k := 4) (lv' := [(4, jI (v4 + 6)), (0, .ref b), (1, jR X v1), (2, jR X v2), (3, jR X v3)]) K dL_law_1335 hl rfl (by decide) (by first | (simp [jR_cat]; done) | (simp [jR_cat, show ((3 : Fin 4) : Nat) = 3 from rfl]; done)) (fun ls hl => ?_)
                              refine z_goto (pc := 1338) (tgt := 23) K dL_law_1338 (by decide) ?_
                              obtain ⟨hr298, h⟩ := h
                              exact ih σ289 cr278 v1 v2 v3 (v4 + 6) _ _ _ _ _ h hw290 hk292 hcr279 hg293 hg294 hg295 hln296 hr298 (lv_sub hl [1, 2, 3, 4, 0] rfl)
                            · have h := ite_f h hc297
                              refine z_iconst (pc := 544) K dL_law_544 ?_
                              exact za_zret (pc := 545) K hw290 hcr279 ⟨by decide, by decide⟩ ⟨hk292, h⟩ dL_law_545
                          · replace h := ite_f h hc272
                            by_cases hc299 : (zand (sc v4) 63) = 11
                            · replace h := ite_t h hc299
                              refine lv_tableIn (pc := 40) (tgt := 546) K.x K.b dL_law_40 (by rw [rng_ofInt hrs4, hc299]; decide) (by rw [rng_ofInt hrs4, hc299]; decide) (off := 506) (by rw [rng_ofInt hrs4, hc299]; rfl) (by decide) ?_
                              refine z_aload_n (pc := 546) K dL_law_546 rfl (lv_at hl 1 rfl) ?_
                              refine zr_i (pc := 547) (maxL := 1) K hw (met_X1_why X l σ v1 htv1 _ h) (i_V (n := 0) (t := 1) (As := []) K hw (ob htv1) zq1 (by decide) q998 q999 q1000 (sg_of K q1001) rfl rfl dL_law_547) (locw K q1001 q90) ⟨by decide, by decide⟩ hl.1 dL_law_547 (Nat.le_of_ble_eq_true rfl) (cr_le1 hcr) (fun r300 _ _ hr301 h hw304 => ?_)
                              refine z_aload_n (pc := 550) K dL_law_550 rfl (lv_at hl 2 rfl) ?_
                              refine zc_i (pc := 551) (maxL := 1) K hw304 (met_X11_why X l σ v2 htv2 _ h) (i_V (n := 0) (t := 10) (As := []) K hw304 (ob htv2) zq10 (by decide) q1791 q1792 q1793 (sg_of K q1794) rfl rfl dL_law_551) (locw K q1794 q102) ⟨by decide, by decide⟩ hl.1 dL_law_551 (Nat.le_of_ble_eq_true rfl) (cr_le1 hcr) (fun r305 σ308 _ _ hr306 hq307 hw309 => ?_)
                              obtain ⟨hk310, h⟩ := hq307
                              have h := h hk310
                              have hk311 := kp_trans wo_L_law hk hk310 (fun _ q => q) (by decide)
                              have hg312 : tg σ308 v1 = 1 := kp_tg hk310 wo_X11_why htv1 (by decide)
                              have hg313 : tg σ308 v2 = 10 := kp_tg hk310 wo_X11_why htv2 (by decide)
                              have hg314 : tg σ308 v3 = 62 := kp_tg hk310 wo_X11_why htv3 (by decide)
                              have hln315 : σ308 v3 1 0 = 1 := len_kp hk310 htv3 (by decide) (by decide) hlnv3
                              refine z_icmp_eq (pc := 554) (tgt := 1335) K hr301 hr306 dL_law_554 (by decide) (fun hc316 => ?_) (fun hc316 => ?_)
                              · have h := ite_t h hc316
                                refine z_iinc (pc := 1335) (k := 4) (lv' := [(4, jI (v4 + 6)), (0, .ref b), (1, jR X v1), (2, jR X v2), (3, jR X v3)]) K dL_law_1335 hl rfl (by decide) (by first | (simp [jR_cat]; done) | (simp [jR_cat, show ((3 : Fin 4) : Nat) = 3 from rfl]; done)) (fun ls hl => ?_)
                                refine z_goto (pc := 1338) (tgt := 23) K dL_law_1338 (by decide) ?_
                                obtain ⟨hr317, h⟩ := h
                                exact ih σ308 cr v1 v2 v3 (v4 + 6) _ _ _ _ _ h hw309 hk311 hcr hg312 hg313 hg314 hln315 hr317 (lv_sub hl [1, 2, 3, 4, 0] rfl)
                              · have h := ite_f h hc316
                                refine z_iconst (pc := 557) K dL_law_557 ?_
                                exact za_zret (pc := 558) K hw309 hcr ⟨by decide, by decide⟩ ⟨hk311, h⟩ dL_law_558
                            · replace h := ite_f h hc299
                              by_cases hc318 : (zand (sc v4) 63) = 12
                              · replace h := ite_t h hc318
                                refine lv_tableIn (pc := 40) (tgt := 559) K.x K.b dL_law_40 (by rw [rng_ofInt hrs4, hc318]; decide) (by rw [rng_ofInt hrs4, hc318]; decide) (off := 519) (by rw [rng_ofInt hrs4, hc318]; rfl) (by decide) ?_
                                refine z_aload_n (pc := 559) K dL_law_559 rfl (lv_at hl 1 rfl) ?_
                                refine lv_aload_n (pc := 560) K.x K.b dL_law_560 rfl (lv_at hl 0 rfl) ?_
                                refine lv_iload (pc := 561) K.x K.b dL_law_561 (lv_at hl 4 rfl) ?_
                                refine z_iconst (pc := 563) K dL_law_563 ?_
                                refine z_iadd (pc := 564) K dL_law_564 ?_
                                obtain ⟨hj319, h⟩ := h
                                refine z_sld (pc := 565) K hw hX hj319 dL_law_565 ?_
                                refine lv_aload_n (pc := 566) K.x K.b dL_law_566 rfl (lv_at hl 0 rfl) ?_
                                refine lv_iload (pc := 567) K.x K.b dL_law_567 (lv_at hl 4 rfl) ?_
                                refine z_iconst (pc := 569) K dL_law_569 ?_
                                refine z_iadd (pc := 570) K dL_law_570 ?_
                                obtain ⟨hj320, h⟩ := h
                                refine z_sld (pc := 571) K hw hX hj320 dL_law_571 ?_
                                refine z_aload_n (pc := 572) K dL_law_572 rfl (lv_at hl 3 rfl) ?_
                                refine zac_i (pc := 573) (maxL := 5) K hw (met_X0_word X l hfl σ v1 (sc (v4 + 1)) (sc (v4 + 2)) v3 htv1 (hX.r hj319) (hX.r hj320) htv3 hlnv3 cr hcr.2.2 _ h) (i_S (n := 4) (As := [jR X v1, jI (sc (v4 + 1)), jI (sc (v4 + 2)), jR X v3]) K (by decide) q1398 q1399 q89 (sg_ofW K q1400) rfl rfl dL_law_573) (locwW K q1400 q89) ⟨by decide, by decide⟩ hl.1 dL_law_573 (by decide) hcr (Int.toNat_of_nonneg hcr.2.2) ⟨by decide, by decide⟩ (fun r321 σ324 _ _ _ _ cr326 hr322 hq323 hw325 hcr327 => ?_)
                                obtain ⟨hk328, h⟩ := hq323
                                have h := h hk328
                                have hk329 := kp_trans wo_L_law hk hk328 (fun _ q => q) (by decide)
                                have hg330 : tg σ324 v1 = 1 := kp_tg hk328 wo_X0_word htv1 (by decide)
                                have hg331 : tg σ324 v2 = 10 := kp_tg hk328 wo_X0_word htv2 (by decide)
                                have hg332 : tg σ324 v3 = 62 := kp_tg hk328 wo_X0_word htv3 (by decide)
                                have hln333 : σ324 v3 1 0 = 1 := len_kp hk328 htv3 (by decide) (by decide) hlnv3
                                refine lv_istore (pc := 576) (lv' := [(5, jI r321), (0, .ref b), (1, jR X v1), (2, jR X v2), (3, jR X v3), (4, jI v4)]) K.x K.b dL_law_576 hl (by decide) rfl (fun ls hl => ?_)
                                refine z_aload_n (pc := 578) K dL_law_578 rfl (lv_at hl 3 rfl) ?_
                                refine lv_aload_n (pc := 579) K.x K.b dL_law_579 rfl (lv_at hl 1 rfl) ?_
                                refine lv_iload (pc := 580) K.x K.b dL_law_580 (lv_at hl 5 rfl) ?_
                                refine z_iconst (pc := 582) K dL_law_582 ?_
                                refine z_iadd (pc := 583) K dL_law_583 ?_
                                obtain ⟨hj334, h⟩ := h
                                refine z_sld (pc := 584) K hw325 hX hj334 dL_law_584 ?_
                                refine lv_aload_n (pc := 585) K.x K.b dL_law_585 rfl (lv_at hl 1 rfl) ?_
                                refine lv_iload (pc := 586) K.x K.b dL_law_586 (lv_at hl 5 rfl) ?_
                                refine z_iconst (pc := 588) K dL_law_588 ?_
                                refine z_iadd (pc := 589) K dL_law_589 ?_
                                obtain ⟨hj335, h⟩ := h
                                refine z_sld (pc := 590) K hw325 hX hj335 dL_law_590 ?_
                                refine zc_i (pc := 591) (maxL := 3) K hw325 (met_X11_word X l σ324 v2 (sc (v4 + 1)) (sc (v4 + 2)) hg331 (hX.r hj334) (hX.r hj335) _ h) (i_V (n := 2) (t := 10) (As := [jI (sc (v4 + 1)), jI (sc (v4 + 2))]) K hw325 (ob hg331) zq10 (by decide) q1795 q1796 q1797 (sg_of K q1798) rfl rfl dL_law_591) (locw K q1798 q102) ⟨by decide, by decide⟩ hl.1 dL_law_591 (Nat.le_of_ble_eq_true rfl) (cr_le1 hcr327) (fun r336 σ339 _ _ hr337 hq338 hw340 => ?_)
                                obtain ⟨hk341, h⟩ := hq338
                                have h := h hk341
                                have hk342 := kp_trans wo_L_law hk329 hk341 (fun _ q => q) (by decide)
                                have hg343 : tg σ339 v1 = 1 := kp_tg hk341 wo_X11_word hg330 (by decide)
                                have hg344 : tg σ339 v2 = 10 := kp_tg hk341 wo_X11_word hg331 (by decide)
                                have hg345 : tg σ339 v3 = 62 := kp_tg hk341 wo_X11_word hg332 (by decide)
                                have hln346 : σ339 v3 1 0 = 1 := len_kp hk341 hg332 (by decide) (by decide) hln333
                                refine lv_istore (pc := 594) (lv' := [(6, jI r336), (5, jI r321), (0, .ref b), (1, jR X v1), (2, jR X v2), (3, jR X v3), (4, jI v4)]) K.x K.b dL_law_594 hl (by decide) rfl (fun ls hl => ?_)
                                refine z_aload_n (pc := 596) K dL_law_596 rfl (lv_at hl 4 rfl) ?_
                                refine zr_i (pc := 597) (maxL := 1) K hw340 (met_X11_thrown X l σ339 v2 hg344 _ h) (i_V (n := 0) (t := 10) (As := []) K hw340 (ob hg344) zq10 (by decide) q1588 q1589 q1590 (sg_of K q1591) rfl rfl dL_law_597) (locw K q1591 q102) ⟨by decide, by decide⟩ hl.1 dL_law_597 (Nat.le_of_ble_eq_true rfl) (cr_le1 hcr327) (fun r347 _ _ hr348 h hw351 => ?_)
                                refine lv_iload (pc := 600) K.x K.b dL_law_600 (lv_at hl 1 rfl) ?_
                                refine z_icmp_eq (pc := 602) (tgt := 607) K hr348 hr322 dL_law_602 (by decide) (fun hc352 => ?_) (fun hc352 => ?_)
                                · have h := ite_t h hc352
                                  refine lv_iload (pc := 607) K.x K.b dL_law_607 (lv_at hl 1 rfl) ?_
                                  refine z_if_ne (pc := 609) (tgt := 624) K hr322 dL_law_609 (by decide) (fun hc353 => ?_) (fun hc353 => ?_)
                                  · have h := ite_t h hc353
                                    refine z_aload_n (pc := 612) K dL_law_612 rfl (lv_at hl 5 rfl) ?_
                                    refine z_iconst (pc := 613) K dL_law_613 ?_
                                    refine z_laldS (pc := 614) K hw351 hg345 hln346 ⟨by decide, by decide⟩ (by decide) dL_law_614 (fun hr354 => ?_)
                                    refine lv_iload (pc := 615) K.x K.b dL_law_615 (lv_at hl 0 rfl) ?_
                                    refine z_i2l (pc := 617) K hr337 dL_law_617 ?_
                                    refine z_lcmp (pc := 618) K hr354 (rng_L hr337) dL_law_618 ?_
                                    refine z_if_eq (pc := 619) (tgt := 624) K (rng_zcmp _ _) dL_law_619 (by decide) (fun hc355 => ?_) (fun hc355 => ?_)
                                    · have hc355 := zcmp_eq.mp hc355
                                      have h := ite_t h hc355
                                      refine z_goto (pc := 624) (tgt := 1335) K dL_law_624 (by decide) ?_
                                      refine z_iinc (pc := 1335) (k := 6) (lv' := [(4, jI (v4 + 6)), (6, jI r336), (5, jI r321), (0, .ref b), (1, jR X v1), (2, jR X v2), (3, jR X v3)]) K dL_law_1335 hl rfl (by decide) (by first | (simp [jR_cat]; done) | (simp [jR_cat, show ((3 : Fin 4) : Nat) = 3 from rfl]; done)) (fun ls hl => ?_)
                                      refine z_goto (pc := 1338) (tgt := 23) K dL_law_1338 (by decide) ?_
                                      obtain ⟨hr356, h⟩ := h
                                      exact ih σ339 cr326 v1 v2 v3 (v4 + 6) _ _ _ _ _ h hw351 hk342 hcr327 hg343 hg344 hg345 hln346 hr356 (lv_sub hl [3, 4, 5, 6, 0] rfl)
                                    · have hc355 := fun q => hc355 (zcmp_eq.mpr q)
                                      have h := ite_f h hc355
                                      refine z_iconst (pc := 622) K dL_law_622 ?_
                                      exact za_zret (pc := 623) K hw351 hcr327 ⟨by decide, by decide⟩ ⟨hk342, h⟩ dL_law_623
                                  · have h := ite_f h hc353
                                    refine z_goto (pc := 624) (tgt := 1335) K dL_law_624 (by decide) ?_
                                    refine z_iinc (pc := 1335) (k := 6) (lv' := [(4, jI (v4 + 6)), (6, jI r336), (5, jI r321), (0, .ref b), (1, jR X v1), (2, jR X v2), (3, jR X v3)]) K dL_law_1335 hl rfl (by decide) (by first | (simp [jR_cat]; done) | (simp [jR_cat, show ((3 : Fin 4) : Nat) = 3 from rfl]; done)) (fun ls hl => ?_)
                                    refine z_goto (pc := 1338) (tgt := 23) K dL_law_1338 (by decide) ?_
                                    obtain ⟨hr357, h⟩ := h
                                    exact ih σ339 cr326 v1 v2 v3 (v4 + 6) _ _ _ _ _ h hw351 hk342 hcr327 hg343 hg344 hg345 hln346 hr357 (lv_sub hl [3, 4, 5, 6, 0] rfl)
                                · have h := ite_f h hc352
                                  refine z_iconst (pc := 605) K dL_law_605 ?_
                                  exact za_zret (pc := 606) K hw351 hcr327 ⟨by decide, by decide⟩ ⟨hk342, h⟩ dL_law_606
                              · replace h := ite_f h hc318
                                by_cases hc358 : (zand (sc v4) 63) = 13
                                · replace h := ite_t h hc358
                                  refine lv_tableIn (pc := 40) (tgt := 627) K.x K.b dL_law_40 (by rw [rng_ofInt hrs4, hc358]; decide) (by rw [rng_ofInt hrs4, hc358]; decide) (off := 587) (by rw [rng_ofInt hrs4, hc358]; rfl) (by decide) ?_
                                  refine z_aload_n (pc := 627) K dL_law_627 rfl (lv_at hl 1 rfl) ?_
                                  refine zr_i (pc := 628) (maxL := 1) K hw (met_X1_threads X l σ v1 htv1 _ h) (i_V (n := 0) (t := 1) (As := []) K hw (ob htv1) zq1 (by decide) q1002 q1003 q1004 (sg_of K q1005) rfl rfl dL_law_628) (locw K q1005 q90) ⟨by decide, by decide⟩ hl.1 dL_law_628 (Nat.le_of_ble_eq_true rfl) (cr_le1 hcr) (fun r359 _ _ hr360 h hw363 => ?_)
                                  refine z_aload_n (pc := 631) K dL_law_631 rfl (lv_at hl 2 rfl) ?_
                                  refine zc_i (pc := 632) (maxL := 1) K hw363 (met_X11_threads X l σ v2 htv2 _ h) (i_V (n := 0) (t := 10) (As := []) K hw363 (ob htv2) zq10 (by decide) q1807 q1808 q1809 (sg_of K q1810) rfl rfl dL_law_632) (locw K q1810 q102) ⟨by decide, by decide⟩ hl.1 dL_law_632 (Nat.le_of_ble_eq_true rfl) (cr_le1 hcr) (fun r364 σ367 _ _ hr365 hq366 hw368 => ?_)
                                  obtain ⟨hk369, h⟩ := hq366
                                  have h := h hk369
                                  have hk370 := kp_trans wo_L_law hk hk369 (fun _ q => q) (by decide)
                                  have hg371 : tg σ367 v1 = 1 := kp_tg hk369 wo_X11_threads htv1 (by decide)
                                  have hg372 : tg σ367 v2 = 10 := kp_tg hk369 wo_X11_threads htv2 (by decide)
                                  have hg373 : tg σ367 v3 = 62 := kp_tg hk369 wo_X11_threads htv3 (by decide)
                                  have hln374 : σ367 v3 1 0 = 1 := len_kp hk369 htv3 (by decide) (by decide) hlnv3
                                  refine z_icmp_eq (pc := 635) (tgt := 1335) K hr360 hr365 dL_law_635 (by decide) (fun hc375 => ?_) (fun hc375 => ?_)
                                  · have h := ite_t h hc375
                                    refine z_iinc (pc := 1335) (k := 4) (lv' := [(4, jI (v4 + 6)), (0, .ref b), (1, jR X v1), (2, jR X v2), (3, jR X v3)]) K dL_law_1335 hl rfl (by decide) (by first | (simp [jR_cat]; done) | (simp [jR_cat, show ((3 : Fin 4) : Nat) = 3 from rfl]; done)) (fun ls hl => ?_)
                                    refine z_goto (pc := 1338) (tgt := 23) K dL_law_1338 (by decide) ?_
                                    obtain ⟨hr376, h⟩ := h
                                    exact ih σ367 cr v1 v2 v3 (v4 + 6) _ _ _ _ _ h hw368 hk370 hcr hg371 hg372 hg373 hln374 hr376 (lv_sub hl [1, 2, 3, 4, 0] rfl)
                                  · have h := ite_f h hc375
                                    refine z_iconst (pc := 638) K dL_law_638 ?_
                                    exact za_zret (pc := 639) K hw368 hcr ⟨by decide, by decide⟩ ⟨hk370, h⟩ dL_law_639
                                · replace h := ite_f h hc358
                                  by_cases hc377 : (zand (sc v4) 63) = 14
                                  · replace h := ite_t h hc377
                                    refine lv_tableIn (pc := 40) (tgt := 640) K.x K.b dL_law_40 (by rw [rng_ofInt hrs4, hc377]; decide) (by rw [rng_ofInt hrs4, hc377]; decide) (off := 600) (by rw [rng_ofInt hrs4, hc377]; rfl) (by decide) ?_
                                    refine z_aload_n (pc := 640) K dL_law_640 rfl (lv_at hl 1 rfl) ?_
                                    refine lv_aload_n (pc := 641) K.x K.b dL_law_641 rfl (lv_at hl 0 rfl) ?_
                                    refine lv_iload (pc := 642) K.x K.b dL_law_642 (lv_at hl 4 rfl) ?_
                                    refine z_iconst (pc := 644) K dL_law_644 ?_
                                    refine z_iadd (pc := 645) K dL_law_645 ?_
                                    obtain ⟨hj378, h⟩ := h
                                    refine z_sld (pc := 646) K hw hX hj378 dL_law_646 ?_
                                    refine lv_aload_n (pc := 647) K.x K.b dL_law_647 rfl (lv_at hl 0 rfl) ?_
                                    refine lv_iload (pc := 648) K.x K.b dL_law_648 (lv_at hl 4 rfl) ?_
                                    refine z_iconst (pc := 650) K dL_law_650 ?_
                                    refine z_iadd (pc := 651) K dL_law_651 ?_
                                    obtain ⟨hj379, h⟩ := h
                                    refine z_sld (pc := 652) K hw hX hj379 dL_law_652 ?_
                                    refine zr_i (pc := 653) (maxL := 5) K hw (met_X1_thread X l σ v1 (sc (v4 + 1)) (sc (v4 + 2)) htv1 (hX.r hj378) (hX.r hj379) _ h) (i_V (n := 2) (t := 1) (As := [jI (sc (v4 + 1)), jI (sc (v4 + 2))]) K hw (ob htv1) zq1 (by decide) q1006 q1007 q1008 (sg_of K q1009) rfl rfl dL_law_653) (locw K q1009 q90) ⟨by decide, by decide⟩ hl.1 dL_law_653 (Nat.le_of_ble_eq_true rfl) (cr_le1 hcr) (fun r380 _ _ hr381 h hw384 => ?_)
                                    refine z_aload_n (pc := 656) K dL_law_656 rfl (lv_at hl 2 rfl) ?_
                                    refine lv_aload_n (pc := 657) K.x K.b dL_law_657 rfl (lv_at hl 0 rfl) ?_
                                    refine lv_iload (pc := 658) K.x K.b dL_law_658 (lv_at hl 4 rfl) ?_
                                    refine z_iconst (pc := 660) K dL_law_660 ?_
                                    refine z_iadd (pc := 661) K dL_law_661 ?_
                                    obtain ⟨hj385, h⟩ := h
                                    refine z_sld (pc := 662) K hw384 hX hj385 dL_law_662 ?_
                                    refine lv_aload_n (pc := 663) K.x K.b dL_law_663 rfl (lv_at hl 0 rfl) ?_
                                    refine lv_iload (pc := 664) K.x K.b dL_law_664 (lv_at hl 4 rfl) ?_
                                    refine z_iconst (pc := 666) K dL_law_666 ?_
                                    refine z_iadd (pc := 667) K dL_law_667 ?_
                                    obtain ⟨hj386, h⟩ := h
                                    refine z_sld (pc := 668) K hw384 hX hj386 dL_law_668 ?_
                                    refine zc_i (pc := 669) (maxL := 5) K hw384 (met_X11_thread X l σ v2 (sc (v4 + 1)) (sc (v4 + 2)) htv2 (hX.r hj385) (hX.r hj386) _ h) (i_V (n := 2) (t := 10) (As := [jI (sc (v4 + 1)), jI (sc (v4 + 2))]) K hw384 (ob htv2) zq10 (by decide) q1811 q1812 q1813 (sg_of K q1814) rfl rfl dL_law_669) (locw K q1814 q102) ⟨by decide, by decide⟩ hl.1 dL_law_669 (Nat.le_of_ble_eq_true rfl) (cr_le1 hcr) (fun r387 σ390 _ _ hr388 hq389 hw391 => ?_)
                                    obtain ⟨hk392, h⟩ := hq389
                                    have h := h hk392
                                    have hk393 := kp_trans wo_L_law hk hk392 (fun _ q => q) (by decide)
                                    have hg394 : tg σ390 v1 = 1 := kp_tg hk392 wo_X11_thread htv1 (by decide)
                                    have hg395 : tg σ390 v2 = 10 := kp_tg hk392 wo_X11_thread htv2 (by decide)
                                    have hg396 : tg σ390 v3 = 62 := kp_tg hk392 wo_X11_thread htv3 (by decide)
                                    have hln397 : σ390 v3 1 0 = 1 := len_kp hk392 htv3 (by decide) (by decide) hlnv3
                                    refine z_icmp_eq (pc := 672) (tgt := 1335) K hr381 hr388 dL_law_672 (by decide) (fun hc398 => ?_) (fun hc398 => ?_)
                                    · have h := ite_t h hc398
                                      refine z_iinc (pc := 1335) (k := 4) (lv' := [(4, jI (v4 + 6)), (0, .ref b), (1, jR X v1), (2, jR X v2), (3, jR X v3)]) K dL_law_1335 hl rfl (by decide) (by first | (simp [jR_cat]; done) | (simp [jR_cat, show ((3 : Fin 4) : Nat) = 3 from rfl]; done)) (fun ls hl => ?_)
                                      refine z_goto (pc := 1338) (tgt := 23) K dL_law_1338 (by decide) ?_
                                      obtain ⟨hr399, h⟩ := h
                                      exact ih σ390 cr v1 v2 v3 (v4 + 6) _ _ _ _ _ h hw391 hk393 hcr hg394 hg395 hg396 hln397 hr399 (lv_sub hl [1, 2, 3, 4, 0] rfl)
                                    · have h := ite_f h hc398
                                      refine z_iconst (pc := 675) K dL_law_675 ?_
                                      exact za_zret (pc := 676) K hw391 hcr ⟨by decide, by decide⟩ ⟨hk393, h⟩ dL_law_676
                                  · replace h := ite_f h hc377
                                    by_cases hc400 : (zand (sc v4) 63) = 15
                                    · replace h := ite_t h hc400
                                      refine lv_tableIn (pc := 40) (tgt := 677) K.x K.b dL_law_40 (by rw [rng_ofInt hrs4, hc400]; decide) (by rw [rng_ofInt hrs4, hc400]; decide) (off := 637) (by rw [rng_ofInt hrs4, hc400]; rfl) (by decide) ?_
                                      refine z_aload_n (pc := 677) K dL_law_677 rfl (lv_at hl 1 rfl) ?_
                                      refine lv_aload_n (pc := 678) K.x K.b dL_law_678 rfl (lv_at hl 0 rfl) ?_
                                      refine lv_iload (pc := 679) K.x K.b dL_law_679 (lv_at hl 4 rfl) ?_
                                      refine z_iconst (pc := 681) K dL_law_681 ?_
                                      refine z_iadd (pc := 682) K dL_law_682 ?_
                                      obtain ⟨hj401, h⟩ := h
                                      refine z_sld (pc := 683) K hw hX hj401 dL_law_683 ?_
                                      refine lv_aload_n (pc := 684) K.x K.b dL_law_684 rfl (lv_at hl 0 rfl) ?_
                                      refine lv_iload (pc := 685) K.x K.b dL_law_685 (lv_at hl 4 rfl) ?_
                                      refine z_iconst (pc := 687) K dL_law_687 ?_
                                      refine z_iadd (pc := 688) K dL_law_688 ?_
                                      obtain ⟨hj402, h⟩ := h
                                      refine z_sld (pc := 689) K hw hX hj402 dL_law_689 ?_
                                      refine zr_i (pc := 690) (maxL := 5) K hw (met_X1_with X l σ v1 (sc (v4 + 1)) (sc (v4 + 2)) htv1 (hX.r hj401) (hX.r hj402) _ h) (i_V (n := 2) (t := 1) (As := [jI (sc (v4 + 1)), jI (sc (v4 + 2))]) K hw (ob htv1) zq1 (by decide) q1011 q1012 q1013 (sg_of K q1014) rfl rfl dL_law_690) (locw K q1014 q90) ⟨by decide, by decide⟩ hl.1 dL_law_690 (Nat.le_of_ble_eq_true rfl) (cr_le1 hcr) (fun r403 _ _ hr404 h hw407 => ?_)
                                      refine z_aload_n (pc := 693) K dL_law_693 rfl (lv_at hl 2 rfl) ?_
                                      refine lv_aload_n (pc := 694) K.x K.b dL_law_694 rfl (lv_at hl 0 rfl) ?_
                                      refine lv_iload (pc := 695) K.x K.b dL_law_695 (lv_at hl 4 rfl) ?_
                                      refine z_iconst (pc := 697) K dL_law_697 ?_
                                      refine z_iadd (pc := 698) K dL_law_698 ?_
                                      obtain ⟨hj408, h⟩ := h
                                      refine z_sld (pc := 699) K hw407 hX hj408 dL_law_699 ?_
                                      refine lv_aload_n (pc := 700) K.x K.b dL_law_700 rfl (lv_at hl 0 rfl) ?_
                                      refine lv_iload (pc := 701) K.x K.b dL_law_701 (lv_at hl 4 rfl) ?_
                                      refine z_iconst (pc := 703) K dL_law_703 ?_
                                      refine z_iadd (pc := 704) K dL_law_704 ?_
                                      obtain ⟨hj409, h⟩ := h
                                      refine z_sld (pc := 705) K hw407 hX hj409 dL_law_705 ?_
                                      refine zc_i (pc := 706) (maxL := 5) K hw407 (met_X11_with X l σ v2 (sc (v4 + 1)) (sc (v4 + 2)) htv2 (hX.r hj408) (hX.r hj409) _ h) (i_V (n := 2) (t := 10) (As := [jI (sc (v4 + 1)), jI (sc (v4 + 2))]) K hw407 (ob htv2) zq10 (by decide) q1815 q1816 q1817 (sg_of K q1818) rfl rfl dL_law_706) (locw K q1818 q102) ⟨by decide, by decide⟩ hl.1 dL_law_706 (Nat.le_of_ble_eq_true rfl) (cr_le1 hcr) (fun r410 σ413 _ _ hr411 hq412 hw414 => ?_)
                                      obtain ⟨hk415, h⟩ := hq412
                                      have h := h hk415
                                      have hk416 := kp_trans wo_L_law hk hk415 (fun _ q => q) (by decide)
                                      have hg417 : tg σ413 v1 = 1 := kp_tg hk415 wo_X11_with htv1 (by decide)
                                      have hg418 : tg σ413 v2 = 10 := kp_tg hk415 wo_X11_with htv2 (by decide)
                                      have hg419 : tg σ413 v3 = 62 := kp_tg hk415 wo_X11_with htv3 (by decide)
                                      have hln420 : σ413 v3 1 0 = 1 := len_kp hk415 htv3 (by decide) (by decide) hlnv3
                                      refine z_icmp_eq (pc := 709) (tgt := 1335) K hr404 hr411 dL_law_709 (by decide) (fun hc421 => ?_) (fun hc421 => ?_)
                                      · have h := ite_t h hc421
                                        refine z_iinc (pc := 1335) (k := 4) (lv' := [(4, jI (v4 + 6)), (0, .ref b), (1, jR X v1), (2, jR X v2), (3, jR X v3)]) K dL_law_1335 hl rfl (by decide) (by first | (simp [jR_cat]; done) | (simp [jR_cat, show ((3 : Fin 4) : Nat) = 3 from rfl]; done)) (fun ls hl => ?_)
                                        refine z_goto (pc := 1338) (tgt := 23) K dL_law_1338 (by decide) ?_
                                        obtain ⟨hr422, h⟩ := h
                                        exact ih σ413 cr v1 v2 v3 (v4 + 6) _ _ _ _ _ h hw414 hk416 hcr hg417 hg418 hg419 hln420 hr422 (lv_sub hl [1, 2, 3, 4, 0] rfl)
                                      · have h := ite_f h hc421
                                        refine z_iconst (pc := 712) K dL_law_712 ?_
                                        exact za_zret (pc := 713) K hw414 hcr ⟨by decide, by decide⟩ ⟨hk416, h⟩ dL_law_713
                                    · replace h := ite_f h hc400
                                      by_cases hc423 : (zand (sc v4) 63) = 16
                                      · replace h := ite_t h hc423
                                        refine lv_tableIn (pc := 40) (tgt := 714) K.x K.b dL_law_40 (by rw [rng_ofInt hrs4, hc423]; decide) (by rw [rng_ofInt hrs4, hc423]; decide) (off := 674) (by rw [rng_ofInt hrs4, hc423]; rfl) (by decide) ?_
                                        refine z_aload_n (pc := 714) K dL_law_714 rfl (lv_at hl 1 rfl) ?_
                                        refine lv_aload_n (pc := 715) K.x K.b dL_law_715 rfl (lv_at hl 0 rfl) ?_
                                        refine lv_iload (pc := 716) K.x K.b dL_law_716 (lv_at hl 4 rfl) ?_
                                        refine z_iconst (pc := 718) K dL_law_718 ?_
                                        refine z_iadd (pc := 719) K dL_law_719 ?_
                                        obtain ⟨hj424, h⟩ := h
                                        refine z_sld (pc := 720) K hw hX hj424 dL_law_720 ?_
                                        refine lv_aload_n (pc := 721) K.x K.b dL_law_721 rfl (lv_at hl 0 rfl) ?_
                                        refine lv_iload (pc := 722) K.x K.b dL_law_722 (lv_at hl 4 rfl) ?_
                                        refine z_iconst (pc := 724) K dL_law_724 ?_
                                        refine z_iadd (pc := 725) K dL_law_725 ?_
                                        obtain ⟨hj425, h⟩ := h
                                        refine z_sld (pc := 726) K hw hX hj425 dL_law_726 ?_
                                        refine lv_aload_n (pc := 727) K.x K.b dL_law_727 rfl (lv_at hl 0 rfl) ?_
                                        refine lv_iload (pc := 728) K.x K.b dL_law_728 (lv_at hl 4 rfl) ?_
                                        refine z_iconst (pc := 730) K dL_law_730 ?_
                                        refine z_iadd (pc := 731) K dL_law_731 ?_
                                        obtain ⟨hj426, h⟩ := h
                                        refine z_sld (pc := 732) K hw hX hj426 dL_law_732 ?_
                                        refine zr_i (pc := 733) (maxL := 6) K hw (met_X1_promised X l σ v1 (sc (v4 + 1)) (sc (v4 + 2)) (sc (v4 + 3)) htv1 (hX.r hj424) (hX.r hj425) (hX.r hj426) _ h) (i_V (n := 3) (t := 1) (As := [jI (sc (v4 + 1)), jI (sc (v4 + 2)), jI (sc (v4 + 3))]) K hw (ob htv1) zq1 (by decide) q1019 q1020 q1021 (sg_of K q1022) rfl rfl dL_law_733) (locw K q1022 q90) ⟨by decide, by decide⟩ hl.1 dL_law_733 (Nat.le_of_ble_eq_true rfl) (cr_le1 hcr) (fun r427 _ _ hr428 h hw431 => ?_)
                                        refine z_aload_n (pc := 736) K dL_law_736 rfl (lv_at hl 2 rfl) ?_
                                        refine lv_aload_n (pc := 737) K.x K.b dL_law_737 rfl (lv_at hl 0 rfl) ?_
                                        refine lv_iload (pc := 738) K.x K.b dL_law_738 (lv_at hl 4 rfl) ?_
                                        refine z_iconst (pc := 740) K dL_law_740 ?_
                                        refine z_iadd (pc := 741) K dL_law_741 ?_
                                        obtain ⟨hj432, h⟩ := h
                                        refine z_sld (pc := 742) K hw431 hX hj432 dL_law_742 ?_
                                        refine lv_aload_n (pc := 743) K.x K.b dL_law_743 rfl (lv_at hl 0 rfl) ?_
                                        refine lv_iload (pc := 744) K.x K.b dL_law_744 (lv_at hl 4 rfl) ?_
                                        refine z_iconst (pc := 746) K dL_law_746 ?_
                                        refine z_iadd (pc := 747) K dL_law_747 ?_
                                        obtain ⟨hj433, h⟩ := h
                                        refine z_sld (pc := 748) K hw431 hX hj433 dL_law_748 ?_
                                        refine lv_aload_n (pc := 749) K.x K.b dL_law_749 rfl (lv_at hl 0 rfl) ?_
                                        refine lv_iload (pc := 750) K.x K.b dL_law_750 (lv_at hl 4 rfl) ?_
                                        refine z_iconst (pc := 752) K dL_law_752 ?_
                                        refine z_iadd (pc := 753) K dL_law_753 ?_
                                        obtain ⟨hj434, h⟩ := h
                                        refine z_sld (pc := 754) K hw431 hX hj434 dL_law_754 ?_
                                        refine zc_i (pc := 755) (maxL := 6) K hw431 (met_X11_promised X l σ v2 (sc (v4 + 1)) (sc (v4 + 2)) (sc (v4 + 3)) htv2 (hX.r hj432) (hX.r hj433) (hX.r hj434) _ h) (i_V (n := 3) (t := 10) (As := [jI (sc (v4 + 1)), jI (sc (v4 + 2)), jI (sc (v4 + 3))]) K hw431 (ob htv2) zq10 (by decide) q1819 q1820 q1821 (sg_of K q1822) rfl rfl dL_law_755) (locw K q1822 q102) ⟨by decide, by decide⟩ hl.1 dL_law_755 (Nat.le_of_ble_eq_true rfl) (cr_le1 hcr) (fun r435 σ438 _ _ hr436 hq437 hw439 => ?_)
                                        obtain ⟨hk440, h⟩ := hq437
                                        have h := h hk440
                                        have hk441 := kp_trans wo_L_law hk hk440 (fun _ q => q) (by decide)
                                        have hg442 : tg σ438 v1 = 1 := kp_tg hk440 wo_X11_promised htv1 (by decide)
                                        have hg443 : tg σ438 v2 = 10 := kp_tg hk440 wo_X11_promised htv2 (by decide)
                                        have hg444 : tg σ438 v3 = 62 := kp_tg hk440 wo_X11_promised htv3 (by decide)
                                        have hln445 : σ438 v3 1 0 = 1 := len_kp hk440 htv3 (by decide) (by decide) hlnv3
                                        refine z_icmp_eq (pc := 758) (tgt := 1335) K hr428 hr436 dL_law_758 (by decide) (fun hc446 => ?_) (fun hc446 => ?_)
                                        · have h := ite_t h hc446
                                          refine z_iinc (pc := 1335) (k := 4) (lv' := [(4, jI (v4 + 6)), (0, .ref b), (1, jR X v1), (2, jR X v2), (3, jR X v3)]) K dL_law_1335 hl rfl (by decide) (by first | (simp [jR_cat]; done) | (simp [jR_cat, show ((3 : Fin 4) : Nat) = 3 from rfl]; done)) (fun ls hl => ?_)
                                          refine z_goto (pc := 1338) (tgt := 23) K dL_law_1338 (by decide) ?_
                                          obtain ⟨hr447, h⟩ := h
                                          exact ih σ438 cr v1 v2 v3 (v4 + 6) _ _ _ _ _ h hw439 hk441 hcr hg442 hg443 hg444 hln445 hr447 (lv_sub hl [1, 2, 3, 4, 0] rfl)
                                        · have h := ite_f h hc446
                                          refine z_iconst (pc := 761) K dL_law_761 ?_
                                          exact za_zret (pc := 762) K hw439 hcr ⟨by decide, by decide⟩ ⟨hk441, h⟩ dL_law_762
                                      · replace h := ite_f h hc423
                                        by_cases hc448 : (zand (sc v4) 63) = 17
                                        · replace h := ite_t h hc448
                                          refine lv_tableIn (pc := 40) (tgt := 763) K.x K.b dL_law_40 (by rw [rng_ofInt hrs4, hc448]; decide) (by rw [rng_ofInt hrs4, hc448]; decide) (off := 723) (by rw [rng_ofInt hrs4, hc448]; rfl) (by decide) ?_
                                          refine z_aload_n (pc := 763) K dL_law_763 rfl (lv_at hl 1 rfl) ?_
                                          refine zac_i (pc := 764) (maxL := 2) K hw (met_X1_minutes X l σ v1 htv1 cr hcr.2.2 _ h) (i_V (n := 0) (t := 1) (As := []) K hw (ob htv1) zq1 (by decide) q1025 q1026 q1027 (sg_ofW K q1028) rfl rfl dL_law_764) (locwW K q1028 q90) ⟨by decide, by decide⟩ hl.1 dL_law_764 (by decide) hcr (Int.toNat_of_nonneg hcr.2.2) ⟨by decide, by decide⟩ (fun r449 σ452 _ _ _ _ cr454 hr450 hq451 hw453 hcr455 => ?_)
                                          obtain ⟨hk456, h⟩ := hq451
                                          have h := h hk456
                                          have hk457 := kp_trans wo_L_law hk hk456 (fun _ q => q) (by decide)
                                          have hg458 : tg σ452 v1 = 1 := kp_tg hk456 wo_X1_minutes htv1 (by decide)
                                          have hg459 : tg σ452 v2 = 10 := kp_tg hk456 wo_X1_minutes htv2 (by decide)
                                          have hg460 : tg σ452 v3 = 62 := kp_tg hk456 wo_X1_minutes htv3 (by decide)
                                          have hln461 : σ452 v3 1 0 = 1 := len_kp hk456 htv3 (by decide) (by decide) hlnv3
                                          refine z_aload_n (pc := 767) K dL_law_767 rfl (lv_at hl 2 rfl) ?_
                                          refine zc_i (pc := 768) (maxL := 2) K hw453 (met_X11_minutes X l σ452 v2 hg459 _ h) (i_V (n := 0) (t := 10) (As := []) K hw453 (ob hg459) zq10 (by decide) q1840 q1841 q1842 (sg_of K q1843) rfl rfl dL_law_768) (locw K q1843 q102) ⟨by decide, by decide⟩ hl.1 dL_law_768 (Nat.le_of_ble_eq_true rfl) (cr_le1 hcr455) (fun r462 σ465 _ _ hr463 hq464 hw466 => ?_)
                                          obtain ⟨hk467, h⟩ := hq464
                                          have h := h hk467
                                          have hk468 := kp_trans wo_L_law hk457 hk467 (fun _ q => q) (by decide)
                                          have hg469 : tg σ465 v1 = 1 := kp_tg hk467 wo_X11_minutes hg458 (by decide)
                                          have hg470 : tg σ465 v2 = 10 := kp_tg hk467 wo_X11_minutes hg459 (by decide)
                                          have hg471 : tg σ465 v3 = 62 := kp_tg hk467 wo_X11_minutes hg460 (by decide)
                                          have hln472 : σ465 v3 1 0 = 1 := len_kp hk467 hg460 (by decide) (by decide) hln461
                                          refine z_icmp_eq (pc := 771) (tgt := 1335) K hr450 hr463 dL_law_771 (by decide) (fun hc473 => ?_) (fun hc473 => ?_)
                                          · have h := ite_t h hc473
                                            refine z_iinc (pc := 1335) (k := 4) (lv' := [(4, jI (v4 + 6)), (0, .ref b), (1, jR X v1), (2, jR X v2), (3, jR X v3)]) K dL_law_1335 hl rfl (by decide) (by first | (simp [jR_cat]; done) | (simp [jR_cat, show ((3 : Fin 4) : Nat) = 3 from rfl]; done)) (fun ls hl => ?_)
                                            refine z_goto (pc := 1338) (tgt := 23) K dL_law_1338 (by decide) ?_
                                            obtain ⟨hr474, h⟩ := h
                                            exact ih σ465 cr454 v1 v2 v3 (v4 + 6) _ _ _ _ _ h hw466 hk468 hcr455 hg469 hg470 hg471 hln472 hr474 (lv_sub hl [1, 2, 3, 4, 0] rfl)
                                          · have h := ite_f h hc473
                                            refine z_iconst (pc := 774) K dL_law_774 ?_
                                            exact za_zret (pc := 775) K hw466 hcr455 ⟨by decide, by decide⟩ ⟨hk468, h⟩ dL_law_775
                                        · replace h := ite_f h hc448
                                          by_cases hc475 : (zand (sc v4) 63) = 18
                                          · replace h := ite_t h hc475
                                            refine lv_tableIn (pc := 40) (tgt := 776) K.x K.b dL_law_40 (by rw [rng_ofInt hrs4, hc475]; decide) (by rw [rng_ofInt hrs4, hc475]; decide) (off := 736) (by rw [rng_ofInt hrs4, hc475]; rfl) (by decide) ?_
                                            refine z_aload_n (pc := 776) K dL_law_776 rfl (lv_at hl 1 rfl) ?_
                                            refine lv_aload_n (pc := 777) K.x K.b dL_law_777 rfl (lv_at hl 0 rfl) ?_
                                            refine lv_iload (pc := 778) K.x K.b dL_law_778 (lv_at hl 4 rfl) ?_
                                            refine z_iconst (pc := 780) K dL_law_780 ?_
                                            refine z_iadd (pc := 781) K dL_law_781 ?_
                                            obtain ⟨hj476, h⟩ := h
                                            refine z_sld (pc := 782) K hw hX hj476 dL_law_782 ?_
                                            refine zc_i (pc := 783) (maxL := 5) K hw (met_X1_wholes X l σ v1 (sc (v4 + 1)) htv1 (hX.r hj476) _ h) (i_V (n := 1) (t := 1) (As := [jI (sc (v4 + 1))]) K hw (ob htv1) zq1 (by decide) q1067 q1068 q1069 (sg_of K q1070) rfl rfl dL_law_783) (locw K q1070 q90) ⟨by decide, by decide⟩ hl.1 dL_law_783 (Nat.le_of_ble_eq_true rfl) (cr_le1 hcr) (fun r477 σ480 _ _ hr478 hq479 hw481 => ?_)
                                            obtain ⟨hk482, h⟩ := hq479
                                            have h := h hk482
                                            have hk483 := kp_trans wo_L_law hk hk482 (fun _ q => q) (by decide)
                                            have hg484 : tg σ480 v1 = 1 := kp_tg hk482 wo_X1_wholes htv1 (by decide)
                                            have hg485 : tg σ480 v2 = 10 := kp_tg hk482 wo_X1_wholes htv2 (by decide)
                                            have hg486 : tg σ480 v3 = 62 := kp_tg hk482 wo_X1_wholes htv3 (by decide)
                                            have hln487 : σ480 v3 1 0 = 1 := len_kp hk482 htv3 (by decide) (by decide) hlnv3
                                            refine z_aload_n (pc := 786) K dL_law_786 rfl (lv_at hl 2 rfl) ?_
                                            refine lv_aload_n (pc := 787) K.x K.b dL_law_787 rfl (lv_at hl 0 rfl) ?_
                                            refine lv_iload (pc := 788) K.x K.b dL_law_788 (lv_at hl 4 rfl) ?_
                                            refine z_iconst (pc := 790) K dL_law_790 ?_
                                            refine z_iadd (pc := 791) K dL_law_791 ?_
                                            obtain ⟨hj488, h⟩ := h
                                            refine z_sld (pc := 792) K hw481 hX hj488 dL_law_792 ?_
                                            refine zc_i (pc := 793) (maxL := 4) K hw481 (met_X11_wholes X l σ480 v2 (sc (v4 + 1)) hg485 (hX.r hj488) _ h) (i_V (n := 1) (t := 10) (As := [jI (sc (v4 + 1))]) K hw481 (ob hg485) zq10 (by decide) q1852 q1853 q1854 (sg_of K q1855) rfl rfl dL_law_793) (locw K q1855 q102) ⟨by decide, by decide⟩ hl.1 dL_law_793 (Nat.le_of_ble_eq_true rfl) (cr_le1 hcr) (fun r489 σ492 _ _ hr490 hq491 hw493 => ?_)
                                            obtain ⟨hk494, h⟩ := hq491
                                            have h := h hk494
                                            have hk495 := kp_trans wo_L_law hk483 hk494 (fun _ q => q) (by decide)
                                            have hg496 : tg σ492 v1 = 1 := kp_tg hk494 wo_X11_wholes hg484 (by decide)
                                            have hg497 : tg σ492 v2 = 10 := kp_tg hk494 wo_X11_wholes hg485 (by decide)
                                            have hg498 : tg σ492 v3 = 62 := kp_tg hk494 wo_X11_wholes hg486 (by decide)
                                            have hln499 : σ492 v3 1 0 = 1 := len_kp hk494 hg486 (by decide) (by decide) hln487
                                            refine z_icmp_eq (pc := 796) (tgt := 1335) K hr478 hr490 dL_law_796 (by decide) (fun hc500 => ?_) (fun hc500 => ?_)
                                            · have h := ite_t h hc500
                                              refine z_iinc (pc := 1335) (k := 4) (lv' := [(4, jI (v4 + 6)), (0, .ref b), (1, jR X v1), (2, jR X v2), (3, jR X v3)]) K dL_law_1335 hl rfl (by decide) (by first | (simp [jR_cat]; done) | (simp [jR_cat, show ((3 : Fin 4) : Nat) = 3 from rfl]; done)) (fun ls hl => ?_)
                                              refine z_goto (pc := 1338) (tgt := 23) K dL_law_1338 (by decide) ?_
                                              obtain ⟨hr501, h⟩ := h
                                              exact ih σ492 cr v1 v2 v3 (v4 + 6) _ _ _ _ _ h hw493 hk495 hcr hg496 hg497 hg498 hln499 hr501 (lv_sub hl [1, 2, 3, 4, 0] rfl)
                                            · have h := ite_f h hc500
                                              refine z_iconst (pc := 799) K dL_law_799 ?_
                                              exact za_zret (pc := 800) K hw493 hcr ⟨by decide, by decide⟩ ⟨hk495, h⟩ dL_law_800
                                          · replace h := ite_f h hc475
                                            by_cases hc502 : (zand (sc v4) 63) = 19
                                            · replace h := ite_t h hc502
                                              refine lv_tableIn (pc := 40) (tgt := 801) K.x K.b dL_law_40 (by rw [rng_ofInt hrs4, hc502]; decide) (by rw [rng_ofInt hrs4, hc502]; decide) (off := 761) (by rw [rng_ofInt hrs4, hc502]; rfl) (by decide) ?_
                                              refine z_aload_n (pc := 801) K dL_law_801 rfl (lv_at hl 1 rfl) ?_
                                              refine lv_aload_n (pc := 802) K.x K.b dL_law_802 rfl (lv_at hl 0 rfl) ?_
                                              refine lv_iload (pc := 803) K.x K.b dL_law_803 (lv_at hl 4 rfl) ?_
                                              refine z_iconst (pc := 805) K dL_law_805 ?_
                                              refine z_iadd (pc := 806) K dL_law_806 ?_
                                              obtain ⟨hj503, h⟩ := h
                                              refine z_sld (pc := 807) K hw hX hj503 dL_law_807 ?_
                                              refine lv_aload_n (pc := 808) K.x K.b dL_law_808 rfl (lv_at hl 0 rfl) ?_
                                              refine lv_iload (pc := 809) K.x K.b dL_law_809 (lv_at hl 4 rfl) ?_
                                              refine z_iconst (pc := 811) K dL_law_811 ?_
                                              refine z_iadd (pc := 812) K dL_law_812 ?_
                                              obtain ⟨hj504, h⟩ := h
                                              refine z_sld (pc := 813) K hw hX hj504 dL_law_813 ?_
                                              refine zr_i (pc := 814) (maxL := 3) K hw (met_X1_sure X l σ v1 (sc (v4 + 1)) (sc (v4 + 2)) htv1 (hX.r hj503) (hX.r hj504) _ h) (i_V (n := 2) (t := 1) (As := [jI (sc (v4 + 1)), jI (sc (v4 + 2))]) K hw (ob htv1) zq1 (by decide) q1097 q1098 q1099 (sg_of K q1100) rfl rfl dL_law_814) (locw K q1100 q90) ⟨by decide, by decide⟩ hl.1 dL_law_814 (Nat.le_of_ble_eq_true rfl) (cr_le1 hcr) (fun r505 _ _ hr506 h hw509 => ?_)
                                              refine z_aload_n (pc := 817) K dL_law_817 rfl (lv_at hl 2 rfl) ?_
                                              refine lv_aload_n (pc := 818) K.x K.b dL_law_818 rfl (lv_at hl 0 rfl) ?_
                                              refine lv_iload (pc := 819) K.x K.b dL_law_819 (lv_at hl 4 rfl) ?_
                                              refine z_iconst (pc := 821) K dL_law_821 ?_
                                              refine z_iadd (pc := 822) K dL_law_822 ?_
                                              obtain ⟨hj510, h⟩ := h
                                              refine z_sld (pc := 823) K hw509 hX hj510 dL_law_823 ?_
                                              refine lv_aload_n (pc := 824) K.x K.b dL_law_824 rfl (lv_at hl 0 rfl) ?_
                                              refine lv_iload (pc := 825) K.x K.b dL_law_825 (lv_at hl 4 rfl) ?_
                                              refine z_iconst (pc := 827) K dL_law_827 ?_
                                              refine z_iadd (pc := 828) K dL_law_828 ?_
                                              obtain ⟨hj511, h⟩ := h
                                              refine z_sld (pc := 829) K hw509 hX hj511 dL_law_829 ?_
                                              refine zc_i (pc := 830) (maxL := 3) K hw509 (met_X11_sure X l σ v2 (sc (v4 + 1)) (sc (v4 + 2)) htv2 (hX.r hj510) (hX.r hj511) _ h) (i_V (n := 2) (t := 10) (As := [jI (sc (v4 + 1)), jI (sc (v4 + 2))]) K hw509 (ob htv2) zq10 (by decide) q1876 q1877 q1878 (sg_of K q1879) rfl rfl dL_law_830) (locw K q1879 q102) ⟨by decide, by decide⟩ hl.1 dL_law_830 (Nat.le_of_ble_eq_true rfl) (cr_le1 hcr) (fun r512 σ515 _ _ hr513 hq514 hw516 => ?_)
                                              obtain ⟨hk517, h⟩ := hq514
                                              have h := h hk517
                                              have hk518 := kp_trans wo_L_law hk hk517 (fun _ q => q) (by decide)
                                              have hg519 : tg σ515 v1 = 1 := kp_tg hk517 wo_X11_sure htv1 (by decide)
                                              have hg520 : tg σ515 v2 = 10 := kp_tg hk517 wo_X11_sure htv2 (by decide)
                                              have hg521 : tg σ515 v3 = 62 := kp_tg hk517 wo_X11_sure htv3 (by decide)
                                              have hln522 : σ515 v3 1 0 = 1 := len_kp hk517 htv3 (by decide) (by decide) hlnv3
                                              refine z_icmp_eq (pc := 833) (tgt := 1335) K hr506 hr513 dL_law_833 (by decide) (fun hc523 => ?_) (fun hc523 => ?_)
                                              · have h := ite_t h hc523
                                                refine z_iinc (pc := 1335) (k := 4) (lv' := [(4, jI (v4 + 6)), (0, .ref b), (1, jR X v1), (2, jR X v2), (3, jR X v3)]) K dL_law_1335 hl rfl (by decide) (by first | (simp [jR_cat]; done) | (simp [jR_cat, show ((3 : Fin 4) : Nat) = 3 from rfl]; done)) (fun ls hl => ?_)
                                                refine z_goto (pc := 1338) (tgt := 23) K dL_law_1338 (by decide) ?_
                                                obtain ⟨hr524, h⟩ := h
                                                exact ih σ515 cr v1 v2 v3 (v4 + 6) _ _ _ _ _ h hw516 hk518 hcr hg519 hg520 hg521 hln522 hr524 (lv_sub hl [1, 2, 3, 4, 0] rfl)
                                              · have h := ite_f h hc523
                                                refine z_iconst (pc := 836) K dL_law_836 ?_
                                                exact za_zret (pc := 837) K hw516 hcr ⟨by decide, by decide⟩ ⟨hk518, h⟩ dL_law_837
                                            · replace h := ite_f h hc502
                                              by_cases hc525 : (zand (sc v4) 63) = 20
                                              · replace h := ite_t h hc525
                                                refine lv_tableIn (pc := 40) (tgt := 838) K.x K.b dL_law_40 (by rw [rng_ofInt hrs4, hc525]; decide) (by rw [rng_ofInt hrs4, hc525]; decide) (off := 798) (by rw [rng_ofInt hrs4, hc525]; rfl) (by decide) ?_
                                                refine z_aload_n (pc := 838) K dL_law_838 rfl (lv_at hl 1 rfl) ?_
                                                refine zc_i (pc := 839) (maxL := 4) K hw (met_X1_hangs X l σ v1 htv1 _ h) (i_V (n := 0) (t := 1) (As := []) K hw (ob htv1) zq1 (by decide) q1101 q1102 q1103 (sg_of K q1104) rfl rfl dL_law_839) (locw K q1104 q90) ⟨by decide, by decide⟩ hl.1 dL_law_839 (Nat.le_of_ble_eq_true rfl) (cr_le1 hcr) (fun r526 σ529 _ _ hr527 hq528 hw530 => ?_)
                                                obtain ⟨hk531, h⟩ := hq528
                                                have h := h hk531
                                                have hk532 := kp_trans wo_L_law hk hk531 (fun _ q => q) (by decide)
                                                have hg533 : tg σ529 v1 = 1 := kp_tg hk531 wo_X1_hangs htv1 (by decide)
                                                have hg534 : tg σ529 v2 = 10 := kp_tg hk531 wo_X1_hangs htv2 (by decide)
                                                have hg535 : tg σ529 v3 = 62 := kp_tg hk531 wo_X1_hangs htv3 (by decide)
                                                have hln536 : σ529 v3 1 0 = 1 := len_kp hk531 htv3 (by decide) (by decide) hlnv3
                                                refine z_aload_n (pc := 842) K dL_law_842 rfl (lv_at hl 2 rfl) ?_
                                                refine zc_i (pc := 843) (maxL := 4) K hw530 (met_X11_hangs X l σ529 v2 hg534 _ h) (i_V (n := 0) (t := 10) (As := []) K hw530 (ob hg534) zq10 (by decide) q1880 q1881 q1882 (sg_of K q1883) rfl rfl dL_law_843) (locw K q1883 q102) ⟨by decide, by decide⟩ hl.1 dL_law_843 (Nat.le_of_ble_eq_true rfl) (cr_le1 hcr) (fun r537 σ540 _ _ hr538 hq539 hw541 => ?_)
                                                obtain ⟨hk542, h⟩ := hq539
                                                have h := h hk542
                                                have hk543 := kp_trans wo_L_law hk532 hk542 (fun _ q => q) (by decide)
                                                have hg544 : tg σ540 v1 = 1 := kp_tg hk542 wo_X11_hangs hg533 (by decide)
                                                have hg545 : tg σ540 v2 = 10 := kp_tg hk542 wo_X11_hangs hg534 (by decide)
                                                have hg546 : tg σ540 v3 = 62 := kp_tg hk542 wo_X11_hangs hg535 (by decide)
                                                have hln547 : σ540 v3 1 0 = 1 := len_kp hk542 hg535 (by decide) (by decide) hln536
                                                refine z_icmp_eq (pc := 846) (tgt := 1335) K hr527 hr538 dL_law_846 (by decide) (fun hc548 => ?_) (fun hc548 => ?_)
                                                · have h := ite_t h hc548
                                                  refine z_iinc (pc := 1335) (k := 4) (lv' := [(4, jI (v4 + 6)), (0, .ref b), (1, jR X v1), (2, jR X v2), (3, jR X v3)]) K dL_law_1335 hl rfl (by decide) (by first | (simp [jR_cat]; done) | (simp [jR_cat, show ((3 : Fin 4) : Nat) = 3 from rfl]; done)) (fun ls hl => ?_)
                                                  refine z_goto (pc := 1338) (tgt := 23) K dL_law_1338 (by decide) ?_
                                                  obtain ⟨hr549, h⟩ := h
                                                  exact ih σ540 cr v1 v2 v3 (v4 + 6) _ _ _ _ _ h hw541 hk543 hcr hg544 hg545 hg546 hln547 hr549 (lv_sub hl [1, 2, 3, 4, 0] rfl)
                                                · have h := ite_f h hc548
                                                  refine z_iconst (pc := 849) K dL_law_849 ?_
                                                  exact za_zret (pc := 850) K hw541 hcr ⟨by decide, by decide⟩ ⟨hk543, h⟩ dL_law_850
                                              · replace h := ite_f h hc525
                                                by_cases hc550 : (zand (sc v4) 63) = 21
                                                · replace h := ite_t h hc550
                                                  refine lv_tableIn (pc := 40) (tgt := 851) K.x K.b dL_law_40 (by rw [rng_ofInt hrs4, hc550]; decide) (by rw [rng_ofInt hrs4, hc550]; decide) (off := 811) (by rw [rng_ofInt hrs4, hc550]; rfl) (by decide) ?_
                                                  refine z_aload_n (pc := 851) K dL_law_851 rfl (lv_at hl 1 rfl) ?_
                                                  refine zc_i (pc := 852) (maxL := 3) K hw (met_X1_mend X l σ v1 htv1 _ h) (i_V (n := 0) (t := 1) (As := []) K hw (ob htv1) zq1 (by decide) q1107 q1108 q1109 (sg_of K q1110) rfl rfl dL_law_852) (locw K q1110 q90) ⟨by decide, by decide⟩ hl.1 dL_law_852 (Nat.le_of_ble_eq_true rfl) (cr_le1 hcr) (fun r551 σ554 _ _ hr552 hq553 hw555 => ?_)
                                                  obtain ⟨hk556, h⟩ := hq553
                                                  have h := h hk556
                                                  have hk557 := kp_trans wo_L_law hk hk556 (fun _ q => q) (by decide)
                                                  have hg558 : tg σ554 v1 = 1 := kp_tg hk556 wo_X1_mend htv1 (by decide)
                                                  have hg559 : tg σ554 v2 = 10 := kp_tg hk556 wo_X1_mend htv2 (by decide)
                                                  have hg560 : tg σ554 v3 = 62 := kp_tg hk556 wo_X1_mend htv3 (by decide)
                                                  have hln561 : σ554 v3 1 0 = 1 := len_kp hk556 htv3 (by decide) (by decide) hlnv3
                                                  refine z_aload_n (pc := 855) K dL_law_855 rfl (lv_at hl 2 rfl) ?_
                                                  refine zc_i (pc := 856) (maxL := 4) K hw555 (met_X11_mend X l σ554 v2 hg559 _ h) (i_V (n := 0) (t := 10) (As := []) K hw555 (ob hg559) zq10 (by decide) q1885 q1886 q1887 (sg_of K q1888) rfl rfl dL_law_856) (locw K q1888 q102) ⟨by decide, by decide⟩ hl.1 dL_law_856 (Nat.le_of_ble_eq_true rfl) (cr_le1 hcr) (fun r562 σ565 _ _ hr563 hq564 hw566 => ?_)
                                                  obtain ⟨hk567, h⟩ := hq564
                                                  have h := h hk567
                                                  have hk568 := kp_trans wo_L_law hk557 hk567 (fun _ q => q) (by decide)
                                                  have hg569 : tg σ565 v1 = 1 := kp_tg hk567 wo_X11_mend hg558 (by decide)
                                                  have hg570 : tg σ565 v2 = 10 := kp_tg hk567 wo_X11_mend hg559 (by decide)
                                                  have hg571 : tg σ565 v3 = 62 := kp_tg hk567 wo_X11_mend hg560 (by decide)
                                                  have hln572 : σ565 v3 1 0 = 1 := len_kp hk567 hg560 (by decide) (by decide) hln561
                                                  refine z_icmp_eq (pc := 859) (tgt := 1335) K hr552 hr563 dL_law_859 (by decide) (fun hc573 => ?_) (fun hc573 => ?_)
                                                  · have h := ite_t h hc573
                                                    refine z_iinc (pc := 1335) (k := 4) (lv' := [(4, jI (v4 + 6)), (0, .ref b), (1, jR X v1), (2, jR X v2), (3, jR X v3)]) K dL_law_1335 hl rfl (by decide) (by first | (simp [jR_cat]; done) | (simp [jR_cat, show ((3 : Fin 4) : Nat) = 3 from rfl]; done)) (fun ls hl => ?_)
                                                    refine z_goto (pc := 1338) (tgt := 23) K dL_law_1338 (by decide) ?_
                                                    obtain ⟨hr574, h⟩ := h
                                                    exact ih σ565 cr v1 v2 v3 (v4 + 6) _ _ _ _ _ h hw566 hk568 hcr hg569 hg570 hg571 hln572 hr574 (lv_sub hl [1, 2, 3, 4, 0] rfl)
                                                  · have h := ite_f h hc573
                                                    refine z_iconst (pc := 862) K dL_law_862 ?_
                                                    exact za_zret (pc := 863) K hw566 hcr ⟨by decide, by decide⟩ ⟨hk568, h⟩ dL_law_863
                                                · replace h := ite_f h hc550
                                                  by_cases hc575 : (zand (sc v4) 63) = 22
                                                  · replace h := ite_t h hc575
                                                    refine lv_tableIn (pc := 40) (tgt := 864) K.x K.b dL_law_40 (by rw [rng_ofInt hrs4, hc575]; decide) (by rw [rng_ofInt hrs4, hc575]; decide) (off := 824) (by rw [rng_ofInt hrs4, hc575]; rfl) (by decide) ?_
                                                    refine z_aload_n (pc := 864) K dL_law_864 rfl (lv_at hl 1 rfl) ?_
                                                    refine zr_i (pc := 865) (maxL := 1) K hw (met_X1_mended X l σ v1 htv1 _ h) (i_V (n := 0) (t := 1) (As := []) K hw (ob htv1) zq1 (by decide) q1126 q1127 q1128 (sg_of K q1129) rfl rfl dL_law_865) (locw K q1129 q90) ⟨by decide, by decide⟩ hl.1 dL_law_865 (Nat.le_of_ble_eq_true rfl) (cr_le1 hcr) (fun r576 _ _ hr577 h hw580 => ?_)
                                                    refine z_aload_n (pc := 868) K dL_law_868 rfl (lv_at hl 2 rfl) ?_
                                                    refine zc_i (pc := 869) (maxL := 1) K hw580 (met_X11_mended X l σ v2 htv2 _ h) (i_V (n := 0) (t := 10) (As := []) K hw580 (ob htv2) zq10 (by decide) q1900 q1901 q1902 (sg_of K q1903) rfl rfl dL_law_869) (locw K q1903 q102) ⟨by decide, by decide⟩ hl.1 dL_law_869 (Nat.le_of_ble_eq_true rfl) (cr_le1 hcr) (fun r581 σ584 _ _ hr582 hq583 hw585 => ?_)
                                                    obtain ⟨hk586, h⟩ := hq583
                                                    have h := h hk586
                                                    have hk587 := kp_trans wo_L_law hk hk586 (fun _ q => q) (by decide)
                                                    have hg588 : tg σ584 v1 = 1 := kp_tg hk586 wo_X11_mended htv1 (by decide)
                                                    have hg589 : tg σ584 v2 = 10 := kp_tg hk586 wo_X11_mended htv2 (by decide)
                                                    have hg590 : tg σ584 v3 = 62 := kp_tg hk586 wo_X11_mended htv3 (by decide)
                                                    have hln591 : σ584 v3 1 0 = 1 := len_kp hk586 htv3 (by decide) (by decide) hlnv3
                                                    refine z_icmp_eq (pc := 872) (tgt := 1335) K hr577 hr582 dL_law_872 (by decide) (fun hc592 => ?_) (fun hc592 => ?_)
                                                    · have h := ite_t h hc592
                                                      refine z_iinc (pc := 1335) (k := 4) (lv' := [(4, jI (v4 + 6)), (0, .ref b), (1, jR X v1), (2, jR X v2), (3, jR X v3)]) K dL_law_1335 hl rfl (by decide) (by first | (simp [jR_cat]; done) | (simp [jR_cat, show ((3 : Fin 4) : Nat) = 3 from rfl]; done)) (fun ls hl => ?_)
                                                      refine z_goto (pc := 1338) (tgt := 23) K dL_law_1338 (by decide) ?_
                                                      obtain ⟨hr593, h⟩ := h
                                                      exact ih σ584 cr v1 v2 v3 (v4 + 6) _ _ _ _ _ h hw585 hk587 hcr hg588 hg589 hg590 hln591 hr593 (lv_sub hl [1, 2, 3, 4, 0] rfl)
                                                    · have h := ite_f h hc592
                                                      refine z_iconst (pc := 875) K dL_law_875 ?_
                                                      exact za_zret (pc := 876) K hw585 hcr ⟨by decide, by decide⟩ ⟨hk587, h⟩ dL_law_876
                                                  · replace h := ite_f h hc575
                                                    by_cases hc594 : (zand (sc v4) 63) = 23
                                                    · replace h := ite_t h hc594
                                                      refine lv_tableIn (pc := 40) (tgt := 877) K.x K.b dL_law_40 (by rw [rng_ofInt hrs4, hc594]; decide) (by rw [rng_ofInt hrs4, hc594]; decide) (off := 837) (by rw [rng_ofInt hrs4, hc594]; rfl) (by decide) ?_
                                                      refine z_aload_n (pc := 877) K dL_law_877 rfl (lv_at hl 1 rfl) ?_
                                                      refine zc_i (pc := 878) (maxL := 1) K hw (met_X1_orders X l σ v1 htv1 _ h) (i_V (n := 0) (t := 1) (As := []) K hw (ob htv1) zq1 (by decide) q1130 q1131 q1132 (sg_of K q1133) rfl rfl dL_law_878) (locw K q1133 q90) ⟨by decide, by decide⟩ hl.1 dL_law_878 (Nat.le_of_ble_eq_true rfl) (cr_le1 hcr) (fun r595 σ598 _ _ hr596 hq597 hw599 => ?_)
                                                      obtain ⟨hk600, h⟩ := hq597
                                                      have h := h hk600
                                                      have hk601 := kp_trans wo_L_law hk hk600 (fun _ q => q) (by decide)
                                                      have hg602 : tg σ598 v1 = 1 := kp_tg hk600 wo_X1_orders htv1 (by decide)
                                                      have hg603 : tg σ598 v2 = 10 := kp_tg hk600 wo_X1_orders htv2 (by decide)
                                                      have hg604 : tg σ598 v3 = 62 := kp_tg hk600 wo_X1_orders htv3 (by decide)
                                                      have hln605 : σ598 v3 1 0 = 1 := len_kp hk600 htv3 (by decide) (by decide) hlnv3
                                                      refine z_aload_n (pc := 881) K dL_law_881 rfl (lv_at hl 2 rfl) ?_
                                                      refine zc_i (pc := 882) (maxL := 1) K hw599 (met_X11_orders X l σ598 v2 hg603 _ h) (i_V (n := 0) (t := 10) (As := []) K hw599 (ob hg603) zq10 (by decide) q1904 q1905 q1906 (sg_of K q1907) rfl rfl dL_law_882) (locw K q1907 q102) ⟨by decide, by decide⟩ hl.1 dL_law_882 (Nat.le_of_ble_eq_true rfl) (cr_le1 hcr) (fun r606 σ609 _ _ hr607 hq608 hw610 => ?_)
                                                      obtain ⟨hk611, h⟩ := hq608
                                                      have h := h hk611
                                                      have hk612 := kp_trans wo_L_law hk601 hk611 (fun _ q => q) (by decide)
                                                      have hg613 : tg σ609 v1 = 1 := kp_tg hk611 wo_X11_orders hg602 (by decide)
                                                      have hg614 : tg σ609 v2 = 10 := kp_tg hk611 wo_X11_orders hg603 (by decide)
                                                      have hg615 : tg σ609 v3 = 62 := kp_tg hk611 wo_X11_orders hg604 (by decide)
                                                      have hln616 : σ609 v3 1 0 = 1 := len_kp hk611 hg604 (by decide) (by decide) hln605
                                                      refine z_icmp_eq (pc := 885) (tgt := 1335) K hr596 hr607 dL_law_885 (by decide) (fun hc617 => ?_) (fun hc617 => ?_)
                                                      · have h := ite_t h hc617
                                                        refine z_iinc (pc := 1335) (k := 4) (lv' := [(4, jI (v4 + 6)), (0, .ref b), (1, jR X v1), (2, jR X v2), (3, jR X v3)]) K dL_law_1335 hl rfl (by decide) (by first | (simp [jR_cat]; done) | (simp [jR_cat, show ((3 : Fin 4) : Nat) = 3 from rfl]; done)) (fun ls hl => ?_)
                                                        refine z_goto (pc := 1338) (tgt := 23) K dL_law_1338 (by decide) ?_
                                                        obtain ⟨hr618, h⟩ := h
                                                        exact ih σ609 cr v1 v2 v3 (v4 + 6) _ _ _ _ _ h hw610 hk612 hcr hg613 hg614 hg615 hln616 hr618 (lv_sub hl [1, 2, 3, 4, 0] rfl)
                                                      · have h := ite_f h hc617
                                                        refine z_iconst (pc := 888) K dL_law_888 ?_
                                                        exact za_zret (pc := 889) K hw610 hcr ⟨by decide, by decide⟩ ⟨hk612, h⟩ dL_law_889
                                                    · replace h := ite_f h hc594
                                                      by_cases hc619 : (zand (sc v4) 63) = 24
                                                      · replace h := ite_t h hc619
                                                        refine lv_tableIn (pc := 40) (tgt := 890) K.x K.b dL_law_40 (by rw [rng_ofInt hrs4, hc619]; decide) (by rw [rng_ofInt hrs4, hc619]; decide) (off := 850) (by rw [rng_ofInt hrs4, hc619]; rfl) (by decide) ?_
                                                        refine z_aload_n (pc := 890) K dL_law_890 rfl (lv_at hl 1 rfl) ?_
                                                        refine lv_aload_n (pc := 891) K.x K.b dL_law_891 rfl (lv_at hl 0 rfl) ?_
                                                        refine lv_iload (pc := 892) K.x K.b dL_law_892 (lv_at hl 4 rfl) ?_
                                                        refine z_iconst (pc := 894) K dL_law_894 ?_
                                                        refine z_iadd (pc := 895) K dL_law_895 ?_
                                                        obtain ⟨hj620, h⟩ := h
                                                        refine z_sld (pc := 896) K hw hX hj620 dL_law_896 ?_
                                                        refine zr_i (pc := 897) (maxL := 2) K hw (met_X1_orderAt X l σ v1 (sc (v4 + 1)) htv1 (hX.r hj620) _ h) (i_V (n := 1) (t := 1) (As := [jI (sc (v4 + 1))]) K hw (ob htv1) zq1 (by decide) q1139 q1140 q1141 (sg_of K q1142) rfl rfl dL_law_897) (locw K q1142 q90) ⟨by decide, by decide⟩ hl.1 dL_law_897 (Nat.le_of_ble_eq_true rfl) (cr_le1 hcr) (fun r621 _ _ hr622 h hw625 => ?_)
                                                        refine z_aload_n (pc := 900) K dL_law_900 rfl (lv_at hl 2 rfl) ?_
                                                        refine lv_aload_n (pc := 901) K.x K.b dL_law_901 rfl (lv_at hl 0 rfl) ?_
                                                        refine lv_iload (pc := 902) K.x K.b dL_law_902 (lv_at hl 4 rfl) ?_
                                                        refine z_iconst (pc := 904) K dL_law_904 ?_
                                                        refine z_iadd (pc := 905) K dL_law_905 ?_
                                                        obtain ⟨hj626, h⟩ := h
                                                        refine z_sld (pc := 906) K hw625 hX hj626 dL_law_906 ?_
                                                        refine zc_i (pc := 907) (maxL := 2) K hw625 (met_X11_orderAt X l σ v2 (sc (v4 + 1)) htv2 (hX.r hj626) _ h) (i_V (n := 1) (t := 10) (As := [jI (sc (v4 + 1))]) K hw625 (ob htv2) zq10 (by decide) q1912 q1913 q1914 (sg_of K q1915) rfl rfl dL_law_907) (locw K q1915 q102) ⟨by decide, by decide⟩ hl.1 dL_law_907 (Nat.le_of_ble_eq_true rfl) (cr_le1 hcr) (fun r627 σ630 _ _ hr628 hq629 hw631 => ?_)
                                                        obtain ⟨hk632, h⟩ := hq629
                                                        have h := h hk632
                                                        have hk633 := kp_trans wo_L_law hk hk632 (fun _ q => q) (by decide)
                                                        have hg634 : tg σ630 v1 = 1 := kp_tg hk632 wo_X11_orderAt htv1 (by decide)
                                                        have hg635 : tg σ630 v2 = 10 := kp_tg hk632 wo_X11_orderAt htv2 (by decide)
                                                        have hg636 : tg σ630 v3 = 62 := kp_tg hk632 wo_X11_orderAt htv3 (by decide)
                                                        have hln637 : σ630 v3 1 0 = 1 := len_kp hk632 htv3 (by decide) (by decide) hlnv3
                                                        refine z_icmp_eq (pc := 910) (tgt := 1335) K hr622 hr628 dL_law_910 (by decide) (fun hc638 => ?_) (fun hc638 => ?_)
                                                        · have h := ite_t h hc638
                                                          refine z_iinc (pc := 1335) (k := 4) (lv' := [(4, jI (v4 + 6)), (0, .ref b), (1, jR X v1), (2, jR X v2), (3, jR X v3)]) K dL_law_1335 hl rfl (by decide) (by first | (simp [jR_cat]; done) | (simp [jR_cat, show ((3 : Fin 4) : Nat) = 3 from rfl]; done)) (fun ls hl => ?_)
                                                          refine z_goto (pc := 1338) (tgt := 23) K dL_law_1338 (by decide) ?_
                                                          obtain ⟨hr639, h⟩ := h
                                                          exact ih σ630 cr v1 v2 v3 (v4 + 6) _ _ _ _ _ h hw631 hk633 hcr hg634 hg635 hg636 hln637 hr639 (lv_sub hl [1, 2, 3, 4, 0] rfl)
                                                        · have h := ite_f h hc638
                                                          refine z_iconst (pc := 913) K dL_law_913 ?_
                                                          exact za_zret (pc := 914) K hw631 hcr ⟨by decide, by decide⟩ ⟨hk633, h⟩ dL_law_914
                                                      · replace h := ite_f h hc619
                                                        by_cases hc640 : (zand (sc v4) 63) = 25
                                                        · replace h := ite_t h hc640
                                                          refine lv_tableIn (pc := 40) (tgt := 915) K.x K.b dL_law_40 (by rw [rng_ofInt hrs4, hc640]; decide) (by rw [rng_ofInt hrs4, hc640]; decide) (off := 875) (by rw [rng_ofInt hrs4, hc640]; rfl) (by decide) ?_
                                                          refine z_aload_n (pc := 915) K dL_law_915 rfl (lv_at hl 1 rfl) ?_
                                                          refine lv_aload_n (pc := 916) K.x K.b dL_law_916 rfl (lv_at hl 0 rfl) ?_
                                                          refine lv_iload (pc := 917) K.x K.b dL_law_917 (lv_at hl 4 rfl) ?_
                                                          refine z_iconst (pc := 919) K dL_law_919 ?_
                                                          refine z_iadd (pc := 920) K dL_law_920 ?_
                                                          obtain ⟨hj641, h⟩ := h
                                                          refine z_sld (pc := 921) K hw hX hj641 dL_law_921 ?_
                                                          refine lv_aload_n (pc := 922) K.x K.b dL_law_922 rfl (lv_at hl 0 rfl) ?_
                                                          refine lv_iload (pc := 923) K.x K.b dL_law_923 (lv_at hl 4 rfl) ?_
                                                          refine z_iconst (pc := 925) K dL_law_925 ?_
                                                          refine z_iadd (pc := 926) K dL_law_926 ?_
                                                          obtain ⟨hj642, h⟩ := h
                                                          refine z_sld (pc := 927) K hw hX hj642 dL_law_927 ?_
                                                          refine zc_i (pc := 928) (maxL := 5) K hw (met_X1_drawn X l σ v1 (sc (v4 + 1)) (sc (v4 + 2)) htv1 (hX.r hj641) (hX.r hj642) _ h) (i_V (n := 2) (t := 1) (As := [jI (sc (v4 + 1)), jI (sc (v4 + 2))]) K hw (ob htv1) zq1 (by decide) q1143 q1144 q1145 (sg_of K q1146) rfl rfl dL_law_928) (locw K q1146 q90) ⟨by decide, by decide⟩ hl.1 dL_law_928 (Nat.le_of_ble_eq_true rfl) (cr_le1 hcr) (fun r643 σ646 _ _ hr644 hq645 hw647 => ?_)
                                                          obtain ⟨hk648, h⟩ := hq645
                                                          have h := h hk648
                                                          have hk649 := kp_trans wo_L_law hk hk648 (fun _ q => q) (by decide)
                                                          have hg650 : tg σ646 v1 = 1 := kp_tg hk648 wo_X1_drawn htv1 (by decide)
                                                          have hg651 : tg σ646 v2 = 10 := kp_tg hk648 wo_X1_drawn htv2 (by decide)
                                                          have hg652 : tg σ646 v3 = 62 := kp_tg hk648 wo_X1_drawn htv3 (by decide)
                                                          have hln653 : σ646 v3 1 0 = 1 := len_kp hk648 htv3 (by decide) (by decide) hlnv3
                                                          refine z_aload_n (pc := 931) K dL_law_931 rfl (lv_at hl 2 rfl) ?_
                                                          refine lv_aload_n (pc := 932) K.x K.b dL_law_932 rfl (lv_at hl 0 rfl) ?_
                                                          refine lv_iload (pc := 933) K.x K.b dL_law_933 (lv_at hl 4 rfl) ?_
                                                          refine z_iconst (pc := 935) K dL_law_935 ?_
                                                          refine z_iadd (pc := 936) K dL_law_936 ?_
                                                          obtain ⟨hj654, h⟩ := h
                                                          refine z_sld (pc := 937) K hw647 hX hj654 dL_law_937 ?_
                                                          refine lv_aload_n (pc := 938) K.x K.b dL_law_938 rfl (lv_at hl 0 rfl) ?_
                                                          refine lv_iload (pc := 939) K.x K.b dL_law_939 (lv_at hl 4 rfl) ?_
                                                          refine z_iconst (pc := 941) K dL_law_941 ?_
                                                          refine z_iadd (pc := 942) K dL_law_942 ?_
                                                          obtain ⟨hj655, h⟩ := h
                                                          refine z_sld (pc := 943) K hw647 hX hj655 dL_law_943 ?_
                                                          refine zc_i (pc := 944) (maxL := 6) K hw647 (met_X11_drawn X l σ646 v2 (sc (v4 + 1)) (sc (v4 + 2)) hg651 (hX.r hj654) (hX.r hj655) _ h) (i_V (n := 2) (t := 10) (As := [jI (sc (v4 + 1)), jI (sc (v4 + 2))]) K hw647 (ob hg651) zq10 (by decide) q1827 q1828 q1829 (sg_of K q1830) rfl rfl dL_law_944) (locw K q1830 q102) ⟨by decide, by decide⟩ hl.1 dL_law_944 (Nat.le_of_ble_eq_true rfl) (cr_le1 hcr) (fun r656 σ659 _ _ hr657 hq658 hw660 => ?_)
                                                          obtain ⟨hk661, h⟩ := hq658
                                                          have h := h hk661
                                                          have hk662 := kp_trans wo_L_law hk649 hk661 (fun _ q => q) (by decide)
                                                          have hg663 : tg σ659 v1 = 1 := kp_tg hk661 wo_X11_drawn hg650 (by decide)
                                                          have hg664 : tg σ659 v2 = 10 := kp_tg hk661 wo_X11_drawn hg651 (by decide)
                                                          have hg665 : tg σ659 v3 = 62 := kp_tg hk661 wo_X11_drawn hg652 (by decide)
                                                          have hln666 : σ659 v3 1 0 = 1 := len_kp hk661 hg652 (by decide) (by decide) hln653
                                                          refine z_icmp_eq (pc := 947) (tgt := 1335) K hr644 hr657 dL_law_947 (by decide) (fun hc667 => ?_) (fun hc667 => ?_)
                                                          · have h := ite_t h hc667
                                                            refine z_iinc (pc := 1335) (k := 4) (lv' := [(4, jI (v4 + 6)), (0, .ref b), (1, jR X v1), (2, jR X v2), (3, jR X v3)]) K dL_law_1335 hl rfl (by decide) (by first | (simp [jR_cat]; done) | (simp [jR_cat, show ((3 : Fin 4) : Nat) = 3 from rfl]; done)) (fun ls hl => ?_)
                                                            refine z_goto (pc := 1338) (tgt := 23) K dL_law_1338 (by decide) ?_
                                                            obtain ⟨hr668, h⟩ := h
                                                            exact ih σ659 cr v1 v2 v3 (v4 + 6) _ _ _ _ _ h hw660 hk662 hcr hg663 hg664 hg665 hln666 hr668 (lv_sub hl [1, 2, 3, 4, 0] rfl)
                                                          · have h := ite_f h hc667
                                                            refine z_iconst (pc := 950) K dL_law_950 ?_
                                                            exact za_zret (pc := 951) K hw660 hcr ⟨by decide, by decide⟩ ⟨hk662, h⟩ dL_law_951
                                                        · replace h := ite_f h hc640
                                                          by_cases hc669 : (zand (sc v4) 63) = 26
                                                          · replace h := ite_t h hc669
                                                            refine lv_tableIn (pc := 40) (tgt := 952) K.x K.b dL_law_40 (by rw [rng_ofInt hrs4, hc669]; decide) (by rw [rng_ofInt hrs4, hc669]; decide) (off := 912) (by rw [rng_ofInt hrs4, hc669]; rfl) (by decide) ?_
                                                            refine z_aload_n (pc := 952) K dL_law_952 rfl (lv_at hl 1 rfl) ?_
                                                            refine lv_aload_n (pc := 953) K.x K.b dL_law_953 rfl (lv_at hl 0 rfl) ?_
                                                            refine lv_iload (pc := 954) K.x K.b dL_law_954 (lv_at hl 4 rfl) ?_
                                                            refine z_iconst (pc := 956) K dL_law_956 ?_
                                                            refine z_iadd (pc := 957) K dL_law_957 ?_
                                                            obtain ⟨hj670, h⟩ := h
                                                            refine z_sld (pc := 958) K hw hX hj670 dL_law_958 ?_
                                                            refine lv_aload_n (pc := 959) K.x K.b dL_law_959 rfl (lv_at hl 0 rfl) ?_
                                                            refine lv_iload (pc := 960) K.x K.b dL_law_960 (lv_at hl 4 rfl) ?_
                                                            refine z_iconst (pc := 962) K dL_law_962 ?_
                                                            refine z_iadd (pc := 963) K dL_law_963 ?_
                                                            obtain ⟨hj671, h⟩ := h
                                                            refine z_sld (pc := 964) K hw hX hj671 dL_law_964 ?_
                                                            refine zr_i (pc := 965) (maxL := 5) K hw (met_X1_spoke X l σ v1 (sc (v4 + 1)) (sc (v4 + 2)) htv1 (hX.r hj670) (hX.r hj671) _ h) (i_V (n := 2) (t := 1) (As := [jI (sc (v4 + 1)), jI (sc (v4 + 2))]) K hw (ob htv1) zq1 (by decide) q1157 q1158 q1159 (sg_of K q1160) rfl rfl dL_law_965) (locw K q1160 q90) ⟨by decide, by decide⟩ hl.1 dL_law_965 (Nat.le_of_ble_eq_true rfl) (cr_le1 hcr) (fun r672 _ _ hr673 h hw676 => ?_)
                                                            refine z_aload_n (pc := 968) K dL_law_968 rfl (lv_at hl 2 rfl) ?_
                                                            refine lv_aload_n (pc := 969) K.x K.b dL_law_969 rfl (lv_at hl 0 rfl) ?_
                                                            refine lv_iload (pc := 970) K.x K.b dL_law_970 (lv_at hl 4 rfl) ?_
                                                            refine z_iconst (pc := 972) K dL_law_972 ?_
                                                            refine z_iadd (pc := 973) K dL_law_973 ?_
                                                            obtain ⟨hj677, h⟩ := h
                                                            refine z_sld (pc := 974) K hw676 hX hj677 dL_law_974 ?_
                                                            refine lv_aload_n (pc := 975) K.x K.b dL_law_975 rfl (lv_at hl 0 rfl) ?_
                                                            refine lv_iload (pc := 976) K.x K.b dL_law_976 (lv_at hl 4 rfl) ?_
                                                            refine z_iconst (pc := 978) K dL_law_978 ?_
                                                            refine z_iadd (pc := 979) K dL_law_979 ?_
                                                            obtain ⟨hj678, h⟩ := h
                                                            refine z_sld (pc := 980) K hw676 hX hj678 dL_law_980 ?_
                                                            refine zc_i (pc := 981) (maxL := 5) K hw676 (met_X11_spoke X l σ v2 (sc (v4 + 1)) (sc (v4 + 2)) htv2 (hX.r hj677) (hX.r hj678) _ h) (i_V (n := 2) (t := 10) (As := [jI (sc (v4 + 1)), jI (sc (v4 + 2))]) K hw676 (ob htv2) zq10 (by decide) q1823 q1824 q1825 (sg_of K q1826) rfl rfl dL_law_981) (locw K q1826 q102) ⟨by decide, by decide⟩ hl.1 dL_law_981 (Nat.le_of_ble_eq_true rfl) (cr_le1 hcr) (fun r679 σ682 _ _ hr680 hq681 hw683 => ?_)
                                                            obtain ⟨hk684, h⟩ := hq681
                                                            have h := h hk684
                                                            have hk685 := kp_trans wo_L_law hk hk684 (fun _ q => q) (by decide)
                                                            have hg686 : tg σ682 v1 = 1 := kp_tg hk684 wo_X11_spoke htv1 (by decide)
                                                            have hg687 : tg σ682 v2 = 10 := kp_tg hk684 wo_X11_spoke htv2 (by decide)
                                                            have hg688 : tg σ682 v3 = 62 := kp_tg hk684 wo_X11_spoke htv3 (by decide)
                                                            have hln689 : σ682 v3 1 0 = 1 := len_kp hk684 htv3 (by decide) (by decide) hlnv3
                                                            refine z_icmp_eq (pc := 984) (tgt := 1335) K hr673 hr680 dL_law_984 (by decide) (fun hc690 => ?_) (fun hc690 => ?_)
                                                            · have h := ite_t h hc690
                                                              refine z_iinc (pc := 1335) (k := 4) (lv' := [(4, jI (v4 + 6)), (0, .ref b), (1, jR X v1), (2, jR X v2), (3, jR X v3)]) K dL_law_1335 hl rfl (by decide) (by first | (simp [jR_cat]; done) | (simp [jR_cat, show ((3 : Fin 4) : Nat) = 3 from rfl]; done)) (fun ls hl => ?_)
                                                              refine z_goto (pc := 1338) (tgt := 23) K dL_law_1338 (by decide) ?_
                                                              obtain ⟨hr691, h⟩ := h
                                                              exact ih σ682 cr v1 v2 v3 (v4 + 6) _ _ _ _ _ h hw683 hk685 hcr hg686 hg687 hg688 hln689 hr691 (lv_sub hl [1, 2, 3, 4, 0] rfl)
                                                            · have h := ite_f h hc690
                                                              refine z_iconst (pc := 987) K dL_law_987 ?_
                                                              exact za_zret (pc := 988) K hw683 hcr ⟨by decide, by decide⟩ ⟨hk685, h⟩ dL_law_988
                                                          · replace h := ite_f h hc669
                                                            by_cases hc692 : (zand (sc v4) 63) = 27
                                                            · replace h := ite_t h hc692
                                                              refine lv_tableIn (pc := 40) (tgt := 989) K.x K.b dL_law_40 (by rw [rng_ofInt hrs4, hc692]; decide) (by rw [rng_ofInt hrs4, hc692]; decide) (off := 949) (by rw [rng_ofInt hrs4, hc692]; rfl) (by decide) ?_
                                                              refine z_aload_n (pc := 989) K dL_law_989 rfl (lv_at hl 1 rfl) ?_
                                                              refine lv_aload_n (pc := 990) K.x K.b dL_law_990 rfl (lv_at hl 0 rfl) ?_
                                                              refine lv_iload (pc := 991) K.x K.b dL_law_991 (lv_at hl 4 rfl) ?_
                                                              refine z_iconst (pc := 993) K dL_law_993 ?_
                                                              refine z_iadd (pc := 994) K dL_law_994 ?_
                                                              obtain ⟨hj693, h⟩ := h
                                                              refine z_sld (pc := 995) K hw hX hj693 dL_law_995 ?_
                                                              refine lv_aload_n (pc := 996) K.x K.b dL_law_996 rfl (lv_at hl 0 rfl) ?_
                                                              refine lv_iload (pc := 997) K.x K.b dL_law_997 (lv_at hl 4 rfl) ?_
                                                              refine z_iconst (pc := 999) K dL_law_999 ?_
                                                              refine z_iadd (pc := 1000) K dL_law_1000 ?_
                                                              obtain ⟨hj694, h⟩ := h
                                                              refine z_sld (pc := 1001) K hw hX hj694 dL_law_1001 ?_
                                                              refine lv_aload_n (pc := 1002) K.x K.b dL_law_1002 rfl (lv_at hl 0 rfl) ?_
                                                              refine lv_iload (pc := 1003) K.x K.b dL_law_1003 (lv_at hl 4 rfl) ?_
                                                              refine z_iconst (pc := 1005) K dL_law_1005 ?_
                                                              refine z_iadd (pc := 1006) K dL_law_1006 ?_
                                                              obtain ⟨hj695, h⟩ := h
                                                              refine z_sld (pc := 1007) K hw hX hj695 dL_law_1007 ?_
                                                              refine zc_i (pc := 1008) (maxL := 5) K hw (met_X1_road X l σ v1 (sc (v4 + 1)) (sc (v4 + 2)) (sc (v4 + 3)) htv1 (hX.r hj693) (hX.r hj694) (hX.r hj695) _ h) (i_V (n := 3) (t := 1) (As := [jI (sc (v4 + 1)), jI (sc (v4 + 2)), jI (sc (v4 + 3))]) K hw (ob htv1) zq1 (by decide) q1161 q1162 q1163 (sg_of K q1164) rfl rfl dL_law_1008) (locw K q1164 q90) ⟨by decide, by decide⟩ hl.1 dL_law_1008 (Nat.le_of_ble_eq_true rfl) (cr_le1 hcr) (fun r696 σ699 _ _ hr697 hq698 hw700 => ?_)
                                                              obtain ⟨hk701, h⟩ := hq698
                                                              have h := h hk701
                                                              have hk702 := kp_trans wo_L_law hk hk701 (fun _ q => q) (by decide)
                                                              have hg703 : tg σ699 v1 = 1 := kp_tg hk701 wo_X1_road htv1 (by decide)
                                                              have hg704 : tg σ699 v2 = 10 := kp_tg hk701 wo_X1_road htv2 (by decide)
                                                              have hg705 : tg σ699 v3 = 62 := kp_tg hk701 wo_X1_road htv3 (by decide)
                                                              have hln706 : σ699 v3 1 0 = 1 := len_kp hk701 htv3 (by decide) (by decide) hlnv3
                                                              refine z_aload_n (pc := 1011) K dL_law_1011 rfl (lv_at hl 2 rfl) ?_
                                                              refine lv_aload_n (pc := 1012) K.x K.b dL_law_1012 rfl (lv_at hl 0 rfl) ?_
                                                              refine lv_iload (pc := 1013) K.x K.b dL_law_1013 (lv_at hl 4 rfl) ?_
                                                              refine z_iconst (pc := 1015) K dL_law_1015 ?_
                                                              refine z_iadd (pc := 1016) K dL_law_1016 ?_
                                                              obtain ⟨hj707, h⟩ := h
                                                              refine z_sld (pc := 1017) K hw700 hX hj707 dL_law_1017 ?_
                                                              refine lv_aload_n (pc := 1018) K.x K.b dL_law_1018 rfl (lv_at hl 0 rfl) ?_
                                                              refine lv_iload (pc := 1019) K.x K.b dL_law_1019 (lv_at hl 4 rfl) ?_
                                                              refine z_iconst (pc := 1021) K dL_law_1021 ?_
                                                              refine z_iadd (pc := 1022) K dL_law_1022 ?_
                                                              obtain ⟨hj708, h⟩ := h
                                                              refine z_sld (pc := 1023) K hw700 hX hj708 dL_law_1023 ?_
                                                              refine lv_aload_n (pc := 1024) K.x K.b dL_law_1024 rfl (lv_at hl 0 rfl) ?_
                                                              refine lv_iload (pc := 1025) K.x K.b dL_law_1025 (lv_at hl 4 rfl) ?_
                                                              refine z_iconst (pc := 1027) K dL_law_1027 ?_
                                                              refine z_iadd (pc := 1028) K dL_law_1028 ?_
                                                              obtain ⟨hj709, h⟩ := h
                                                              refine z_sld (pc := 1029) K hw700 hX hj709 dL_law_1029 ?_
                                                              refine zc_i (pc := 1030) (maxL := 6) K hw700 (met_X11_road X l σ699 v2 (sc (v4 + 1)) (sc (v4 + 2)) (sc (v4 + 3)) hg704 (hX.r hj707) (hX.r hj708) (hX.r hj709) _ h) (i_V (n := 3) (t := 10) (As := [jI (sc (v4 + 1)), jI (sc (v4 + 2)), jI (sc (v4 + 3))]) K hw700 (ob hg704) zq10 (by decide) q1916 q1917 q1918 (sg_of K q1919) rfl rfl dL_law_1030) (locw K q1919 q102) ⟨by decide, by decide⟩ hl.1 dL_law_1030 (Nat.le_of_ble_eq_true rfl) (cr_le1 hcr) (fun r710 σ713 _ _ hr711 hq712 hw714 => ?_)
                                                              obtain ⟨hk715, h⟩ := hq712
                                                              have h := h hk715
                                                              have hk716 := kp_trans wo_L_law hk702 hk715 (fun _ q => q) (by decide)
                                                              have hg717 : tg σ713 v1 = 1 := kp_tg hk715 wo_X11_road hg703 (by decide)
                                                              have hg718 : tg σ713 v2 = 10 := kp_tg hk715 wo_X11_road hg704 (by decide)
                                                              have hg719 : tg σ713 v3 = 62 := kp_tg hk715 wo_X11_road hg705 (by decide)
                                                              have hln720 : σ713 v3 1 0 = 1 := len_kp hk715 hg705 (by decide) (by decide) hln706
                                                              refine z_icmp_eq (pc := 1033) (tgt := 1335) K hr697 hr711 dL_law_1033 (by decide) (fun hc721 => ?_) (fun hc721 => ?_)
                                                              · have h := ite_t h hc721
                                                                refine z_iinc (pc := 1335) (k := 4) (lv' := [(4, jI (v4 + 6)), (0, .ref b), (1, jR X v1), (2, jR X v2), (3, jR X v3)]) K dL_law_1335 hl rfl (by decide) (by first | (simp [jR_cat]; done) | (simp [jR_cat, show ((3 : Fin 4) : Nat) = 3 from rfl]; done)) (fun ls hl => ?_)
                                                                refine z_goto (pc := 1338) (tgt := 23) K dL_law_1338 (by decide) ?_
                                                                obtain ⟨hr722, h⟩ := h
                                                                exact ih σ713 cr v1 v2 v3 (v4 + 6) _ _ _ _ _ h hw714 hk716 hcr hg717 hg718 hg719 hln720 hr722 (lv_sub hl [1, 2, 3, 4, 0] rfl)
                                                              · have h := ite_f h hc721
                                                                refine z_iconst (pc := 1036) K dL_law_1036 ?_
                                                                exact za_zret (pc := 1037) K hw714 hcr ⟨by decide, by decide⟩ ⟨hk716, h⟩ dL_law_1037
                                                            · replace h := ite_f h hc692
                                                              by_cases hc723 : (zand (sc v4) 63) = 28
                                                              · replace h := ite_t h hc723
                                                                refine lv_tableIn (pc := 40) (tgt := 1038) K.x K.b dL_law_40 (by rw [rng_ofInt hrs4, hc723]; decide) (by rw [rng_ofInt hrs4, hc723]; decide) (off := 998) (by rw [rng_ofInt hrs4, hc723]; rfl) (by decide) ?_
                                                                refine z_aload_n (pc := 1038) K dL_law_1038 rfl (lv_at hl 1 rfl) ?_
                                                                refine lv_aload_n (pc := 1039) K.x K.b dL_law_1039 rfl (lv_at hl 0 rfl) ?_
                                                                refine lv_iload (pc := 1040) K.x K.b dL_law_1040 (lv_at hl 4 rfl) ?_
                                                                refine z_iconst (pc := 1042) K dL_law_1042 ?_
                                                                refine z_iadd (pc := 1043) K dL_law_1043 ?_
                                                                obtain ⟨hj724, h⟩ := h
                                                                refine z_sld (pc := 1044) K hw hX hj724 dL_law_1044 ?_
                                                                refine lv_aload_n (pc := 1045) K.x K.b dL_law_1045 rfl (lv_at hl 0 rfl) ?_
                                                                refine lv_iload (pc := 1046) K.x K.b dL_law_1046 (lv_at hl 4 rfl) ?_
                                                                refine z_iconst (pc := 1048) K dL_law_1048 ?_
                                                                refine z_iadd (pc := 1049) K dL_law_1049 ?_
                                                                obtain ⟨hj725, h⟩ := h
                                                                refine z_sld (pc := 1050) K hw hX hj725 dL_law_1050 ?_
                                                                refine lv_aload_n (pc := 1051) K.x K.b dL_law_1051 rfl (lv_at hl 0 rfl) ?_
                                                                refine lv_iload (pc := 1052) K.x K.b dL_law_1052 (lv_at hl 4 rfl) ?_
                                                                refine z_iconst (pc := 1054) K dL_law_1054 ?_
                                                                refine z_iadd (pc := 1055) K dL_law_1055 ?_
                                                                obtain ⟨hj726, h⟩ := h
                                                                refine z_sld (pc := 1056) K hw hX hj726 dL_law_1056 ?_
                                                                refine lv_aload_n (pc := 1057) K.x K.b dL_law_1057 rfl (lv_at hl 0 rfl) ?_
                                                                refine lv_iload (pc := 1058) K.x K.b dL_law_1058 (lv_at hl 4 rfl) ?_
                                                                refine z_iconst (pc := 1060) K dL_law_1060 ?_
                                                                refine z_iadd (pc := 1061) K dL_law_1061 ?_
                                                                obtain ⟨hj727, h⟩ := h
                                                                refine z_sld (pc := 1062) K hw hX hj727 dL_law_1062 ?_
                                                                refine zc_i (pc := 1063) (maxL := 5) K hw (met_X1_without X l σ v1 (sc (v4 + 1)) (sc (v4 + 2)) (sc (v4 + 3)) (sc (v4 + 4)) htv1 (hX.r hj724) (hX.r hj725) (hX.r hj726) (hX.r hj727) _ h) (i_V (n := 4) (t := 1) (As := [jI (sc (v4 + 1)), jI (sc (v4 + 2)), jI (sc (v4 + 3)), jI (sc (v4 + 4))]) K hw (ob htv1) zq1 (by decide) q1181 q1182 q1183 (sg_of K q1184) rfl rfl dL_law_1063) (locw K q1184 q90) ⟨by decide, by decide⟩ hl.1 dL_law_1063 (Nat.le_of_ble_eq_true rfl) (cr_le1 hcr) (fun r728 σ731 _ _ hr729 hq730 hw732 => ?_)
                                                                obtain ⟨hk733, h⟩ := hq730
                                                                have h := h hk733
                                                                have hk734 := kp_trans wo_L_law hk hk733 (fun _ q => q) (by decide)
                                                                have hg735 : tg σ731 v1 = 1 := kp_tg hk733 wo_X1_without htv1 (by decide)
                                                                have hg736 : tg σ731 v2 = 10 := kp_tg hk733 wo_X1_without htv2 (by decide)
                                                                have hg737 : tg σ731 v3 = 62 := kp_tg hk733 wo_X1_without htv3 (by decide)
                                                                have hln738 : σ731 v3 1 0 = 1 := len_kp hk733 htv3 (by decide) (by decide) hlnv3
                                                                refine z_aload_n (pc := 1066) K dL_law_1066 rfl (lv_at hl 2 rfl) ?_
                                                                refine lv_aload_n (pc := 1067) K.x K.b dL_law_1067 rfl (lv_at hl 0 rfl) ?_
                                                                refine lv_iload (pc := 1068) K.x K.b dL_law_1068 (lv_at hl 4 rfl) ?_
                                                                refine z_iconst (pc := 1070) K dL_law_1070 ?_
                                                                refine z_iadd (pc := 1071) K dL_law_1071 ?_
                                                                obtain ⟨hj739, h⟩ := h
                                                                refine z_sld (pc := 1072) K hw732 hX hj739 dL_law_1072 ?_
                                                                refine lv_aload_n (pc := 1073) K.x K.b dL_law_1073 rfl (lv_at hl 0 rfl) ?_
                                                                refine lv_iload (pc := 1074) K.x K.b dL_law_1074 (lv_at hl 4 rfl) ?_
                                                                refine z_iconst (pc := 1076) K dL_law_1076 ?_
                                                                refine z_iadd (pc := 1077) K dL_law_1077 ?_
                                                                obtain ⟨hj740, h⟩ := h
                                                                refine z_sld (pc := 1078) K hw732 hX hj740 dL_law_1078 ?_
                                                                refine lv_aload_n (pc := 1079) K.x K.b dL_law_1079 rfl (lv_at hl 0 rfl) ?_
                                                                refine lv_iload (pc := 1080) K.x K.b dL_law_1080 (lv_at hl 4 rfl) ?_
                                                                refine z_iconst (pc := 1082) K dL_law_1082 ?_
                                                                refine z_iadd (pc := 1083) K dL_law_1083 ?_
                                                                obtain ⟨hj741, h⟩ := h
                                                                refine z_sld (pc := 1084) K hw732 hX hj741 dL_law_1084 ?_
                                                                refine lv_aload_n (pc := 1085) K.x K.b dL_law_1085 rfl (lv_at hl 0 rfl) ?_
                                                                refine lv_iload (pc := 1086) K.x K.b dL_law_1086 (lv_at hl 4 rfl) ?_
                                                                refine z_iconst (pc := 1088) K dL_law_1088 ?_
                                                                refine z_iadd (pc := 1089) K dL_law_1089 ?_
                                                                obtain ⟨hj742, h⟩ := h
                                                                refine z_sld (pc := 1090) K hw732 hX hj742 dL_law_1090 ?_
                                                                refine zc_i (pc := 1091) (maxL := 5) K hw732 (met_X11_without X l σ731 v2 (sc (v4 + 1)) (sc (v4 + 2)) (sc (v4 + 3)) (sc (v4 + 4)) hg736 (hX.r hj739) (hX.r hj740) (hX.r hj741) (hX.r hj742) _ h) (i_V (n := 4) (t := 10) (As := [jI (sc (v4 + 1)), jI (sc (v4 + 2)), jI (sc (v4 + 3)), jI (sc (v4 + 4))]) K hw732 (ob hg736) zq10 (by decide) q1936 q1937 q1938 (sg_of K q1939) rfl rfl dL_law_1091) (locw K q1939 q102) ⟨by decide, by decide⟩ hl.1 dL_law_1091 (Nat.le_of_ble_eq_true rfl) (cr_le1 hcr) (fun r743 σ746 _ _ hr744 hq745 hw747 => ?_)
                                                                obtain ⟨hk748, h⟩ := hq745
                                                                have h := h hk748
                                                                have hk749 := kp_trans wo_L_law hk734 hk748 (fun _ q => q) (by decide)
                                                                have hg750 : tg σ746 v1 = 1 := kp_tg hk748 wo_X11_without hg735 (by decide)
                                                                have hg751 : tg σ746 v2 = 10 := kp_tg hk748 wo_X11_without hg736 (by decide)
                                                                have hg752 : tg σ746 v3 = 62 := kp_tg hk748 wo_X11_without hg737 (by decide)
                                                                have hln753 : σ746 v3 1 0 = 1 := len_kp hk748 hg737 (by decide) (by decide) hln738
                                                                refine z_icmp_eq (pc := 1094) (tgt := 1335) K hr729 hr744 dL_law_1094 (by decide) (fun hc754 => ?_) (fun hc754 => ?_)
                                                                · have h := ite_t h hc754
                                                                  refine z_iinc (pc := 1335) (k := 4) (lv' := [(4, jI (v4 + 6)), (0, .ref b), (1, jR X v1), (2, jR X v2), (3, jR X v3)]) K dL_law_1335 hl rfl (by decide) (by first | (simp [jR_cat]; done) | (simp [jR_cat, show ((3 : Fin 4) : Nat) = 3 from rfl]; done)) (fun ls hl => ?_)
                                                                  refine z_goto (pc := 1338) (tgt := 23) K dL_law_1338 (by decide) ?_
                                                                  obtain ⟨hr755, h⟩ := h
                                                                  exact ih σ746 cr v1 v2 v3 (v4 + 6) _ _ _ _ _ h hw747 hk749 hcr hg750 hg751 hg752 hln753 hr755 (lv_sub hl [1, 2, 3, 4, 0] rfl)
                                                                · have h := ite_f h hc754
                                                                  refine z_iconst (pc := 1097) K dL_law_1097 ?_
                                                                  exact za_zret (pc := 1098) K hw747 hcr ⟨by decide, by decide⟩ ⟨hk749, h⟩ dL_law_1098
                                                              · replace h := ite_f h hc723
                                                                by_cases hc756 : (zand (sc v4) 63) = 29
                                                                · replace h := ite_t h hc756
                                                                  refine lv_tableIn (pc := 40) (tgt := 1099) K.x K.b dL_law_40 (by rw [rng_ofInt hrs4, hc756]; decide) (by rw [rng_ofInt hrs4, hc756]; decide) (off := 1059) (by rw [rng_ofInt hrs4, hc756]; rfl) (by decide) ?_
                                                                  refine z_aload_n (pc := 1099) K dL_law_1099 rfl (lv_at hl 1 rfl) ?_
                                                                  refine lv_aload_n (pc := 1100) K.x K.b dL_law_1100 rfl (lv_at hl 0 rfl) ?_
                                                                  refine lv_iload (pc := 1101) K.x K.b dL_law_1101 (lv_at hl 4 rfl) ?_
                                                                  refine z_iconst (pc := 1103) K dL_law_1103 ?_
                                                                  refine z_iadd (pc := 1104) K dL_law_1104 ?_
                                                                  obtain ⟨hj757, h⟩ := h
                                                                  refine z_sld (pc := 1105) K hw hX hj757 dL_law_1105 ?_
                                                                  refine lv_aload_n (pc := 1106) K.x K.b dL_law_1106 rfl (lv_at hl 0 rfl) ?_
                                                                  refine lv_iload (pc := 1107) K.x K.b dL_law_1107 (lv_at hl 4 rfl) ?_
                                                                  refine z_iconst (pc := 1109) K dL_law_1109 ?_
                                                                  refine z_iadd (pc := 1110) K dL_law_1110 ?_
                                                                  obtain ⟨hj758, h⟩ := h
                                                                  refine z_sld (pc := 1111) K hw hX hj758 dL_law_1111 ?_
                                                                  refine lv_aload_n (pc := 1112) K.x K.b dL_law_1112 rfl (lv_at hl 0 rfl) ?_
                                                                  refine lv_iload (pc := 1113) K.x K.b dL_law_1113 (lv_at hl 4 rfl) ?_
                                                                  refine z_iconst (pc := 1115) K dL_law_1115 ?_
                                                                  refine z_iadd (pc := 1116) K dL_law_1116 ?_
                                                                  obtain ⟨hj759, h⟩ := h
                                                                  refine z_sld (pc := 1117) K hw hX hj759 dL_law_1117 ?_
                                                                  refine lv_aload_n (pc := 1118) K.x K.b dL_law_1118 rfl (lv_at hl 0 rfl) ?_
                                                                  refine lv_iload (pc := 1119) K.x K.b dL_law_1119 (lv_at hl 4 rfl) ?_
                                                                  refine z_iconst (pc := 1121) K dL_law_1121 ?_
                                                                  refine z_iadd (pc := 1122) K dL_law_1122 ?_
                                                                  obtain ⟨hj760, h⟩ := h
                                                                  refine z_sld (pc := 1123) K hw hX hj760 dL_law_1123 ?_
                                                                  refine zc_i (pc := 1124) (maxL := 7) K hw (met_X1_game X l σ v1 (sc (v4 + 1)) (sc (v4 + 2)) (sc (v4 + 3)) (sc (v4 + 4)) htv1 (hX.r hj757) (hX.r hj758) (hX.r hj759) (hX.r hj760) _ h) (i_V (n := 4) (t := 1) (As := [jI (sc (v4 + 1)), jI (sc (v4 + 2)), jI (sc (v4 + 3)), jI (sc (v4 + 4))]) K hw (ob htv1) zq1 (by decide) q1185 q1186 q1187 (sg_of K q1188) rfl rfl dL_law_1124) (locw K q1188 q90) ⟨by decide, by decide⟩ hl.1 dL_law_1124 (Nat.le_of_ble_eq_true rfl) (cr_le1 hcr) (fun r761 σ764 _ _ hr762 hq763 hw765 => ?_)
                                                                  obtain ⟨hk766, h⟩ := hq763
                                                                  have h := h hk766
                                                                  have hk767 := kp_trans wo_L_law hk hk766 (fun _ q => q) (by decide)
                                                                  have hg768 : tg σ764 v1 = 1 := kp_tg hk766 wo_X1_game htv1 (by decide)
                                                                  have hg769 : tg σ764 v2 = 10 := kp_tg hk766 wo_X1_game htv2 (by decide)
                                                                  have hg770 : tg σ764 v3 = 62 := kp_tg hk766 wo_X1_game htv3 (by decide)
                                                                  have hln771 : σ764 v3 1 0 = 1 := len_kp hk766 htv3 (by decide) (by decide) hlnv3
                                                                  refine z_aload_n (pc := 1127) K dL_law_1127 rfl (lv_at hl 2 rfl) ?_
                                                                  refine lv_aload_n (pc := 1128) K.x K.b dL_law_1128 rfl (lv_at hl 0 rfl) ?_
                                                                  refine lv_iload (pc := 1129) K.x K.b dL_law_1129 (lv_at hl 4 rfl) ?_
                                                                  refine z_iconst (pc := 1131) K dL_law_1131 ?_
                                                                  refine z_iadd (pc := 1132) K dL_law_1132 ?_
                                                                  obtain ⟨hj772, h⟩ := h
                                                                  refine z_sld (pc := 1133) K hw765 hX hj772 dL_law_1133 ?_
                                                                  refine lv_aload_n (pc := 1134) K.x K.b dL_law_1134 rfl (lv_at hl 0 rfl) ?_
                                                                  refine lv_iload (pc := 1135) K.x K.b dL_law_1135 (lv_at hl 4 rfl) ?_
                                                                  refine z_iconst (pc := 1137) K dL_law_1137 ?_
                                                                  refine z_iadd (pc := 1138) K dL_law_1138 ?_
                                                                  obtain ⟨hj773, h⟩ := h
                                                                  refine z_sld (pc := 1139) K hw765 hX hj773 dL_law_1139 ?_
                                                                  refine lv_aload_n (pc := 1140) K.x K.b dL_law_1140 rfl (lv_at hl 0 rfl) ?_
                                                                  refine lv_iload (pc := 1141) K.x K.b dL_law_1141 (lv_at hl 4 rfl) ?_
                                                                  refine z_iconst (pc := 1143) K dL_law_1143 ?_
                                                                  refine z_iadd (pc := 1144) K dL_law_1144 ?_
                                                                  obtain ⟨hj774, h⟩ := h
                                                                  refine z_sld (pc := 1145) K hw765 hX hj774 dL_law_1145 ?_
                                                                  refine lv_aload_n (pc := 1146) K.x K.b dL_law_1146 rfl (lv_at hl 0 rfl) ?_
                                                                  refine lv_iload (pc := 1147) K.x K.b dL_law_1147 (lv_at hl 4 rfl) ?_
                                                                  refine z_iconst (pc := 1149) K dL_law_1149 ?_
                                                                  refine z_iadd (pc := 1150) K dL_law_1150 ?_
                                                                  obtain ⟨hj775, h⟩ := h
                                                                  refine z_sld (pc := 1151) K hw765 hX hj775 dL_law_1151 ?_
                                                                  refine zc_i (pc := 1152) (maxL := 7) K hw765 (met_X11_game X l σ764 v2 (sc (v4 + 1)) (sc (v4 + 2)) (sc (v4 + 3)) (sc (v4 + 4)) hg769 (hX.r hj772) (hX.r hj773) (hX.r hj774) (hX.r hj775) _ h) (i_V (n := 4) (t := 10) (As := [jI (sc (v4 + 1)), jI (sc (v4 + 2)), jI (sc (v4 + 3)), jI (sc (v4 + 4))]) K hw765 (ob hg769) zq10 (by decide) q1940 q1941 q1942 (sg_of K q1943) rfl rfl dL_law_1152) (locw K q1943 q102) ⟨by decide, by decide⟩ hl.1 dL_law_1152 (Nat.le_of_ble_eq_true rfl) (cr_le1 hcr) (fun r776 σ779 _ _ hr777 hq778 hw780 => ?_)
                                                                  obtain ⟨hk781, h⟩ := hq778
                                                                  have h := h hk781
                                                                  have hk782 := kp_trans wo_L_law hk767 hk781 (fun _ q => q) (by decide)
                                                                  have hg783 : tg σ779 v1 = 1 := kp_tg hk781 wo_X11_game hg768 (by decide)
                                                                  have hg784 : tg σ779 v2 = 10 := kp_tg hk781 wo_X11_game hg769 (by decide)
                                                                  have hg785 : tg σ779 v3 = 62 := kp_tg hk781 wo_X11_game hg770 (by decide)
                                                                  have hln786 : σ779 v3 1 0 = 1 := len_kp hk781 hg770 (by decide) (by decide) hln771
                                                                  refine z_icmp_eq (pc := 1155) (tgt := 1335) K hr762 hr777 dL_law_1155 (by decide) (fun hc787 => ?_) (fun hc787 => ?_)
                                                                  · have h := ite_t h hc787
                                                                    refine z_iinc (pc := 1335) (k := 4) (lv' := [(4, jI (v4 + 6)), (0, .ref b), (1, jR X v1), (2, jR X v2), (3, jR X v3)]) K dL_law_1335 hl rfl (by decide) (by first | (simp [jR_cat]; done) | (simp [jR_cat, show ((3 : Fin 4) : Nat) = 3 from rfl]; done)) (fun ls hl => ?_)
                                                                    refine z_goto (pc := 1338) (tgt := 23) K dL_law_1338 (by decide) ?_
                                                                    obtain ⟨hr788, h⟩ := h
                                                                    exact ih σ779 cr v1 v2 v3 (v4 + 6) _ _ _ _ _ h hw780 hk782 hcr hg783 hg784 hg785 hln786 hr788 (lv_sub hl [1, 2, 3, 4, 0] rfl)
                                                                  · have h := ite_f h hc787
                                                                    refine z_iconst (pc := 1158) K dL_law_1158 ?_
                                                                    exact za_zret (pc := 1159) K hw780 hcr ⟨by decide, by decide⟩ ⟨hk782, h⟩ dL_law_1159
                                                                · replace h := ite_f h hc756
                                                                  by_cases hc789 : (zand (sc v4) 63) = 30
                                                                  · replace h := ite_t h hc789
                                                                    refine lv_tableIn (pc := 40) (tgt := 1160) K.x K.b dL_law_40 (by rw [rng_ofInt hrs4, hc789]; decide) (by rw [rng_ofInt hrs4, hc789]; decide) (off := 1120) (by rw [rng_ofInt hrs4, hc789]; rfl) (by decide) ?_
                                                                    refine z_aload_n (pc := 1160) K dL_law_1160 rfl (lv_at hl 1 rfl) ?_
                                                                    refine lv_aload_n (pc := 1161) K.x K.b dL_law_1161 rfl (lv_at hl 0 rfl) ?_
                                                                    refine lv_iload (pc := 1162) K.x K.b dL_law_1162 (lv_at hl 4 rfl) ?_
                                                                    refine z_iconst (pc := 1164) K dL_law_1164 ?_
                                                                    refine z_iadd (pc := 1165) K dL_law_1165 ?_
                                                                    obtain ⟨hj790, h⟩ := h
                                                                    refine z_sld (pc := 1166) K hw hX hj790 dL_law_1166 ?_
                                                                    refine zr_i (pc := 1167) (maxL := 2) K hw (met_X1_found X l σ v1 (sc (v4 + 1)) htv1 (hX.r hj790) _ h) (i_V (n := 1) (t := 1) (As := [jI (sc (v4 + 1))]) K hw (ob htv1) zq1 (by decide) q1205 q1206 q1207 (sg_of K q1208) rfl rfl dL_law_1167) (locw K q1208 q90) ⟨by decide, by decide⟩ hl.1 dL_law_1167 (Nat.le_of_ble_eq_true rfl) (cr_le1 hcr) (fun r791 _ _ hr792 h hw795 => ?_)
                                                                    refine z_aload_n (pc := 1170) K dL_law_1170 rfl (lv_at hl 2 rfl) ?_
                                                                    refine lv_aload_n (pc := 1171) K.x K.b dL_law_1171 rfl (lv_at hl 0 rfl) ?_
                                                                    refine lv_iload (pc := 1172) K.x K.b dL_law_1172 (lv_at hl 4 rfl) ?_
                                                                    refine z_iconst (pc := 1174) K dL_law_1174 ?_
                                                                    refine z_iadd (pc := 1175) K dL_law_1175 ?_
                                                                    obtain ⟨hj796, h⟩ := h
                                                                    refine z_sld (pc := 1176) K hw795 hX hj796 dL_law_1176 ?_
                                                                    refine zc_i (pc := 1177) (maxL := 2) K hw795 (met_X11_found X l σ v2 (sc (v4 + 1)) htv2 (hX.r hj796) _ h) (i_V (n := 1) (t := 10) (As := [jI (sc (v4 + 1))]) K hw795 (ob htv2) zq10 (by decide) q1948 q1949 q1950 (sg_of K q1951) rfl rfl dL_law_1177) (locw K q1951 q102) ⟨by decide, by decide⟩ hl.1 dL_law_1177 (Nat.le_of_ble_eq_true rfl) (cr_le1 hcr) (fun r797 σ800 _ _ hr798 hq799 hw801 => ?_)
                                                                    obtain ⟨hk802, h⟩ := hq799
                                                                    have h := h hk802
                                                                    have hk803 := kp_trans wo_L_law hk hk802 (fun _ q => q) (by decide)
                                                                    have hg804 : tg σ800 v1 = 1 := kp_tg hk802 wo_X11_found htv1 (by decide)
                                                                    have hg805 : tg σ800 v2 = 10 := kp_tg hk802 wo_X11_found htv2 (by decide)
                                                                    have hg806 : tg σ800 v3 = 62 := kp_tg hk802 wo_X11_found htv3 (by decide)
                                                                    have hln807 : σ800 v3 1 0 = 1 := len_kp hk802 htv3 (by decide) (by decide) hlnv3
                                                                    refine z_icmp_eq (pc := 1180) (tgt := 1335) K hr792 hr798 dL_law_1180 (by decide) (fun hc808 => ?_) (fun hc808 => ?_)
                                                                    · have h := ite_t h hc808
                                                                      refine z_iinc (pc := 1335) (k := 4) (lv' := [(4, jI (v4 + 6)), (0, .ref b), (1, jR X v1), (2, jR X v2), (3, jR X v3)]) K dL_law_1335 hl rfl (by decide) (by first | (simp [jR_cat]; done) | (simp [jR_cat, show ((3 : Fin 4) : Nat) = 3 from rfl]; done)) (fun ls hl => ?_)
                                                                      refine z_goto (pc := 1338) (tgt := 23) K dL_law_1338 (by decide) ?_
                                                                      obtain ⟨hr809, h⟩ := h
                                                                      exact ih σ800 cr v1 v2 v3 (v4 + 6) _ _ _ _ _ h hw801 hk803 hcr hg804 hg805 hg806 hln807 hr809 (lv_sub hl [1, 2, 3, 4, 0] rfl)
                                                                    · have h := ite_f h hc808
                                                                      refine z_iconst (pc := 1183) K dL_law_1183 ?_
                                                                      exact za_zret (pc := 1184) K hw801 hcr ⟨by decide, by decide⟩ ⟨hk803, h⟩ dL_law_1184
                                                                  · replace h := ite_f h hc789
                                                                    by_cases hc810 : (zand (sc v4) 63) = 31
                                                                    · replace h := ite_t h hc810
                                                                      refine lv_tableIn (pc := 40) (tgt := 1185) K.x K.b dL_law_40 (by rw [rng_ofInt hrs4, hc810]; decide) (by rw [rng_ofInt hrs4, hc810]; decide) (off := 1145) (by rw [rng_ofInt hrs4, hc810]; rfl) (by decide) ?_
                                                                      refine z_aload_n (pc := 1185) K dL_law_1185 rfl (lv_at hl 1 rfl) ?_
                                                                      refine lv_aload_n (pc := 1186) K.x K.b dL_law_1186 rfl (lv_at hl 0 rfl) ?_
                                                                      refine lv_iload (pc := 1187) K.x K.b dL_law_1187 (lv_at hl 4 rfl) ?_
                                                                      refine z_iconst (pc := 1189) K dL_law_1189 ?_
                                                                      refine z_iadd (pc := 1190) K dL_law_1190 ?_
                                                                      obtain ⟨hj811, h⟩ := h
                                                                      refine z_sld (pc := 1191) K hw hX hj811 dL_law_1191 ?_
                                                                      refine lv_aload_n (pc := 1192) K.x K.b dL_law_1192 rfl (lv_at hl 0 rfl) ?_
                                                                      refine lv_iload (pc := 1193) K.x K.b dL_law_1193 (lv_at hl 4 rfl) ?_
                                                                      refine z_iconst (pc := 1195) K dL_law_1195 ?_
                                                                      refine z_iadd (pc := 1196) K dL_law_1196 ?_
                                                                      obtain ⟨hj812, h⟩ := h
                                                                      refine z_sld (pc := 1197) K hw hX hj812 dL_law_1197 ?_
                                                                      refine zc_i (pc := 1198) (maxL := 8) K hw (met_X1_unlike X l σ v1 (sc (v4 + 1)) (sc (v4 + 2)) htv1 (hX.r hj811) (hX.r hj812) _ h) (i_V (n := 2) (t := 1) (As := [jI (sc (v4 + 1)), jI (sc (v4 + 2))]) K hw (ob htv1) zq1 (by decide) q1197 q1198 q1199 (sg_of K q1200) rfl rfl dL_law_1198) (locw K q1200 q90) ⟨by decide, by decide⟩ hl.1 dL_law_1198 (Nat.le_of_ble_eq_true rfl) (cr_le1 hcr) (fun r813 σ816 _ _ hr814 hq815 hw817 => ?_)
                                                                      obtain ⟨hk818, h⟩ := hq815
                                                                      have h := h hk818
                                                                      have hk819 := kp_trans wo_L_law hk hk818 (fun _ q => q) (by decide)
                                                                      have hg820 : tg σ816 v1 = 1 := kp_tg hk818 wo_X1_unlike htv1 (by decide)
                                                                      have hg821 : tg σ816 v2 = 10 := kp_tg hk818 wo_X1_unlike htv2 (by decide)
                                                                      have hg822 : tg σ816 v3 = 62 := kp_tg hk818 wo_X1_unlike htv3 (by decide)
                                                                      have hln823 : σ816 v3 1 0 = 1 := len_kp hk818 htv3 (by decide) (by decide) hlnv3
                                                                      refine z_aload_n (pc := 1201) K dL_law_1201 rfl (lv_at hl 2 rfl) ?_
                                                                      refine lv_aload_n (pc := 1202) K.x K.b dL_law_1202 rfl (lv_at hl 0 rfl) ?_
                                                                      refine lv_iload (pc := 1203) K.x K.b dL_law_1203 (lv_at hl 4 rfl) ?_
                                                                      refine z_iconst (pc := 1205) K dL_law_1205 ?_
                                                                      refine z_iadd (pc := 1206) K dL_law_1206 ?_
                                                                      obtain ⟨hj824, h⟩ := h
                                                                      refine z_sld (pc := 1207) K hw817 hX hj824 dL_law_1207 ?_
                                                                      refine lv_aload_n (pc := 1208) K.x K.b dL_law_1208 rfl (lv_at hl 0 rfl) ?_
                                                                      refine lv_iload (pc := 1209) K.x K.b dL_law_1209 (lv_at hl 4 rfl) ?_
                                                                      refine z_iconst (pc := 1211) K dL_law_1211 ?_
                                                                      refine z_iadd (pc := 1212) K dL_law_1212 ?_
                                                                      obtain ⟨hj825, h⟩ := h
                                                                      refine z_sld (pc := 1213) K hw817 hX hj825 dL_law_1213 ?_
                                                                      refine zc_i (pc := 1214) (maxL := 7) K hw817 (met_X11_unlike X l σ816 v2 (sc (v4 + 1)) (sc (v4 + 2)) hg821 (hX.r hj824) (hX.r hj825) _ h) (i_V (n := 2) (t := 10) (As := [jI (sc (v4 + 1)), jI (sc (v4 + 2))]) K hw817 (ob hg821) zq10 (by decide) q1952 q1953 q1954 (sg_of K q1955) rfl rfl dL_law_1214) (locw K q1955 q102) ⟨by decide, by decide⟩ hl.1 dL_law_1214 (Nat.le_of_ble_eq_true rfl) (cr_le1 hcr) (fun r826 σ829 _ _ hr827 hq828 hw830 => ?_)
                                                                      obtain ⟨hk831, h⟩ := hq828
                                                                      have h := h hk831
                                                                      have hk832 := kp_trans wo_L_law hk819 hk831 (fun _ q => q) (by decide)
                                                                      have hg833 : tg σ829 v1 = 1 := kp_tg hk831 wo_X11_unlike hg820 (by decide)
                                                                      have hg834 : tg σ829 v2 = 10 := kp_tg hk831 wo_X11_unlike hg821 (by decide)
                                                                      have hg835 : tg σ829 v3 = 62 := kp_tg hk831 wo_X11_unlike hg822 (by decide)
                                                                      have hln836 : σ829 v3 1 0 = 1 := len_kp hk831 hg822 (by decide) (by decide) hln823
                                                                      refine z_icmp_eq (pc := 1217) (tgt := 1335) K hr814 hr827 dL_law_1217 (by decide) (fun hc837 => ?_) (fun hc837 => ?_)
                                                                      · have h := ite_t h hc837
                                                                        refine z_iinc (pc := 1335) (k := 4) (lv' := [(4, jI (v4 + 6)), (0, .ref b), (1, jR X v1), (2, jR X v2), (3, jR X v3)]) K dL_law_1335 hl rfl (by decide) (by first | (simp [jR_cat]; done) | (simp [jR_cat, show ((3 : Fin 4) : Nat) = 3 from rfl]; done)) (fun ls hl => ?_)
                                                                        refine z_goto (pc := 1338) (tgt := 23) K dL_law_1338 (by decide) ?_
                                                                        obtain ⟨hr838, h⟩ := h
                                                                        exact ih σ829 cr v1 v2 v3 (v4 + 6) _ _ _ _ _ h hw830 hk832 hcr hg833 hg834 hg835 hln836 hr838 (lv_sub hl [1, 2, 3, 4, 0] rfl)
                                                                      · have h := ite_f h hc837
                                                                        refine z_iconst (pc := 1220) K dL_law_1220 ?_
                                                                        exact za_zret (pc := 1221) K hw830 hcr ⟨by decide, by decide⟩ ⟨hk832, h⟩ dL_law_1221
                                                                    · replace h := ite_f h hc810
                                                                      by_cases hc839 : (zand (sc v4) 63) = 32
                                                                      · replace h := ite_t h hc839
                                                                        refine lv_tableIn (pc := 40) (tgt := 1222) K.x K.b dL_law_40 (by rw [rng_ofInt hrs4, hc839]; decide) (by rw [rng_ofInt hrs4, hc839]; decide) (off := 1182) (by rw [rng_ofInt hrs4, hc839]; rfl) (by decide) ?_
                                                                        refine z_aload_n (pc := 1222) K dL_law_1222 rfl (lv_at hl 1 rfl) ?_
                                                                        refine zac_i (pc := 1223) (maxL := 2) K hw (met_X1_sentence X l σ v1 htv1 cr hcr.2.2 _ h) (i_V (n := 0) (t := 1) (As := []) K hw (ob htv1) zq1 (by decide) q1209 q1210 q1211 (sg_ofW K q1212) rfl rfl dL_law_1223) (locwW K q1212 q90) ⟨by decide, by decide⟩ hl.1 dL_law_1223 (by decide) hcr (Int.toNat_of_nonneg hcr.2.2) ⟨by decide, by decide⟩ (fun r840 σ843 _ _ _ _ cr845 hr841 hq842 hw844 hcr846 => ?_)
                                                                        obtain ⟨hk847, h⟩ := hq842
                                                                        have h := h hk847
                                                                        have hk848 := kp_trans wo_L_law hk hk847 (fun _ q => q) (by decide)
                                                                        have hg849 : tg σ843 v1 = 1 := kp_tg hk847 wo_X1_sentence htv1 (by decide)
                                                                        have hg850 : tg σ843 v2 = 10 := kp_tg hk847 wo_X1_sentence htv2 (by decide)
                                                                        have hg851 : tg σ843 v3 = 62 := kp_tg hk847 wo_X1_sentence htv3 (by decide)
                                                                        have hln852 : σ843 v3 1 0 = 1 := len_kp hk847 htv3 (by decide) (by decide) hlnv3
                                                                        refine z_aload_n (pc := 1226) K dL_law_1226 rfl (lv_at hl 2 rfl) ?_
                                                                        refine zc_i (pc := 1227) (maxL := 2) K hw844 (met_X11_sentence X l σ843 v2 hg850 _ h) (i_V (n := 0) (t := 10) (As := []) K hw844 (ob hg850) zq10 (by decide) q1964 q1965 q1966 (sg_of K q1967) rfl rfl dL_law_1227) (locw K q1967 q102) ⟨by decide, by decide⟩ hl.1 dL_law_1227 (Nat.le_of_ble_eq_true rfl) (cr_le1 hcr846) (fun r853 σ856 _ _ hr854 hq855 hw857 => ?_)
                                                                        obtain ⟨hk858, h⟩ := hq855
                                                                        have h := h hk858
                                                                        have hk859 := kp_trans wo_L_law hk848 hk858 (fun _ q => q) (by decide)
                                                                        have hg860 : tg σ856 v1 = 1 := kp_tg hk858 wo_X11_sentence hg849 (by decide)
                                                                        have hg861 : tg σ856 v2 = 10 := kp_tg hk858 wo_X11_sentence hg850 (by decide)
                                                                        have hg862 : tg σ856 v3 = 62 := kp_tg hk858 wo_X11_sentence hg851 (by decide)
                                                                        have hln863 : σ856 v3 1 0 = 1 := len_kp hk858 hg851 (by decide) (by decide) hln852
                                                                        refine z_icmp_eq (pc := 1230) (tgt := 1335) K hr841 hr854 dL_law_1230 (by decide) (fun hc864 => ?_) (fun hc864 => ?_)
                                                                        · have h := ite_t h hc864
                                                                          refine z_iinc (pc := 1335) (k := 4) (lv' := [(4, jI (v4 + 6)), (0, .ref b), (1, jR X v1), (2, jR X v2), (3, jR X v3)]) K dL_law_1335 hl rfl (by decide) (by first | (simp [jR_cat]; done) | (simp [jR_cat, show ((3 : Fin 4) : Nat) = 3 from rfl]; done)) (fun ls hl => ?_)
                                                                          refine z_goto (pc := 1338) (tgt := 23) K dL_law_1338 (by decide) ?_
                                                                          obtain ⟨hr865, h⟩ := h
                                                                          exact ih σ856 cr845 v1 v2 v3 (v4 + 6) _ _ _ _ _ h hw857 hk859 hcr846 hg860 hg861 hg862 hln863 hr865 (lv_sub hl [1, 2, 3, 4, 0] rfl)
                                                                        · have h := ite_f h hc864
                                                                          refine z_iconst (pc := 1233) K dL_law_1233 ?_
                                                                          exact za_zret (pc := 1234) K hw857 hcr846 ⟨by decide, by decide⟩ ⟨hk859, h⟩ dL_law_1234
                                                                      · replace h := ite_f h hc839
                                                                        by_cases hc866 : (zand (sc v4) 63) = 33
                                                                        · replace h := ite_t h hc866
                                                                          refine lv_tableIn (pc := 40) (tgt := 1235) K.x K.b dL_law_40 (by rw [rng_ofInt hrs4, hc866]; decide) (by rw [rng_ofInt hrs4, hc866]; decide) (off := 1195) (by rw [rng_ofInt hrs4, hc866]; rfl) (by decide) ?_
                                                                          refine z_aload_n (pc := 1235) K dL_law_1235 rfl (lv_at hl 1 rfl) ?_
                                                                          refine lv_aload_n (pc := 1236) K.x K.b dL_law_1236 rfl (lv_at hl 0 rfl) ?_
                                                                          refine lv_iload (pc := 1237) K.x K.b dL_law_1237 (lv_at hl 4 rfl) ?_
                                                                          refine z_iconst (pc := 1239) K dL_law_1239 ?_
                                                                          refine z_iadd (pc := 1240) K dL_law_1240 ?_
                                                                          obtain ⟨hj867, h⟩ := h
                                                                          refine z_sld (pc := 1241) K hw hX hj867 dL_law_1241 ?_
                                                                          refine zr_i (pc := 1242) (maxL := 4) K hw (met_X1_said X l σ v1 (sc (v4 + 1)) htv1 (hX.r hj867) _ h) (i_V (n := 1) (t := 1) (As := [jI (sc (v4 + 1))]) K hw (ob htv1) zq1 (by decide) q1325 q1326 q1327 (sg_of K q1328) rfl rfl dL_law_1242) (locw K q1328 q90) ⟨by decide, by decide⟩ hl.1 dL_law_1242 (Nat.le_of_ble_eq_true rfl) (cr_le1 hcr) (fun r868 _ _ hr869 h hw872 => ?_)
                                                                          refine z_aload_n (pc := 1245) K dL_law_1245 rfl (lv_at hl 2 rfl) ?_
                                                                          refine lv_aload_n (pc := 1246) K.x K.b dL_law_1246 rfl (lv_at hl 0 rfl) ?_
                                                                          refine lv_iload (pc := 1247) K.x K.b dL_law_1247 (lv_at hl 4 rfl) ?_
                                                                          refine z_iconst (pc := 1249) K dL_law_1249 ?_
                                                                          refine z_iadd (pc := 1250) K dL_law_1250 ?_
                                                                          obtain ⟨hj873, h⟩ := h
                                                                          refine z_sld (pc := 1251) K hw872 hX hj873 dL_law_1251 ?_
                                                                          refine zc_i (pc := 1252) (maxL := 4) K hw872 (met_X11_said X l σ v2 (sc (v4 + 1)) htv2 (hX.r hj873) _ h) (i_V (n := 1) (t := 10) (As := [jI (sc (v4 + 1))]) K hw872 (ob htv2) zq10 (by decide) q2000 q2001 q2002 (sg_of K q2003) rfl rfl dL_law_1252) (locw K q2003 q102) ⟨by decide, by decide⟩ hl.1 dL_law_1252 (Nat.le_of_ble_eq_true rfl) (cr_le1 hcr) (fun r874 σ877 _ _ hr875 hq876 hw878 => ?_)
                                                                          obtain ⟨hk879, h⟩ := hq876
                                                                          have h := h hk879
                                                                          have hk880 := kp_trans wo_L_law hk hk879 (fun _ q => q) (by decide)
                                                                          have hg881 : tg σ877 v1 = 1 := kp_tg hk879 wo_X11_said htv1 (by decide)
                                                                          have hg882 : tg σ877 v2 = 10 := kp_tg hk879 wo_X11_said htv2 (by decide)
                                                                          have hg883 : tg σ877 v3 = 62 := kp_tg hk879 wo_X11_said htv3 (by decide)
                                                                          have hln884 : σ877 v3 1 0 = 1 := len_kp hk879 htv3 (by decide) (by decide) hlnv3
                                                                          refine z_icmp_eq (pc := 1255) (tgt := 1335) K hr869 hr875 dL_law_1255 (by decide) (fun hc885 => ?_) (fun hc885 => ?_)
                                                                          · have h := ite_t h hc885
                                                                            refine z_iinc (pc := 1335) (k := 4) (lv' := [(4, jI (v4 + 6)), (0, .ref b), (1, jR X v1), (2, jR X v2), (3, jR X v3)]) K dL_law_1335 hl rfl (by decide) (by first | (simp [jR_cat]; done) | (simp [jR_cat, show ((3 : Fin 4) : Nat) = 3 from rfl]; done)) (fun ls hl => ?_)
                                                                            refine z_goto (pc := 1338) (tgt := 23) K dL_law_1338 (by decide) ?_
                                                                            obtain ⟨hr886, h⟩ := h
                                                                            exact ih σ877 cr v1 v2 v3 (v4 + 6) _ _ _ _ _ h hw878 hk880 hcr hg881 hg882 hg883 hln884 hr886 (lv_sub hl [1, 2, 3, 4, 0] rfl)
                                                                          · have h := ite_f h hc885
                                                                            refine z_iconst (pc := 1258) K dL_law_1258 ?_
                                                                            exact za_zret (pc := 1259) K hw878 hcr ⟨by decide, by decide⟩ ⟨hk880, h⟩ dL_law_1259
                                                                        · replace h := ite_f h hc866
                                                                          by_cases hc887 : (zand (sc v4) 63) = 34
                                                                          · replace h := ite_t h hc887
                                                                            refine lv_tableIn (pc := 40) (tgt := 1260) K.x K.b dL_law_40 (by rw [rng_ofInt hrs4, hc887]; decide) (by rw [rng_ofInt hrs4, hc887]; decide) (off := 1220) (by rw [rng_ofInt hrs4, hc887]; rfl) (by decide) ?_
                                                                            refine z_aload_n (pc := 1260) K dL_law_1260 rfl (lv_at hl 1 rfl) ?_
                                                                            refine lv_aload_n (pc := 1261) K.x K.b dL_law_1261 rfl (lv_at hl 0 rfl) ?_
                                                                            refine lv_iload (pc := 1262) K.x K.b dL_law_1262 (lv_at hl 4 rfl) ?_
                                                                            refine z_iconst (pc := 1264) K dL_law_1264 ?_
                                                                            refine z_iadd (pc := 1265) K dL_law_1265 ?_
                                                                            obtain ⟨hj888, h⟩ := h
                                                                            refine z_sld (pc := 1266) K hw hX hj888 dL_law_1266 ?_
                                                                            refine zac_z (pc := 1267) (maxL := 2) K hw (met_X1_image X l σ v1 (sc (v4 + 1)) htv1 (hX.r hj888) cr hcr.2.2 _ h) (i_V (n := 1) (t := 1) (As := [jI (sc (v4 + 1))]) K hw (ob htv1) zq1 (by decide) q1352 q1353 q1354 (sg_of K q1355) rfl rfl dL_law_1267) (locw K q1355 q90) ⟨by decide, by decide⟩ hl.1 dL_law_1267 (by decide) hcr (Int.toNat_of_nonneg hcr.2.2) ⟨by decide, by decide⟩ (fun r889 σ892 _ _ _ _ cr894 hr890 hq891 hw893 hcr895 => ?_)
                                                                            obtain ⟨hk896, h⟩ := hq891
                                                                            have h := h hk896
                                                                            have hk897 := kp_trans wo_L_law hk hk896 (fun _ q => q) (by decide)
                                                                            have hg898 : tg σ892 v1 = 1 := kp_tg hk896 wo_X1_image htv1 (by decide)
                                                                            have hg899 : tg σ892 v2 = 10 := kp_tg hk896 wo_X1_image htv2 (by decide)
                                                                            have hg900 : tg σ892 v3 = 62 := kp_tg hk896 wo_X1_image htv3 (by decide)
                                                                            have hln901 : σ892 v3 1 0 = 1 := len_kp hk896 htv3 (by decide) (by decide) hlnv3
                                                                            refine z_aload_n (pc := 1270) K dL_law_1270 rfl (lv_at hl 2 rfl) ?_
                                                                            refine lv_aload_n (pc := 1271) K.x K.b dL_law_1271 rfl (lv_at hl 0 rfl) ?_
                                                                            refine lv_iload (pc := 1272) K.x K.b dL_law_1272 (lv_at hl 4 rfl) ?_
                                                                            refine z_iconst (pc := 1274) K dL_law_1274 ?_
                                                                            refine z_iadd (pc := 1275) K dL_law_1275 ?_
                                                                            obtain ⟨hj902, h⟩ := h
                                                                            refine z_sld (pc := 1276) K hw893 hX hj902 dL_law_1276 ?_
                                                                            refine zc_z (pc := 1277) (maxL := 3) K hw893 (met_X11_image X l σ892 v2 (sc (v4 + 1)) hg899 (hX.r hj902) _ h) (i_V (n := 1) (t := 10) (As := [jI (sc (v4 + 1))]) K hw893 (ob hg899) zq10 (by decide) q2012 q2013 q2014 (sg_of K q2015) rfl rfl dL_law_1277) (locw K q2015 q102) ⟨by decide, by decide⟩ hl.1 dL_law_1277 (Nat.le_of_ble_eq_true rfl) (cr_le1 hcr895) (fun r903 σ906 _ _ hr904 hq905 hw907 => ?_)
                                                                            obtain ⟨hk908, h⟩ := hq905
                                                                            have h := h hk908
                                                                            have hk909 := kp_trans wo_L_law hk897 hk908 (fun _ q => q) (by decide)
                                                                            have hg910 : tg σ906 v1 = 1 := kp_tg hk908 wo_X11_image hg898 (by decide)
                                                                            have hg911 : tg σ906 v2 = 10 := kp_tg hk908 wo_X11_image hg899 (by decide)
                                                                            have hg912 : tg σ906 v3 = 62 := kp_tg hk908 wo_X11_image hg900 (by decide)
                                                                            have hln913 : σ906 v3 1 0 = 1 := len_kp hk908 hg900 (by decide) (by decide) hln901
                                                                            refine z_icmp_eq (pc := 1280) (tgt := 1335) K (b01r hr890) (b01r hr904) dL_law_1280 (by decide) (fun hc914 => ?_) (fun hc914 => ?_)
                                                                            · have h := ite_t h hc914
                                                                              refine z_iinc (pc := 1335) (k := 4) (lv' := [(4, jI (v4 + 6)), (0, .ref b), (1, jR X v1), (2, jR X v2), (3, jR X v3)]) K dL_law_1335 hl rfl (by decide) (by first | (simp [jR_cat]; done) | (simp [jR_cat, show ((3 : Fin 4) : Nat) = 3 from rfl]; done)) (fun ls hl => ?_)
                                                                              refine z_goto (pc := 1338) (tgt := 23) K dL_law_1338 (by decide) ?_
                                                                              obtain ⟨hr915, h⟩ := h
                                                                              exact ih σ906 cr894 v1 v2 v3 (v4 + 6) _ _ _ _ _ h hw907 hk909 hcr895 hg910 hg911 hg912 hln913 hr915 (lv_sub hl [1, 2, 3, 4, 0] rfl)
                                                                            · have h := ite_f h hc914
                                                                              refine z_iconst (pc := 1283) K dL_law_1283 ?_
                                                                              exact za_zret (pc := 1284) K hw907 hcr895 ⟨by decide, by decide⟩ ⟨hk909, h⟩ dL_law_1284
                                                                          · replace h := ite_f h hc887
                                                                            by_cases hc916 : (zand (sc v4) 63) = 35
                                                                            · replace h := ite_t h hc916
                                                                              refine lv_tableIn (pc := 40) (tgt := 1285) K.x K.b dL_law_40 (by rw [rng_ofInt hrs4, hc916]; decide) (by rw [rng_ofInt hrs4, hc916]; decide) (off := 1245) (by rw [rng_ofInt hrs4, hc916]; rfl) (by decide) ?_
                                                                              refine z_aload_n (pc := 1285) K dL_law_1285 rfl (lv_at hl 1 rfl) ?_
                                                                              refine lv_aload_n (pc := 1286) K.x K.b dL_law_1286 rfl (lv_at hl 0 rfl) ?_
                                                                              refine lv_iload (pc := 1287) K.x K.b dL_law_1287 (lv_at hl 4 rfl) ?_
                                                                              refine z_iconst (pc := 1289) K dL_law_1289 ?_
                                                                              refine z_iadd (pc := 1290) K dL_law_1290 ?_
                                                                              obtain ⟨hj917, h⟩ := h
                                                                              refine z_sld (pc := 1291) K hw hX hj917 dL_law_1291 ?_
                                                                              refine zc_z (pc := 1292) (maxL := 2) K hw (met_X1_restore X l σ v1 (sc (v4 + 1)) htv1 (hX.r hj917) _ h) (i_V (n := 1) (t := 1) (As := [jI (sc (v4 + 1))]) K hw (ob htv1) zq1 (by decide) q1356 q1357 q1358 (sg_of K q1359) rfl rfl dL_law_1292) (locw K q1359 q90) ⟨by decide, by decide⟩ hl.1 dL_law_1292 (Nat.le_of_ble_eq_true rfl) (cr_le1 hcr) (fun r918 σ921 _ _ hr919 hq920 hw922 => ?_)
                                                                              obtain ⟨hk923, h⟩ := hq920
                                                                              have h := h hk923
                                                                              have hk924 := kp_trans wo_L_law hk hk923 (fun _ q => q) (by decide)
                                                                              have hg925 : tg σ921 v1 = 1 := kp_tg hk923 wo_X1_restore htv1 (by decide)
                                                                              have hg926 : tg σ921 v2 = 10 := kp_tg hk923 wo_X1_restore htv2 (by decide)
                                                                              have hg927 : tg σ921 v3 = 62 := kp_tg hk923 wo_X1_restore htv3 (by decide)
                                                                              have hln928 : σ921 v3 1 0 = 1 := len_kp hk923 htv3 (by decide) (by decide) hlnv3
                                                                              refine z_aload_n (pc := 1295) K dL_law_1295 rfl (lv_at hl 2 rfl) ?_
                                                                              refine lv_aload_n (pc := 1296) K.x K.b dL_law_1296 rfl (lv_at hl 0 rfl) ?_
                                                                              refine lv_iload (pc := 1297) K.x K.b dL_law_1297 (lv_at hl 4 rfl) ?_
                                                                              refine z_iconst (pc := 1299) K dL_law_1299 ?_
                                                                              refine z_iadd (pc := 1300) K dL_law_1300 ?_
                                                                              obtain ⟨hj929, h⟩ := h
                                                                              refine z_sld (pc := 1301) K hw922 hX hj929 dL_law_1301 ?_
                                                                              refine zc_z (pc := 1302) (maxL := 3) K hw922 (met_X11_restore X l σ921 v2 (sc (v4 + 1)) hg926 (hX.r hj929) _ h) (i_V (n := 1) (t := 10) (As := [jI (sc (v4 + 1))]) K hw922 (ob hg926) zq10 (by decide) q2016 q2017 q2018 (sg_of K q2019) rfl rfl dL_law_1302) (locw K q2019 q102) ⟨by decide, by decide⟩ hl.1 dL_law_1302 (Nat.le_of_ble_eq_true rfl) (cr_le1 hcr) (fun r930 σ933 _ _ hr931 hq932 hw934 => ?_)
                                                                              obtain ⟨hk935, h⟩ := hq932
                                                                              have h := h hk935
                                                                              have hk936 := kp_trans wo_L_law hk924 hk935 (fun _ q => q) (by decide)
                                                                              have hg937 : tg σ933 v1 = 1 := kp_tg hk935 wo_X11_restore hg925 (by decide)
                                                                              have hg938 : tg σ933 v2 = 10 := kp_tg hk935 wo_X11_restore hg926 (by decide)
                                                                              have hg939 : tg σ933 v3 = 62 := kp_tg hk935 wo_X11_restore hg927 (by decide)
                                                                              have hln940 : σ933 v3 1 0 = 1 := len_kp hk935 hg927 (by decide) (by decide) hln928
                                                                              refine z_icmp_eq (pc := 1305) (tgt := 1335) K (b01r hr919) (b01r hr931) dL_law_1305 (by decide) (fun hc941 => ?_) (fun hc941 => ?_)
                                                                              · have h := ite_t h hc941
                                                                                refine z_iinc (pc := 1335) (k := 4) (lv' := [(4, jI (v4 + 6)), (0, .ref b), (1, jR X v1), (2, jR X v2), (3, jR X v3)]) K dL_law_1335 hl rfl (by decide) (by first | (simp [jR_cat]; done) | (simp [jR_cat, show ((3 : Fin 4) : Nat) = 3 from rfl]; done)) (fun ls hl => ?_)
                                                                                refine z_goto (pc := 1338) (tgt := 23) K dL_law_1338 (by decide) ?_
                                                                                obtain ⟨hr942, h⟩ := h
                                                                                exact ih σ933 cr v1 v2 v3 (v4 + 6) _ _ _ _ _ h hw934 hk936 hcr hg937 hg938 hg939 hln940 hr942 (lv_sub hl [1, 2, 3, 4, 0] rfl)
                                                                              · have h := ite_f h hc941
                                                                                refine z_iconst (pc := 1308) K dL_law_1308 ?_
                                                                                exact za_zret (pc := 1309) K hw934 hcr ⟨by decide, by decide⟩ ⟨hk936, h⟩ dL_law_1309
                                                                            · replace h := ite_f h hc916
                                                                              by_cases hc943 : (zand (sc v4) 63) = 36
                                                                              · replace h := ite_t h hc943
                                                                                refine lv_tableIn (pc := 40) (tgt := 1310) K.x K.b dL_law_40 (by rw [rng_ofInt hrs4, hc943]; decide) (by rw [rng_ofInt hrs4, hc943]; decide) (off := 1270) (by rw [rng_ofInt hrs4, hc943]; rfl) (by decide) ?_
                                                                                refine z_aload_n (pc := 1310) K dL_law_1310 rfl (lv_at hl 1 rfl) ?_
                                                                                refine lv_aload_n (pc := 1311) K.x K.b dL_law_1311 rfl (lv_at hl 0 rfl) ?_
                                                                                refine lv_iload (pc := 1312) K.x K.b dL_law_1312 (lv_at hl 4 rfl) ?_
                                                                                refine z_iconst (pc := 1314) K dL_law_1314 ?_
                                                                                refine z_iadd (pc := 1315) K dL_law_1315 ?_
                                                                                obtain ⟨hj944, h⟩ := h
                                                                                refine z_sld (pc := 1316) K hw hX hj944 dL_law_1316 ?_
                                                                                refine zr_i (pc := 1317) (maxL := 2) K hw (met_X1_count X l σ v1 (sc (v4 + 1)) htv1 (hX.r hj944) _ h) (i_V (n := 1) (t := 1) (As := [jI (sc (v4 + 1))]) K hw (ob htv1) zq1 (by decide) q1360 q1361 q1362 (sg_of K q1363) rfl rfl dL_law_1317) (locw K q1363 q90) ⟨by decide, by decide⟩ hl.1 dL_law_1317 (Nat.le_of_ble_eq_true rfl) (cr_le1 hcr) (fun r945 _ _ hr946 h hw949 => ?_)
                                                                                refine z_aload_n (pc := 1320) K dL_law_1320 rfl (lv_at hl 2 rfl) ?_
                                                                                refine lv_aload_n (pc := 1321) K.x K.b dL_law_1321 rfl (lv_at hl 0 rfl) ?_
                                                                                refine lv_iload (pc := 1322) K.x K.b dL_law_1322 (lv_at hl 4 rfl) ?_
                                                                                refine z_iconst (pc := 1324) K dL_law_1324 ?_
                                                                                refine z_iadd (pc := 1325) K dL_law_1325 ?_
                                                                                obtain ⟨hj950, h⟩ := h
                                                                                refine z_sld (pc := 1326) K hw949 hX hj950 dL_law_1326 ?_
                                                                                refine zc_i (pc := 1327) (maxL := 2) K hw949 (met_X11_count X l σ v2 (sc (v4 + 1)) htv2 (hX.r hj950) _ h) (i_V (n := 1) (t := 10) (As := [jI (sc (v4 + 1))]) K hw949 (ob htv2) zq10 (by decide) q2020 q2021 q2022 (sg_of K q2023) rfl rfl dL_law_1327) (locw K q2023 q102) ⟨by decide, by decide⟩ hl.1 dL_law_1327 (Nat.le_of_ble_eq_true rfl) (cr_le1 hcr) (fun r951 σ954 _ _ hr952 hq953 hw955 => ?_)
                                                                                obtain ⟨hk956, h⟩ := hq953
                                                                                have h := h hk956
                                                                                have hk957 := kp_trans wo_L_law hk hk956 (fun _ q => q) (by decide)
                                                                                have hg958 : tg σ954 v1 = 1 := kp_tg hk956 wo_X11_count htv1 (by decide)
                                                                                have hg959 : tg σ954 v2 = 10 := kp_tg hk956 wo_X11_count htv2 (by decide)
                                                                                have hg960 : tg σ954 v3 = 62 := kp_tg hk956 wo_X11_count htv3 (by decide)
                                                                                have hln961 : σ954 v3 1 0 = 1 := len_kp hk956 htv3 (by decide) (by decide) hlnv3
                                                                                refine z_icmp_eq (pc := 1330) (tgt := 1335) K hr946 hr952 dL_law_1330 (by decide) (fun hc962 => ?_) (fun hc962 => ?_)
                                                                                · have h := ite_t h hc962
                                                                                  refine z_iinc (pc := 1335) (k := 4) (lv' := [(4, jI (v4 + 6)), (0, .ref b), (1, jR X v1), (2, jR X v2), (3, jR X v3)]) K dL_law_1335 hl rfl (by decide) (by first | (simp [jR_cat]; done) | (simp [jR_cat, show ((3 : Fin 4) : Nat) = 3 from rfl]; done)) (fun ls hl => ?_)
                                                                                  refine z_goto (pc := 1338) (tgt := 23) K dL_law_1338 (by decide) ?_
                                                                                  obtain ⟨hr963, h⟩ := h
                                                                                  exact ih σ954 cr v1 v2 v3 (v4 + 6) _ _ _ _ _ h hw955 hk957 hcr hg958 hg959 hg960 hln961 hr963 (lv_sub hl [1, 2, 3, 4, 0] rfl)
                                                                                · have h := ite_f h hc962
                                                                                  refine z_iconst (pc := 1333) K dL_law_1333 ?_
                                                                                  exact za_zret (pc := 1334) K hw955 hcr ⟨by decide, by decide⟩ ⟨hk957, h⟩ dL_law_1334
                                                                              · replace h := ite_f h hc943
                                                                                refine lv_tableOut (pc := 40) (tgt := 1335) K.x K.b dL_law_40 (by clear h; rw [rng_ofInt hrs4]; omega) (by decide) ?_
                                                                                refine z_iinc (pc := 1335) (k := 4) (lv' := [(4, jI (v4 + 6)), (0, .ref b), (1, jR X v1), (2, jR X v2), (3, jR X v3)]) K dL_law_1335 hl rfl (by decide) (by first | (simp [jR_cat]; done) | (simp [jR_cat, show ((3 : Fin 4) : Nat) = 3 from rfl]; done)) (fun ls hl => ?_)
                                                                                refine z_goto (pc := 1338) (tgt := 23) K dL_law_1338 (by decide) ?_
                                                                                obtain ⟨hr964, h⟩ := h
                                                                                exact ih σ cr v1 v2 v3 (v4 + 6) _ _ _ _ _ h hw hk hcr htv1 htv2 htv3 hlnv3 hr964 (lv_sub hl [1, 2, 3, 4, 0] rfl)
    · have h := ite_f h hc1
      refine z_iconst (pc := 1341) K dL_law_1341 ?_
      exact za_zret (pc := 1342) K hw hcr ⟨by decide, by decide⟩ ⟨hk, h⟩ dL_law_1342
set_option maxHeartbeats 8000000 in
theorem met_L_law {X : Cxt} {p : Program} {l : Launch} {e : Env} {s : State} {m : MethodId} {args : Array Value} {below : List Frame} {meth : Method} {c : Code} (sc : Int → Int) (sn : Int) (Q : Int → St → Int → Prop) (σ : St) (K : MCx X p s m args meth c code 7 "CombTableLaw" (some .boolean)) (b : Nat) (hX : ScrOk X s b sc sn) (hfl : l.flags = pinnedFlags ++ [noTraceFlag]) (cr : Int) (ls : Array Slot) (h : wp_L_law sc sn σ cr Q) (hw : Wc X σ s.heap s.heap []) (hcr : Cr 601024 0 0 cr) (hl : lv_has ls 7 [(0, .ref b)]) : W p l e room_1 s m args below meth c s.heap [] 0 0 (MQA X below 601024 (qZA (fun r σ' cr => Kp ws_L_law σ σ' ∧ Q r σ' cr)) (fun _ _ _ => False) args s) (F0 m 0 ls []) := by
  have hk : Kp ws_L_law σ σ := kp_rf σ
  obtain ⟨hle1, h⟩ := h
  refine z_new (pc := 0) (t := 1) K hw (by decide) zq1 q121 q122 q90 (cr_fit1 hcr (u := 38) ⟨by decide, by decide⟩ hle1) dL_law_0 (fun _ hw2 => ?_)
  have hcr3 := cr_new hcr (n := 38) (u := 38) ⟨by decide, by decide⟩ hle1
  obtain ⟨σ4, e5⟩ : ∃ z, z = nw σ 1 := ⟨_, rfl⟩
  have h := h σ4 e5
  have hke6 : Ke σ σ4 := ke_nw hw e5
  have hz7 : tg σ (nx σ) = 0 := z0_kp hk wo_L_law hw.1.fresh
  have hw2 := wc_e e5 hw2
  have hk8 := kp_ke hk wo_L_law hke6
  have hg9 : tg σ4 (nx σ) = (-1) := tg_nw e5
  refine lv_dup (pc := 3) K.x K.b dL_law_3 (jR_cat _ _) ?_
  refine zac_v (pc := 4) (maxL := 1) K hw2 (met_X1_init X l σ4 (nx σ) hg9 (cr - 38) hcr3.2.2 _ h) (i_I (n := 0) (As := []) K (hw2.1.pos (by rw [hg9]; decide)).1 (by decide) rfl q123 q124 q125 rfl rfl dL_law_4) (locw K q125 q90) ⟨by decide, by decide⟩ hl.1 dL_law_4 (by simp [jR_cat, jI_cat, jL_cat]) hcr3 (Int.toNat_of_nonneg hcr3.2.2) ⟨by decide, by decide⟩ (fun σ13 _ _ _ _ cr15 hq12 hw14 hcr16 => ?_)
  obtain ⟨hk17, hg18, h⟩ := hq12
  have h := h hk17 hg18
  have hk19 := kp_ki hk8 wo_L_law hk17 hz7
  have hg20 : tg σ13 (nx σ) = 1 := hg18
  refine z_astore_n (pc := 7) (lv' := [(1, jR X (nx σ)), (0, .ref b)]) K dL_law_7 rfl hl (by decide) rfl (fun ls hl => ?_)
  obtain ⟨hle21, h⟩ := h
  refine z_new (pc := 8) (t := 10) K hw14 (by decide) zq10 q1405 q1406 q102 (cr_fit1 hcr16 (u := 58) ⟨by decide, by decide⟩ hle21) dL_law_8 (fun _ hw22 => ?_)
  have hcr23 := cr_new hcr16 (n := 58) (u := 58) ⟨by decide, by decide⟩ hle21
  obtain ⟨σ24, e25⟩ : ∃ z, z = nw σ13 10 := ⟨_, rfl⟩
  have h := h σ24 e25
  have hke26 : Ke σ13 σ24 := ke_nw hw14 e25
  have hz27 : tg σ (nx σ13) = 0 := z0_kp hk19 wo_L_law hw14.1.fresh
  have hw22 := wc_e e25 hw22
  have hk28 := kp_ke hk19 wo_L_law hke26
  have hg29 : tg σ24 (nx σ) = 1 := ke_tg hke26 hg20 (by decide)
  have hg30 : tg σ24 (nx σ13) = (-10) := tg_nw e25
  refine lv_dup (pc := 11) K.x K.b dL_law_11 (jR_cat _ _) ?_
  refine zac_v (pc := 12) (maxL := 1) K hw22 (met_X11_init X l σ24 (nx σ13) hg30 (cr15 - 58) hcr23.2.2 _ h) (i_I (n := 0) (As := []) K (hw22.1.pos (by rw [hg30]; decide)).1 (by decide) rfl q1407 q1408 q1409 rfl rfl dL_law_12) (locw K q1409 q102) ⟨by decide, by decide⟩ hl.1 dL_law_12 (by simp [jR_cat, jI_cat, jL_cat]) hcr23 (Int.toNat_of_nonneg hcr23.2.2) ⟨by decide, by decide⟩ (fun σ34 _ _ _ _ cr36 hq33 hw35 hcr37 => ?_)
  obtain ⟨hk38, hg39, h⟩ := hq33
  have h := h hk38 hg39
  have hk40 := kp_ki hk28 wo_L_law hk38 hz27
  have hg41 : tg σ34 (nx σ) = 1 := ki_tg hk38 hg29 (by decide) hg30 (by decide)
  have hg42 : tg σ34 (nx σ13) = 10 := hg39
  refine z_astore_n (pc := 15) (lv' := [(2, jR X (nx σ13)), (1, jR X (nx σ)), (0, .ref b)]) K dL_law_15 rfl hl (by decide) (by first | (simp [jR_cat]; done) | (simp [jR_cat, show ((3 : Fin 4) : Nat) = 3 from rfl]; done)) (fun ls hl => ?_)
  refine z_iconst (pc := 16) K dL_law_16 ?_
  obtain ⟨hle43, h⟩ := h
  refine z_newa (pc := 17) (atype := .long) (κ := 2) (N' := 1) K hw35 (by decide) rfl (fun _ => rfl) q1586 ⟨by decide, by decide⟩ rfl (by decide) (cr_fit1 hcr37 (u := 1) ⟨by decide, by decide⟩ hle43) dL_law_17 (fun _ hw44 => ?_)
  have hcr45 := cr_new hcr37 (n := 1) (u := 1) ⟨by decide, by decide⟩ hle43
  obtain ⟨σ46, e47⟩ : ∃ z, z = na σ34 2 1 := ⟨_, rfl⟩
  have h := h σ46 e47
  have hke48 : Ke σ34 σ46 := ke_na hw35 e47
  have hz49 : tg σ (nx σ34) = 0 := z0_kp hk40 wo_L_law hw35.1.fresh
  have hw44 := wc_e e47 hw44
  have hk50 := kp_ke hk40 wo_L_law hke48
  have hg51 : tg σ46 (nx σ) = 1 := ke_tg hke48 hg41 (by decide)
  have hg52 : tg σ46 (nx σ13) = 10 := ke_tg hke48 hg42 (by decide)
  have hg53 : tg σ46 (nx σ34) = 62 := tg_na e47
  have hln54 : σ46 (nx σ34) 1 0 = 1 := len_na e47
  refine z_astore_n (pc := 19) (lv' := [(3, jR X (nx σ34)), (2, jR X (nx σ13)), (1, jR X (nx σ)), (0, .ref b)]) K dL_law_19 rfl hl (by decide) (by first | (simp [jR_cat]; done) | (simp [jR_cat, show ((3 : Fin 4) : Nat) = 3 from rfl]; done)) (fun ls hl => ?_)
  refine z_iconst (pc := 20) K dL_law_20 ?_
  refine lv_istore (pc := 21) (lv' := [(4, jI 0), (3, jR X (nx σ34)), (2, jR X (nx σ13)), (1, jR X (nx σ)), (0, .ref b)]) K.x K.b dL_law_21 hl (by decide) (by first | (simp [jR_cat]; done) | (simp [jR_cat, show ((3 : Fin 4) : Nat) = 3 from rfl]; done)) (fun ls hl => ?_)
  obtain ⟨nf55, h⟩ := h
  exact wk_L_law_23 sc sn Q σ K b hX hfl nf55 σ46 (cr36 - 1) (nx σ) (nx σ13) (nx σ34) 0 _ _ _ _ _ h hw44 hk50 hcr45 hg51 hg52 hg53 hln54 ⟨by decide, by decide⟩ (lv_sub hl [4, 3, 2, 1, 0] rfl)
