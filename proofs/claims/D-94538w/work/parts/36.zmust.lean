/-! must, with its credit as a whole number -/
theorem met_X1_mustA (X : Cxt) (l : Launch) (hfl : l.flags = pinnedFlags ++ [noTraceFlag]) (σ : St) (x0 : Int) (hx0 : 0 ≤ x0 ∧ x0 ≤ 1) (cr : Int) (h0 : 0 ≤ cr) (Q : St → Int → Prop) (E : Int → St → Int → Prop) (h : wp_X1_must σ x0 cr Q E) :
    MetA X l yX1_must (ws_ yX1_must cX1_must 1 none) 6 cr.toNat (ZP X σ [jI x0]) (qVA (fun σ' cr => Kp ws_X1_must σ σ' ∧ Q σ' cr)) (fun x σ' cr => tg σ' x = 18 ∧ Kp ws_X1_must σ σ' ∧ E x σ' cr) :=
  met_X1_must X l hfl σ x0 hx0 cr.toNat Q E (by rw [Int.toNat_of_nonneg h0]; exact h)
