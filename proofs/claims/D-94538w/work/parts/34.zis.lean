/-! a condition's method: the rows, with room for 64 -/
set_option maxRecDepth 100000
section ZF4
variable {X : Cxt} {p : Program} {l : Launch} {e : Env} {R : Room} {s : State} {m : MethodId} {args : Array Value} {below : List Frame} {meth : Method} {c : Code} {H : Heap} {locs : List Loc} {cells slots : Nat} {Q : State → Prop}
variable {cc : ByteArray} {nL : Nat} {own : String} {ret : Option FieldType} {pc : Nat} {ls : Array Slot} {rest : List Value} {σ : St} {a z : Int} {t : Nat} {C : String} {T : u_T} {N : Nat} {ref : String} {index : Nat}
theorem z_is1b {z x t tag : Int} {tn D L : Nat} {R1 : St → Int → Int → Int → (Int → Prop) → Prop} {y : MethodName} {cb1 : ByteArray} {C : String} {T : u_T} {N : Nat} {Q' : Int → Prop} (K : MCx X p s m args meth c cc nL own ret) (hw : Wc X σ s.heap H locs) (hz : tg σ z = tag) (htn : tag = (tn : Int)) (h0 : 0 < tn ∧ tn ≤ 18) (hq : zcl[tn - 1]? = some (C, T, N)) (hx : tg σ x = 3) (ht : rng t)
    (q1 : Cond.methodLink own index yIs ∈ lw_all) (q2 : Cond.instanceMethod y ∈ lw_all) (q3 : Cond.selects C yIs y ∈ lw_all) (q4 : Cond.code y cb1 L (some .boolean) ∈ lw_all) (q5 : Cond.initialized y.cls ∈ lw_all) (hm : Is1 X l D tag R1 y cb1 L) (hL : L ≤ 20)
    (hfr : D + 1 ≤ R.frames ∧ 39 + 40 * D ≤ R.locals) (hl : ls.size = nL) (hd : decode cc pc = .ok (.invokevirtual index, 3)) (hst : rest.length ≤ 4) (hc : cells ≤ R.cells ∧ slots ≤ R.slots) (h : R1 σ z x t Q')
    (kN : ∀ (z : Int) (H1 : Heap) (locs1 : List Loc), (0 ≤ z ∧ z ≤ 1) → Q' z → Wc X σ s.heap H1 locs1 → W p l e R s m args below meth c H1 locs1 cells slots Q (F0 m (pc + 3) ls (jI z :: rest))) :
    W p l e R s m args below meth c H locs cells slots Q (F0 m pc ls (jI t :: jR X x :: jR X z :: rest)) := by
  have ho : Ob σ z tn := ⟨h0.1, h0.2, Or.inl (hz.trans htn)⟩
  exact zr_z (maxL := L) K hw (hm σ z x t hz hx ht Q' h) (i_VU (n := 2) (x := yIs) (owner := "CombTable$Cond") (As := [jR X x, jI t]) K hw ho hq (by decide) (by decide) q1 q1331 q2 q3 (dcl_abs K q1330) rfl rfl hd) (locw K q4 q5) ⟨hfr.1, by omega⟩ hl hd hst hc kN
theorem z_is5b {z x t : Int} {D : Nat} {R0 : Nat → St → Int → Int → Int → (Int → Prop) → Prop} {Q' : Int → Prop} (K : MCx X p s m args meth c cc nL own ret) (hw : Wc X σ s.heap H locs) (hz : 13 ≤ tg σ z ∧ tg σ z ≤ 17) (hx : tg σ x = 3) (ht : rng t)
    (q1 : Cond.methodLink own index yIs ∈ lw_all) (hm : Is1 X l D 17 (R0 0) yX20_is cX20_is 3 ∧ Is1 X l D 16 (R0 1) yX19_is cX19_is 3 ∧ Is1 X l D 15 (R0 2) yX18_is cX18_is 4 ∧ Is1 X l D 14 (R0 3) yX17_is cX17_is 3 ∧ Is1 X l D 13 (R0 4) yX16_is cX16_is 3)
    (hfr : D + 1 ≤ R.frames ∧ 39 + 40 * D ≤ R.locals) (hl : ls.size = nL) (hd : decode cc pc = .ok (.invokevirtual index, 3)) (hst : rest.length ≤ 4) (hc : cells ≤ R.cells ∧ slots ≤ R.slots) (h : is5 R0 σ z x t Q')
    (kN : ∀ (z : Int) (H1 : Heap) (locs1 : List Loc), (0 ≤ z ∧ z ≤ 1) → Q' z → Wc X σ s.heap H1 locs1 → W p l e R s m args below meth c H1 locs1 cells slots Q (F0 m (pc + 3) ls (jI z :: rest))) :
    W p l e R s m args below meth c H locs cells slots Q (F0 m pc ls (jI t :: jR X x :: jR X z :: rest)) := by
  unfold is5 at h
  by_cases h1 : tg σ z = 17
  · rw [if_pos h1] at h
    exact z_is1b K hw h1 rfl (by decide) zq17 hx ht q1 q1333 q1332 q1334 q120 hm.1 (by decide) hfr hl hd hst hc h kN
  rw [if_neg h1] at h
  by_cases h2 : tg σ z = 16
  · rw [if_pos h2] at h
    exact z_is1b K hw h2 rfl (by decide) zq16 hx ht q1 q1336 q1348 q1337 q119 hm.2.1 (by decide) hfr hl hd hst hc h kN
  rw [if_neg h2] at h
  by_cases h3 : tg σ z = 15
  · rw [if_pos h3] at h
    exact z_is1b K hw h3 rfl (by decide) zq15 hx ht q1 q1339 q1349 q1340 q118 hm.2.2.1 (by decide) hfr hl hd hst hc h kN
  rw [if_neg h3] at h
  by_cases h4 : tg σ z = 14
  · rw [if_pos h4] at h
    exact z_is1b K hw h4 rfl (by decide) zq14 hx ht q1 q1342 q1350 q1343 q117 hm.2.2.2.1 (by decide) hfr hl hd hst hc h kN
  rw [if_neg h4] at h
  exact z_is1b K hw (show tg σ z = 13 by omega) rfl (by decide) zq13 hx ht q1 q1345 q1351 q1346 q116 hm.2.2.2.2 (by decide) hfr hl hd hst hc h kN
end ZF4
