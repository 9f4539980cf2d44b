/-! ROWS for the JDK's members that the machine has entries for: Math.max, Math.min, System.arraycopy -/
set_option maxRecDepth 100000
/-- the first n elements of one array, in the other -/
def cpy (σ : St) (a1 : Int) (k1 : Nat) (a2 : Int) (k2 : Nat) (n : Int) : St := fun a f j => if a = a2 ∧ f = k2 ∧ 0 ≤ j ∧ j < n then σ a1 k1 j else σ a f j
theorem cpy_off (σ : St) (a1 : Int) (k1 : Nat) (a2 : Int) (k2 : Nat) (n : Int) : Off σ (cpy σ a1 k1 a2 k2 n) a2 k2 := by
  intro a f h
  funext j
  exact if_neg (by omega)
section ZX
variable {X : Cxt} {p : Program} {l : Launch} {e : Env} {R : Room} {s : State} {m : MethodId} {args : Array Value} {below : List Frame} {meth : Method} {c : Code} {H : Heap} {locs : List Loc} {cells slots : Nat} {Q : State → Prop}
variable {cc : ByteArray} {nL : Nat} {own : String} {ret : Option FieldType} {pc : Nat} {ls : Array Slot} {rest : List Value} {σ : St}
theorem z_mmax {x y : Int} {index : Nat} (K : MCx X p s m args meth c cc nL own ret) (hx : rng x) (hy : rng y) (q1 : Cond.methodLink own index Lib.Math.max.name ∈ lw_all) (q2 : Cond.static Lib.Math.max.name ∈ lw_all) (q3 : Cond.initialized "java/lang/Math" ∈ lw_all) (q4 : Cond.code Lib.Math.max.name Lib.Math.max.code 2 (some .int) ∈ lw_all)
    (hf : 1 ≤ R.frames ∧ 21 ≤ R.locals) (hc : cells ≤ R.cells ∧ slots ≤ R.slots) (hl : ls.size = nL) (hst : rest.length ≤ 4) (hd : decode cc pc = .ok (.invokestatic index, 3))
    (k : W p l e R s m args below meth c H locs cells slots Q (F0 m (pc + 3) ls (jI (if x < y then y else x) :: rest))) : W p l e R s m args below meth c H locs cells slots Q (F0 m pc ls (jI y :: jI x :: rest)) := by
  have hcl := cat_le rest
  refine va_mmax K.x K.b (by rw [K.ml, hl]) K.o (K.ts _ q1) (K.ts _ q2) (K.ts _ q3) (K.ts _ q4) hf.1 (by omega) hc.1 hc.2 hd ?_
  have : Value.int (if Int32.ofInt x < Int32.ofInt y then Int32.ofInt y else Int32.ofInt x) = jI (if x < y then y else x) := by
    simp only [i_lt hx hy]
    split <;> rfl
  rw [this]
  exact k
theorem z_mminl {x y : Int} {index : Nat} (K : MCx X p s m args meth c cc nL own ret) (hx : rngL x) (hy : rngL y) (q1 : Cond.methodLink own index Lib.MathLoose.min_long.x ∈ lw_all) (q2 : Cond.static Lib.MathLoose.min_long.x ∈ lw_all) (q3 : Cond.initialized "java/lang/Math" ∈ lw_all) (q4 : Cond.code Lib.MathLoose.min_long.x Lib.MathLoose.min_long.code 4 (some .long) ∈ lw_all)
    (hf : 1 ≤ R.frames ∧ 23 ≤ R.locals) (hc : cells ≤ R.cells ∧ slots ≤ R.slots) (hl : ls.size = nL) (hst : rest.length ≤ 4) (hd : decode cc pc = .ok (.invokestatic index, 3))
    (k : W p l e R s m args below meth c H locs cells slots Q (F0 m (pc + 3) ls (jL (if y < x then y else x) :: rest))) : W p l e R s m args below meth c H locs cells slots Q (F0 m pc ls (jL y :: jL x :: rest)) := by
  have hcl := cat_le rest
  refine va_mmin_long K.x K.b (by rw [K.ml, hl]) K.o (K.ts _ q1) (K.ts _ q2) (K.ts _ q3) (K.ts _ q4) hf.1 (by omega) hc.1 hc.2 hd ?_
  have : Value.long (if Int64.ofInt y < Int64.ofInt x then Int64.ofInt y else Int64.ofInt x) = jL (if y < x then y else x) := by
    simp only [l_lt hy hx]
    split <;> rfl
  rw [this]
  exact k
theorem z_copyi {a1 a2 n : Int} {t1 k1 t2 k2 index : Nat} (K : MCx X p s m args meth c cc nL own ret) (hw : Wc X σ s.heap H locs) (ht1 : tg σ a1 = (t1 : Int)) (hz1 : 0 < t1 ∧ t1 ≤ 18) (hf1 : kf t1 k1 = 11) (ht2 : tg σ a2 = (t2 : Int)) (hz2 : 0 < t2 ∧ t2 ≤ 18) (hf2 : kf t2 k2 = 11) {N1 N2 : Int} (hn1 : (kl t1 k1 : Int) = N1) (hn2 : (kl t2 k2 : Int) = N2) (hn : 0 ≤ n ∧ n ≤ N1 ∧ n ≤ N2) (hb : N1 ≤ 100000)
    (q1 : Cond.methodLink own index arraycopyName ∈ lw_all) (q2 : Cond.native arraycopyName ∈ lw_all) (q3 : Cond.static arraycopyName ∈ lw_all) (q4 : Cond.initialized "java/lang/System" ∈ lw_all)
    (hfr : 1 ≤ R.frames ∧ 8 + (nativeFrameWords "java/lang/System" "arraycopy" 5 + 11) ≤ R.locals) (hl : ls.size = nL) (hst : rest.length ≤ 4) (hd : decode cc pc = .ok (.invokestatic index, 3))
    (kk : ∀ (H1 : Heap) (locs1 : List Loc), Wc X (cpy σ a1 k1 a2 k2 n) s.heap H1 locs1 → W p l e R s m args below meth c H1 locs1 cells slots Q (F0 m (pc + 3) ls rest)) : W p l e R s m args below meth c H locs cells slots Q (F0 m pc ls (jI n :: jI 0 :: jR X (σ a2 k2 (-1)) :: jI 0 :: jR X (σ a1 k1 (-1)) :: rest)) := by
  obtain ⟨p1, p2, p3, p4, p5, p6⟩ := z_arr hw ht1 hz1 (κ := 1) hf1
  obtain ⟨r1, r2, r3, r4, r5, r6⟩ := z_arr hw ht2 hz2 (κ := 1) hf2
  have hcl := cat_le rest
  have ho2 : Ob σ a2 t2 := ⟨hz2.1, hz2.2, Or.inl ht2⟩
  have hp2 := hw.1.2.2.1 a2 t2 k2 1 hz2.1 hz2.2 ht2 hf2
  rw [jR_ref p1, jR_ref r1]
  have e0 : (Int32.ofInt 0).toInt = 0 := rfl
  have en : (Int32.ofInt n).toInt = n := rng_ofInt ⟨by omega, by omega⟩
  have en2 : (Int32.ofInt n).toNatClampNeg = n.toNat := Int32.toNatClampNeg_ofInt_of_le (by omega) (by omega)
  have ez : (Int32.ofInt 0).toNatClampNeg = 0 := rfl
  have nl0 : ¬ Int32.ofInt 0 < 0 := by decide
  have nln : ¬ Int32.ofInt n < 0 := by
    rw [Int32.lt_iff_toInt_lt, en]
    show ¬ n < 0
    omega
  intro T hT X0
  obtain ⟨-, ka, hka, cma, hkka⟩ := (K.env.1.2 1 _ rfl).1 (kl t1 k1) (fun j => zel X 1 (σ a1 k1 (j : Int)))
  obtain ⟨-, kb, hkb, cmb, hkkb⟩ := (K.env.1.2 1 _ rfl).1 (kl t2 k2) (fun j => zel X 1 (σ a2 k2 (j : Int)))
  obtain ⟨vm', X', step⟩ := X0.arraycopy K.x K.o (K.ts _ q1) (K.ts _ q2) (K.ts _ q3) (K.ts _ q4) (src := cb X + (σ a1 k1 (-1)).toNat) (dst := cb X + (σ a2 k2 (-1)).toNat) (cs := arrV (cA X 1) (kl t1 k1) (fun j => zel X 1 (σ a1 k1 (j : Int)))) (cd := arrV (cA X 1) (kl t2 k2) (fun j => zel X 1 (σ a2 k2 (j : Int)))) (srcPos := Int32.ofInt 0) (destPos := Int32.ofInt 0) (n := Int32.ofInt n) (by rw [hT]; exact p5) (by rw [hT]; exact r5)
    (fun _ h => by cases h) (fun _ h => by cases h) (fun h => by cases h) (fun h => by cases h) hka hkb hkka hkkb rfl nl0 nl0 nln
    (by rw [e0, en, arrV_size]; omega)
    (by rw [e0, en, arrV_size]; omega)
    (fun vm₁ _ i hi => by
      have e : (arrV (cA X 1) (kl t1 k1) (fun j => zel X 1 (σ a1 k1 (j : Int)))).slots.getD ((Int32.ofInt 0).toNatClampNeg + i) .null = jI (σ a1 k1 (i : Int)) := by
        rw [en2] at hi
        rw [ez, Nat.zero_add, Array.getD_eq_getD_getElem?, arrV_read _ _ (by omega)]
        rfl
      refine ⟨?_, ?_⟩
      · rw [e]
        rfl
      · rw [e]
        exact trivial)
    (g := F0 m pc ls (jI n :: jI 0 :: .ref (cb X + (σ a2 k2 (-1)).toNat) :: jI 0 :: .ref (cb X + (σ a1 k1 (-1)).toNat) :: rest)) rfl (by rw [K.ml, hl]) (rest := rest) rfl (by rw [K.b]; exact hd) hfr.1 (by show 2 * 0 + _ + _ ≤ _; omega)
  have e1 : copied (arrV (cA X 1) (kl t1 k1) (fun j => zel X 1 (σ a1 k1 (j : Int)))) (arrV (cA X 1) (kl t2 k2) (fun j => zel X 1 (σ a2 k2 (j : Int)))) (Int32.ofInt 0) (Int32.ofInt 0) (Int32.ofInt n) = arrV (cA X 1) (kl t2 k2) (fun j => zel X 1 (cpy σ a1 k1 a2 k2 n a2 k2 (j : Int))) := by
    have h := va_copied (fun z => Value.int z) (cA X 1) (cA X 1) (n0 := kl t1 k1) (n1 := kl t2 k2) (fun j => Int32.ofInt (σ a1 k1 (j : Int))) (fun j => Int32.ofInt (σ a2 k2 (j : Int))) (sp := (Int32.ofInt 0).toNatClampNeg) (dp := (Int32.ofInt 0).toNatClampNeg) (n := (Int32.ofInt n).toNatClampNeg) (by rw [ez, en2]; omega)
    refine h.trans ?_
    show arrV _ _ _ = arrV _ _ _
    congr 1
    funext j
    show Value.int _ = Value.int _
    rw [ez, en2]
    unfold va_cpy cpy
    by_cases hj : j < n.toNat
    · rw [if_pos (by omega), if_pos (by omega)]
      rw [Nat.zero_add, Nat.sub_zero]
    · rw [if_neg (by omega), if_neg (by omega)]
  rw [e1] at X' step
  have hlt : cb X + (σ a2 k2 (-1)).toNat < H.size := (Array.getElem?_eq_some_iff.mp r5).1
  generalize hce : arrV (cA X 1) (kl t2 k2) (fun j => zel X 1 (cpy σ a1 k1 a2 k2 n a2 k2 (j : Int))) = ce at X' step
  have hheap : ((T.setVm vm').setCell (cb X + (σ a2 k2 (-1)).toNat) ce).heap = H.setIfInBounds (cb X + (σ a2 k2 (-1)).toNat) ce := by rw [← hT]; rfl
  have oq : ∀ q : Nat, q ≠ cb X + (σ a2 k2 (-1)).toNat → (H.setIfInBounds (cb X + (σ a2 k2 (-1)).toNat) ce)[q]? = H[q]? := fun q hq => by simp [Array.getElem?_setIfInBounds, Ne.symm hq]
  have hat : ∀ i : Int, cpy σ a1 k1 a2 k2 n a2 k2 i = if 0 ≤ i ∧ i < n then σ a1 k1 i else σ a2 k2 i := by
    intro i
    unfold cpy
    by_cases h : 0 ≤ i ∧ i < n
    · rw [if_pos h, if_pos ⟨rfl, rfl, h⟩]
    · rw [if_neg h, if_neg (fun q => h q.2.2)]
  obtain ⟨t, b1, b2⟩ := kk _ _ ⟨sim_aput hw.1 ho2 (κ := 1) hf2 hp2 (cpy_off σ a1 k1 a2 k2 n) (by rw [hat, if_neg (by omega)]) (by rw [hce]; simp [Array.getElem?_setIfInBounds, hlt]) (by simp) oq (fun i hi hi2 => by
      rw [hat]
      split
      · exact p6 i hi (by omega)
      · exact r6 i hi hi2) (fun h => absurd h (by decide)), ⟨by simp; exact hw.2.1, fun q g1 g2 => by
      rw [oq q (fun e => g2 (by rw [e]; exact Nat.le_add_right _ _))]
      exact hw.2.2.1 q g1 g2, fun q hq => by
      rcases List.mem_append.mp hq with h | h
      · exact hw.2.2.2 q h
      · obtain ⟨z, -, hz⟩ := List.mem_map.mp h
        rw [← hz]
        exact Nat.le_add_right _ _⟩⟩ _ hheap X'
  exact ⟨t, step t b1, b2⟩
end ZX
theorem kp_cpy {σ σ1 : St} {a1 a2 n : Int} {k1 k2 : Nat} {t : Int} (e : σ1 = cpy σ a1 k1 a2 k2 n) (ht : tg σ a2 = t) : Kp [(t, k2)] σ σ1 := by
  rw [e]
  refine ⟨fun a f _ hn => ?_, fun a f _ => if_neg (by omega)⟩
  apply cpy_off
  by_cases h : a = a2
  · right
    rintro rfl
    rw [h, ht] at hn
    exact hn List.mem_cons_self
  · exact Or.inl h
theorem rng_if {c : Prop} [Decidable c] {x y : Int} (hx : rng x) (hy : rng y) : rng (if c then x else y) := by split <;> assumption
theorem rngL_if {c : Prop} [Decidable c] {x y : Int} (hx : rngL x) (hy : rngL y) : rngL (if c then x else y) := by split <;> assumption
theorem nr_ok {D : Nat} (h : 2 ≤ D) : 1 ≤ (zrm D 0 0).frames ∧ 8 + (nativeFrameWords "java/lang/System" "arraycopy" 5 + 11) ≤ (zrm D 0 0).locals := ⟨by show 1 ≤ D; omega, by
  have : 8 + (nativeFrameWords "java/lang/System" "arraycopy" 5 + 11) ≤ 80 := by decide
  show _ ≤ 40 * D
  omega⟩
