/-! ROWS: numbers, branches, locals -/
set_option maxRecDepth 100000
def zshl (a b : Int) : Int := (Int32.ofInt a <<< (Int32.ofInt b &&& 31)).toInt
def zshr (a b : Int) : Int := (Int32.ofInt a >>> (Int32.ofInt b &&& 31)).toInt
def zushr (a b : Int) : Int := ((Int32.ofInt a).toUInt32 >>> ((Int32.ofInt b).toUInt32 &&& Int32.toUInt32 31)).toInt32.toInt
def zand (a b : Int) : Int := (Int32.ofInt a &&& Int32.ofInt b).toInt
def zor (a b : Int) : Int := (Int32.ofInt a ||| Int32.ofInt b).toInt
def zi2b (a : Int) : Int := (Int32.ofInt a).toInt8.toInt32.toInt
def zlshl (a b : Int) : Int := (Int64.ofInt a <<< ((Int32.ofInt b).toInt64 &&& 63)).toInt
def zlor (a b : Int) : Int := (Int64.ofInt a ||| Int64.ofInt b).toInt
def wrap (a : Int) : Int := (Int32.ofInt a).toInt
theorem rng_toInt (x : Int32) : rng x.toInt := ⟨by have := Int32.le_toInt x; omega, by have := Int32.toInt_lt x; omega⟩
theorem rngL_toInt (x : Int64) : rngL x.toInt := ⟨by have := Int64.le_toInt x; omega, by have := Int64.toInt_lt x; omega⟩
theorem jI_toInt (x : Int32) : jI x.toInt = .int x := by show Value.int _ = _; rw [Int32.ofInt_toInt]
theorem jL_toInt (x : Int64) : jL x.toInt = .long x := by show Value.long _ = _; rw [Int64.ofInt_toInt]
theorem jI_wrap (z : Int) : jI (wrap z) = jI z := jI_toInt _
theorem rng_wrap (z : Int) : rng (wrap z) := rng_toInt _
theorem wrap_of {z : Int} (h : rng z) : wrap z = z := rng_ofInt h
theorem i_inj {x y : Int} (hx : rng x) (hy : rng y) : Int32.ofInt x = Int32.ofInt y ↔ x = y := by
  constructor
  · intro h
    rw [← rng_ofInt hx, ← rng_ofInt hy, h]
  · intro h
    rw [h]
theorem i_lt {x y : Int} (hx : rng x) (hy : rng y) : Int32.ofInt x < Int32.ofInt y ↔ x < y := by
  rw [Int32.lt_iff_toInt_lt, rng_ofInt hx, rng_ofInt hy]
theorem i_le {x y : Int} (hx : rng x) (hy : rng y) : Int32.ofInt x ≤ Int32.ofInt y ↔ x ≤ y := by
  rw [Int32.le_iff_toInt_le, rng_ofInt hx, rng_ofInt hy]
theorem l_inj {x y : Int} (hx : rngL x) (hy : rngL y) : Int64.ofInt x = Int64.ofInt y ↔ x = y := by
  constructor
  · intro h
    rw [← rngL_ofInt hx, ← rngL_ofInt hy, h]
  · intro h
    rw [h]
theorem l_lt {x y : Int} (hx : rngL x) (hy : rngL y) : Int64.ofInt x < Int64.ofInt y ↔ x < y := by
  rw [Int64.lt_iff_toInt_lt, rngL_ofInt hx, rngL_ofInt hy]
theorem i_min : Int32.minValue.toInt = -2147483648 := by decide
theorem i_max : Int32.maxValue.toInt = 2147483647 := by decide
theorem rng_0 : rng 0 := ⟨by decide, by decide⟩
theorem ite_t {c : Prop} [Decidable c] {A B : Prop} (h : if c then A else B) (hc : c) : A := by rw [if_pos hc] at h; exact h
theorem ite_f {c : Prop} [Decidable c] {A B : Prop} (h : if c then A else B) (hc : ¬ c) : B := by rw [if_neg hc] at h; exact h
section ZN
variable {X : Cxt} {p : Program} {l : Launch} {e : Env} {R : Room} {s : State} {m : MethodId} {args : Array Value} {below : List Frame} {meth : Method} {c : Code} {H : Heap} {locs : List Loc} {cells slots : Nat} {Q : State → Prop}
variable {cc : ByteArray} {nL : Nat} {own : String} {ret : Option FieldType} {pc : Nat} {ls : Array Slot} {rest : List Value} {x y : Int}
theorem z_iconst (K : MCx X p s m args meth c cc nL own ret) {n : Int} (hd : decode cc pc = .ok (.iconst n, 1)) (k : W p l e R s m args below meth c H locs cells slots Q (F0 m (pc + 1) ls (jI n :: rest))) : W p l e R s m args below meth c H locs cells slots Q (F0 m pc ls rest) := lv_iconst K.x K.b hd rfl k
theorem z_bipush (K : MCx X p s m args meth c cc nL own ret) {n : Int} (hd : decode cc pc = .ok (.bipush n, 2)) (hn : (Int8.ofInt n).toInt32 = Int32.ofInt n) (k : W p l e R s m args below meth c H locs cells slots Q (F0 m (pc + 2) ls (jI n :: rest))) : W p l e R s m args below meth c H locs cells slots Q (F0 m pc ls rest) := lv_bipush K.x K.b hd hn k
theorem z_sipush (K : MCx X p s m args meth c cc nL own ret) {n : Int} (hd : decode cc pc = .ok (.sipush n, 3)) (hn : (Int16.ofInt n).toInt32 = Int32.ofInt n) (k : W p l e R s m args below meth c H locs cells slots Q (F0 m (pc + 3) ls (jI n :: rest))) : W p l e R s m args below meth c H locs cells slots Q (F0 m pc ls rest) := lv_sipush K.x K.b hd hn k
theorem z_lconst (K : MCx X p s m args meth c cc nL own ret) {n : Fin 2} {z : Int} (hd : decode cc pc = .ok (.lconst n, 1)) (hn : Int64.ofNat (n : Nat) = Int64.ofInt z) (k : W p l e R s m args below meth c H locs cells slots Q (F0 m (pc + 1) ls (jL z :: rest))) : W p l e R s m args below meth c H locs cells slots Q (F0 m pc ls rest) := lv_lconst K.x K.b hd hn k
theorem z_ldc (K : MCx X p s m args meth c cc nL own ret) {index : Nat} {v : Int32} {z : Int} (hq : Jvm.Cond.constant own index v ∈ lw_all) (hz : v = Int32.ofInt z) (hd : decode cc pc = .ok (.ldc index, 2)) (k : W p l e R s m args below meth c H locs cells slots Q (F0 m (pc + 2) ls (jI z :: rest))) : W p l e R s m args below meth c H locs cells slots Q (F0 m pc ls rest) := lv_ldc K.x K.b K.o (K.ts _ hq) hd (by rw [hz]; exact k)
theorem z_ldc2 (K : MCx X p s m args meth c cc nL own ret) {index : Nat} {v : Int64} {z : Int} (hq : Jvm.Cond.constantLong own index v ∈ lw_all) (hz : v = Int64.ofInt z) (hd : decode cc pc = .ok (.ldc2_w index, 3)) (k : W p l e R s m args below meth c H locs cells slots Q (F0 m (pc + 3) ls (jL z :: rest))) : W p l e R s m args below meth c H locs cells slots Q (F0 m pc ls rest) := lv_ldc2 K.x K.b K.o (K.ts _ hq) hd (by rw [hz]; exact k)
theorem z_iadd (K : MCx X p s m args meth c cc nL own ret) (hd : decode cc pc = .ok (.iadd, 1)) (k : W p l e R s m args below meth c H locs cells slots Q (F0 m (pc + 1) ls (jI (x + y) :: rest))) : W p l e R s m args below meth c H locs cells slots Q (F0 m pc ls (jI y :: jI x :: rest)) := lv_iadd K.x K.b hd (by rw [← Int32.ofInt_add]; exact k)
theorem z_isub (K : MCx X p s m args meth c cc nL own ret) (hd : decode cc pc = .ok (.isub, 1)) (k : W p l e R s m args below meth c H locs cells slots Q (F0 m (pc + 1) ls (jI (x - y) :: rest))) : W p l e R s m args below meth c H locs cells slots Q (F0 m pc ls (jI y :: jI x :: rest)) := lv_isub K.x K.b hd (by rw [← Int32.ofInt_sub]; exact k)
theorem z_imul (K : MCx X p s m args meth c cc nL own ret) (hd : decode cc pc = .ok (.imul, 1)) (k : W p l e R s m args below meth c H locs cells slots Q (F0 m (pc + 1) ls (jI (x * y) :: rest))) : W p l e R s m args below meth c H locs cells slots Q (F0 m pc ls (jI y :: jI x :: rest)) := lv_imul K.x K.b hd (by rw [← Int32.ofInt_mul]; exact k)
theorem z_iand (K : MCx X p s m args meth c cc nL own ret) (hd : decode cc pc = .ok (.iand, 1)) (k : W p l e R s m args below meth c H locs cells slots Q (F0 m (pc + 1) ls (jI (zand x y) :: rest))) : W p l e R s m args below meth c H locs cells slots Q (F0 m pc ls (jI y :: jI x :: rest)) := lv_iand K.x K.b hd (by rw [← jI_toInt]; exact k)
theorem z_ior (K : MCx X p s m args meth c cc nL own ret) (hd : decode cc pc = .ok (.ior, 1)) (k : W p l e R s m args below meth c H locs cells slots Q (F0 m (pc + 1) ls (jI (zor x y) :: rest))) : W p l e R s m args below meth c H locs cells slots Q (F0 m pc ls (jI y :: jI x :: rest)) := lv_ior K.x K.b hd (by rw [← jI_toInt]; exact k)
theorem z_ishl (K : MCx X p s m args meth c cc nL own ret) (hd : decode cc pc = .ok (.ishl, 1)) (k : W p l e R s m args below meth c H locs cells slots Q (F0 m (pc + 1) ls (jI (zshl x y) :: rest))) : W p l e R s m args below meth c H locs cells slots Q (F0 m pc ls (jI y :: jI x :: rest)) := lv_ishl K.x K.b hd (by rw [← jI_toInt]; exact k)
theorem z_ishr (K : MCx X p s m args meth c cc nL own ret) (hd : decode cc pc = .ok (.ishr, 1)) (k : W p l e R s m args below meth c H locs cells slots Q (F0 m (pc + 1) ls (jI (zshr x y) :: rest))) : W p l e R s m args below meth c H locs cells slots Q (F0 m pc ls (jI y :: jI x :: rest)) := lv_ishr K.x K.b hd (by rw [← jI_toInt]; exact k)
theorem z_iushr (K : MCx X p s m args meth c cc nL own ret) (hd : decode cc pc = .ok (.iushr, 1)) (k : W p l e R s m args below meth c H locs cells slots Q (F0 m (pc + 1) ls (jI (zushr x y) :: rest))) : W p l e R s m args below meth c H locs cells slots Q (F0 m pc ls (jI y :: jI x :: rest)) := lv_iushr K.x K.b hd rfl (by rw [← jI_toInt]; exact k)
theorem z_i2b (K : MCx X p s m args meth c cc nL own ret) (hd : decode cc pc = .ok (.i2b, 1)) (k : W p l e R s m args below meth c H locs cells slots Q (F0 m (pc + 1) ls (jI (zi2b x) :: rest))) : W p l e R s m args below meth c H locs cells slots Q (F0 m pc ls (jI x :: rest)) := lv_i2b K.x K.b hd rfl (by rw [← jI_toInt]; exact k)
theorem z_i2l (K : MCx X p s m args meth c cc nL own ret) (hx : rng x) (hd : decode cc pc = .ok (.i2l, 1)) (k : W p l e R s m args below meth c H locs cells slots Q (F0 m (pc + 1) ls (jL x :: rest))) : W p l e R s m args below meth c H locs cells slots Q (F0 m pc ls (jI x :: rest)) := lv_i2l K.x K.b hd (Int32.toInt64_ofInt (by rw [i_min]; exact hx.1) (by rw [i_max]; exact hx.2)) k
theorem z_l2i (K : MCx X p s m args meth c cc nL own ret) (hd : decode cc pc = .ok (.l2i, 1)) (k : W p l e R s m args below meth c H locs cells slots Q (F0 m (pc + 1) ls (jI x :: rest))) : W p l e R s m args below meth c H locs cells slots Q (F0 m pc ls (jL x :: rest)) := lv_l2i K.x K.b hd Int64.toInt32_ofInt k
theorem z_ladd (K : MCx X p s m args meth c cc nL own ret) (hd : decode cc pc = .ok (.ladd, 1)) (k : W p l e R s m args below meth c H locs cells slots Q (F0 m (pc + 1) ls (jL (x + y) :: rest))) : W p l e R s m args below meth c H locs cells slots Q (F0 m pc ls (jL y :: jL x :: rest)) := lv_ladd K.x K.b hd (by rw [← Int64.ofInt_add]; exact k)
theorem z_lsub (K : MCx X p s m args meth c cc nL own ret) (hd : decode cc pc = .ok (.lsub, 1)) (k : W p l e R s m args below meth c H locs cells slots Q (F0 m (pc + 1) ls (jL (x - y) :: rest))) : W p l e R s m args below meth c H locs cells slots Q (F0 m pc ls (jL y :: jL x :: rest)) := lv_lsub K.x K.b hd (by rw [← Int64.ofInt_sub]; exact k)
theorem z_lmul (K : MCx X p s m args meth c cc nL own ret) (hd : decode cc pc = .ok (.lmul, 1)) (k : W p l e R s m args below meth c H locs cells slots Q (F0 m (pc + 1) ls (jL (x * y) :: rest))) : W p l e R s m args below meth c H locs cells slots Q (F0 m pc ls (jL y :: jL x :: rest)) := lv_lmul K.x K.b hd (by rw [← Int64.ofInt_mul]; exact k)
theorem z_lor (K : MCx X p s m args meth c cc nL own ret) (hd : decode cc pc = .ok (.lor, 1)) (k : W p l e R s m args below meth c H locs cells slots Q (F0 m (pc + 1) ls (jL (zlor x y) :: rest))) : W p l e R s m args below meth c H locs cells slots Q (F0 m pc ls (jL y :: jL x :: rest)) := lv_lor K.x K.b hd (by rw [← jL_toInt]; exact k)
theorem z_lshl (K : MCx X p s m args meth c cc nL own ret) (hd : decode cc pc = .ok (.lshl, 1)) (k : W p l e R s m args below meth c H locs cells slots Q (F0 m (pc + 1) ls (jL (zlshl x y) :: rest))) : W p l e R s m args below meth c H locs cells slots Q (F0 m pc ls (jI y :: jL x :: rest)) := lv_lshl K.x K.b hd rfl (by rw [← jL_toInt]; exact k)
theorem div_eq {x y : Int} (hx : rng x) (hy : rng y) (h0 : y ≠ 0) (h1 : y ≠ -1) : Int32.ofInt x / Int32.ofInt y = Int32.ofInt (x.tdiv y) := by
  apply Int32.toInt_inj.mp
  rw [Int32.toInt_div_of_ne_right _ _ (fun h => h1 (by rw [← rng_ofInt hy, h]; rfl)), rng_ofInt hx, rng_ofInt hy, rng_ofInt]
  have h2 : (x.tdiv y).natAbs ≤ x.natAbs := by
    rw [Int.natAbs_tdiv]
    exact Nat.div_le_self _ _
  obtain ⟨a1, a2⟩ := hx
  by_cases h3 : x = -2147483648
  · by_cases h9 : y = 1
    · subst h9
      rw [Int.tdiv_one]
      exact ⟨by omega, by omega⟩
    have h4 : 2 ≤ y.natAbs := by omega
    have h5 : (x.tdiv y).natAbs ≤ x.natAbs / 2 := by
      rw [Int.natAbs_tdiv]
      exact Nat.div_le_div_left h4 (by decide)
    exact ⟨by omega, by omega⟩
  · exact ⟨by omega, by omega⟩
theorem z_idiv (K : MCx X p s m args meth c cc nL own ret) (hx : rng x) (hy : rng y) (h0 : y ≠ 0) (h1 : y ≠ -1) (hd : decode cc pc = .ok (.idiv, 1)) (k : W p l e R s m args below meth c H locs cells slots Q (F0 m (pc + 1) ls (jI (x.tdiv y) :: rest))) : W p l e R s m args below meth c H locs cells slots Q (F0 m pc ls (jI y :: jI x :: rest)) := lv_idiv K.x K.b hd (fun h => h0 ((i_inj hy rng_0).mp h)) (by rw [div_eq hx hy h0 h1]; exact k)
theorem z_irem (K : MCx X p s m args meth c cc nL own ret) (hx : rng x) (hy : rng y) (h0 : y ≠ 0) (h1 : y ≠ -1) (hd : decode cc pc = .ok (.irem, 1)) (k : W p l e R s m args below meth c H locs cells slots Q (F0 m (pc + 1) ls (jI (x.tmod y) :: rest))) : W p l e R s m args below meth c H locs cells slots Q (F0 m pc ls (jI y :: jI x :: rest)) := lv_irem K.x K.b hd (fun h => h0 ((i_inj hy rng_0).mp h)) (by
  rw [div_eq hx hy h0 h1, ← Int32.ofInt_mul, ← Int32.ofInt_sub, show x - x.tdiv y * y = x.tmod y by rw [Int.tmod_def, Int.mul_comm]]; exact k)
/-! branches -/
theorem z_icmp_eq (K : MCx X p s m args meth c cc nL own ret) (hx : rng x) (hy : rng y) {off : Int} {tgt : Nat} (hd : decode cc pc = .ok (.if_icmp .eq off, 3)) (ht : (pc : Int) + off = (tgt : Int)) (kt : x = y → W p l e R s m args below meth c H locs cells slots Q (F0 m tgt ls rest)) (kf : ¬ x = y → W p l e R s m args below meth c H locs cells slots Q (F0 m (pc + 3) ls rest)) : W p l e R s m args below meth c H locs cells slots Q (F0 m pc ls (jI y :: jI x :: rest)) := lv_icmp_eq K.x K.b hd ht (fun h => kt ((i_inj hx hy).mp h)) (fun h => kf (fun z => h ((i_inj hx hy).mpr z)))
theorem z_icmp_ne (K : MCx X p s m args meth c cc nL own ret) (hx : rng x) (hy : rng y) {off : Int} {tgt : Nat} (hd : decode cc pc = .ok (.if_icmp .ne off, 3)) (ht : (pc : Int) + off = (tgt : Int)) (kt : x = y → W p l e R s m args below meth c H locs cells slots Q (F0 m (pc + 3) ls rest)) (kf : ¬ x = y → W p l e R s m args below meth c H locs cells slots Q (F0 m tgt ls rest)) : W p l e R s m args below meth c H locs cells slots Q (F0 m pc ls (jI y :: jI x :: rest)) := lv_icmp_ne K.x K.b hd ht (fun h => kf (fun z => h ((i_inj hx hy).mpr z))) (fun h => kt ((i_inj hx hy).mp h))
theorem z_icmp_ge (K : MCx X p s m args meth c cc nL own ret) (hx : rng x) (hy : rng y) {off : Int} {tgt : Nat} (hd : decode cc pc = .ok (.if_icmp .ge off, 3)) (ht : (pc : Int) + off = (tgt : Int)) (kt : x < y → W p l e R s m args below meth c H locs cells slots Q (F0 m (pc + 3) ls rest)) (kf : ¬ x < y → W p l e R s m args below meth c H locs cells slots Q (F0 m tgt ls rest)) : W p l e R s m args below meth c H locs cells slots Q (F0 m pc ls (jI y :: jI x :: rest)) := lv_icmp_ge K.x K.b hd ht (fun h => kf (by have := (i_le hy hx).mp h; omega)) (fun h => kt (by have : ¬ y ≤ x := fun z => h ((i_le hy hx).mpr z); omega))
theorem z_icmp_lt (K : MCx X p s m args meth c cc nL own ret) (hx : rng x) (hy : rng y) {off : Int} {tgt : Nat} (hd : decode cc pc = .ok (.if_icmp .lt off, 3)) (ht : (pc : Int) + off = (tgt : Int)) (kt : y ≤ x → W p l e R s m args below meth c H locs cells slots Q (F0 m (pc + 3) ls rest)) (kf : ¬ y ≤ x → W p l e R s m args below meth c H locs cells slots Q (F0 m tgt ls rest)) : W p l e R s m args below meth c H locs cells slots Q (F0 m pc ls (jI y :: jI x :: rest)) := lv_icmp_lt K.x K.b hd ht (fun h => kf (by have := (i_lt hx hy).mp h; omega)) (fun h => kt (by have : ¬ x < y := fun z => h ((i_lt hx hy).mpr z); omega))
theorem z_icmp_gt (K : MCx X p s m args meth c cc nL own ret) (hx : rng x) (hy : rng y) {off : Int} {tgt : Nat} (hd : decode cc pc = .ok (.if_icmp .gt off, 3)) (ht : (pc : Int) + off = (tgt : Int)) (kt : x ≤ y → W p l e R s m args below meth c H locs cells slots Q (F0 m (pc + 3) ls rest)) (kf : ¬ x ≤ y → W p l e R s m args below meth c H locs cells slots Q (F0 m tgt ls rest)) : W p l e R s m args below meth c H locs cells slots Q (F0 m pc ls (jI y :: jI x :: rest)) := lv_icmp_gt K.x K.b hd ht (fun h => kf (by have := (i_lt hy hx).mp h; omega)) (fun h => kt (by have : ¬ y < x := fun z => h ((i_lt hy hx).mpr z); omega))
theorem z_icmp_le (K : MCx X p s m args meth c cc nL own ret) (hx : rng x) (hy : rng y) {off : Int} {tgt : Nat} (hd : decode cc pc = .ok (.if_icmp .le off, 3)) (ht : (pc : Int) + off = (tgt : Int)) (kt : y < x → W p l e R s m args below meth c H locs cells slots Q (F0 m (pc + 3) ls rest)) (kf : ¬ y < x → W p l e R s m args below meth c H locs cells slots Q (F0 m tgt ls rest)) : W p l e R s m args below meth c H locs cells slots Q (F0 m pc ls (jI y :: jI x :: rest)) := lv_icmp_le K.x K.b hd ht (fun h => kf (by have := (i_le hx hy).mp h; omega)) (fun h => kt (by have : ¬ x ≤ y := fun z => h ((i_le hx hy).mpr z); omega))
theorem z_if_eq (K : MCx X p s m args meth c cc nL own ret) (hx : rng x) {off : Int} {tgt : Nat} (hd : decode cc pc = .ok (.ifCond .eq off, 3)) (ht : (pc : Int) + off = (tgt : Int)) (kt : x = 0 → W p l e R s m args below meth c H locs cells slots Q (F0 m tgt ls rest)) (kf : ¬ x = 0 → W p l e R s m args below meth c H locs cells slots Q (F0 m (pc + 3) ls rest)) : W p l e R s m args below meth c H locs cells slots Q (F0 m pc ls (jI x :: rest)) := lv_if_eq K.x K.b hd ht (fun h => kt ((i_inj hx rng_0).mp h)) (fun h => kf (fun z => h ((i_inj hx rng_0).mpr z)))
theorem z_if_ne (K : MCx X p s m args meth c cc nL own ret) (hx : rng x) {off : Int} {tgt : Nat} (hd : decode cc pc = .ok (.ifCond .ne off, 3)) (ht : (pc : Int) + off = (tgt : Int)) (kt : x = 0 → W p l e R s m args below meth c H locs cells slots Q (F0 m (pc + 3) ls rest)) (kf : ¬ x = 0 → W p l e R s m args below meth c H locs cells slots Q (F0 m tgt ls rest)) : W p l e R s m args below meth c H locs cells slots Q (F0 m pc ls (jI x :: rest)) := lv_if_ne K.x K.b hd ht (fun h => kf (fun z => h ((i_inj hx rng_0).mpr z))) (fun h => kt ((i_inj hx rng_0).mp h))
theorem z_if_ge (K : MCx X p s m args meth c cc nL own ret) (hx : rng x) {off : Int} {tgt : Nat} (hd : decode cc pc = .ok (.ifCond .ge off, 3)) (ht : (pc : Int) + off = (tgt : Int)) (kt : x < 0 → W p l e R s m args below meth c H locs cells slots Q (F0 m (pc + 3) ls rest)) (kf : ¬ x < 0 → W p l e R s m args below meth c H locs cells slots Q (F0 m tgt ls rest)) : W p l e R s m args below meth c H locs cells slots Q (F0 m pc ls (jI x :: rest)) := lv_if_ge K.x K.b hd ht (fun h => kf (by have := (i_le rng_0 hx).mp h; omega)) (fun h => kt (by have : ¬ 0 ≤ x := fun z => h ((i_le rng_0 hx).mpr z); omega))
theorem z_if_lt (K : MCx X p s m args meth c cc nL own ret) (hx : rng x) {off : Int} {tgt : Nat} (hd : decode cc pc = .ok (.ifCond .lt off, 3)) (ht : (pc : Int) + off = (tgt : Int)) (kt : 0 ≤ x → W p l e R s m args below meth c H locs cells slots Q (F0 m (pc + 3) ls rest)) (kf : ¬ 0 ≤ x → W p l e R s m args below meth c H locs cells slots Q (F0 m tgt ls rest)) : W p l e R s m args below meth c H locs cells slots Q (F0 m pc ls (jI x :: rest)) := lv_if_lt K.x K.b hd ht (fun h => kf (by have := (i_lt hx rng_0).mp h; omega)) (fun h => kt (by have : ¬ x < 0 := fun z => h ((i_lt hx rng_0).mpr z); omega))
theorem z_if_gt (K : MCx X p s m args meth c cc nL own ret) (hx : rng x) {off : Int} {tgt : Nat} (hd : decode cc pc = .ok (.ifCond .gt off, 3)) (ht : (pc : Int) + off = (tgt : Int)) (kt : x ≤ 0 → W p l e R s m args below meth c H locs cells slots Q (F0 m (pc + 3) ls rest)) (kf : ¬ x ≤ 0 → W p l e R s m args below meth c H locs cells slots Q (F0 m tgt ls rest)) : W p l e R s m args below meth c H locs cells slots Q (F0 m pc ls (jI x :: rest)) := lv_if_gt K.x K.b hd ht (fun h => kf (by have := (i_lt rng_0 hx).mp h; omega)) (fun h => kt (by have : ¬ 0 < x := fun z => h ((i_lt rng_0 hx).mpr z); omega))
theorem z_if_le (K : MCx X p s m args meth c cc nL own ret) (hx : rng x) {off : Int} {tgt : Nat} (hd : decode cc pc = .ok (.ifCond .le off, 3)) (ht : (pc : Int) + off = (tgt : Int)) (kt : 0 < x → W p l e R s m args below meth c H locs cells slots Q (F0 m (pc + 3) ls rest)) (kf : ¬ 0 < x → W p l e R s m args below meth c H locs cells slots Q (F0 m tgt ls rest)) : W p l e R s m args below meth c H locs cells slots Q (F0 m pc ls (jI x :: rest)) := lv_if_le K.x K.b hd ht (fun h => kf (by have := (i_le hx rng_0).mp h; omega)) (fun h => kt (by have : ¬ x ≤ 0 := fun z => h ((i_le hx rng_0).mpr z); omega))
/-- longs compared, then a branch -/
def zcmp (x y : Int) : Int := if y < x then 1 else if x < y then -1 else 0
theorem z_lcmp (K : MCx X p s m args meth c cc nL own ret) (hx : rngL x) (hy : rngL y) (hd : decode cc pc = .ok (.lcmp, 1)) (k : W p l e R s m args below meth c H locs cells slots Q (F0 m (pc + 1) ls (jI (zcmp x y) :: rest))) : W p l e R s m args below meth c H locs cells slots Q (F0 m pc ls (jL y :: jL x :: rest)) := W.lcmp K.x K.b hd (by
  have : Value.int (lg_cmp (Int64.ofInt x) (Int64.ofInt y)) = jI (zcmp x y) := by
    unfold lg_cmp zcmp
    simp only [l_lt hx hy, l_lt hy hx, l_inj hx hy]
    by_cases h1 : y < x
    · rw [if_pos h1, if_pos h1]; rfl
    · by_cases h2 : x < y
      · rw [if_neg h1, if_neg h1, if_pos h2, if_neg (show ¬ x = y by omega)]; rfl
      · rw [if_neg h1, if_neg h1, if_neg h2, if_pos (show x = y by omega)]; rfl
  rw [this]; exact k)
theorem rng_zcmp (x y : Int) : rng (zcmp x y) := by
  unfold zcmp rng
  split
  · omega
  · split <;> omega
theorem zcmp_eq {x y : Int} : zcmp x y = 0 ↔ x = y := by
  unfold zcmp
  split
  · omega
  · split <;> omega
theorem zcmp_le {x y : Int} : zcmp x y ≤ 0 ↔ x ≤ y := by
  unfold zcmp
  split
  · omega
  · split <;> omega
theorem zcmp_gt {x y : Int} : 0 < zcmp x y ↔ y < x := by
  unfold zcmp
  split
  · omega
  · split <;> omega
theorem z_goto (K : MCx X p s m args meth c cc nL own ret) {off : Int} {tgt : Nat} (hd : decode cc pc = .ok (.goto off, 3)) (ht : (pc : Int) + off = (tgt : Int)) (k : W p l e R s m args below meth c H locs cells slots Q (F0 m tgt ls rest)) : W p l e R s m args below meth c H locs cells slots Q (F0 m pc ls rest) := lv_goto K.x K.b hd ht k
theorem z_ifnull (K : MCx X p s m args meth c cc nL own ret) {off : Int} {tgt : Nat} (hd : decode cc pc = .ok (.ifnull off, 3)) (ht : (pc : Int) + off = (tgt : Int)) (kt : x = -1 → W p l e R s m args below meth c H locs cells slots Q (F0 m tgt ls rest)) (kf : ¬ x = -1 → W p l e R s m args below meth c H locs cells slots Q (F0 m (pc + 3) ls rest)) : W p l e R s m args below meth c H locs cells slots Q (F0 m pc ls (jR X x :: rest)) := by
  by_cases h : x = -1
  · rw [h, jR_null]
    exact lv_ifnullN K.x K.b hd ht (kt h)
  · obtain ⟨r, hr⟩ := jR_nn (X := X) h
    rw [hr]
    exact lv_ifnull K.x K.b hd (kf h)
theorem z_ifnonnull (K : MCx X p s m args meth c cc nL own ret) {off : Int} {tgt : Nat} (hd : decode cc pc = .ok (.ifnonnull off, 3)) (ht : (pc : Int) + off = (tgt : Int)) (kt : x = -1 → W p l e R s m args below meth c H locs cells slots Q (F0 m (pc + 3) ls rest)) (kf : ¬ x = -1 → W p l e R s m args below meth c H locs cells slots Q (F0 m tgt ls rest)) : W p l e R s m args below meth c H locs cells slots Q (F0 m pc ls (jR X x :: rest)) := by
  by_cases h : x = -1
  · rw [h, jR_null]
    exact lv_ifnonnullN K.x K.b hd (kt h)
  · obtain ⟨r, hr⟩ := jR_nn (X := X) h
    rw [hr]
    exact lv_ifnonnull K.x K.b hd ht (kf h)
theorem z_null (K : MCx X p s m args meth c cc nL own ret) (hd : decode cc pc = .ok (.aconst_null, 1)) (k : W p l e R s m args below meth c H locs cells slots Q (F0 m (pc + 1) ls (jR X (-1) :: rest))) : W p l e R s m args below meth c H locs cells slots Q (F0 m pc ls rest) := lv_null K.x K.b hd k
/-! locals -/
theorem z_aload_n (K : MCx X p s m args meth c cc nL own ret) {k : Fin 4} {i : Nat} {z : Int} (hd : decode cc pc = .ok (.aload_n k, 1)) (hi : (k : Nat) = i) (hl : ls[i]? = some (.val (jR X z))) (kk : W p l e R s m args below meth c H locs cells slots Q (F0 m (pc + 1) ls (jR X z :: rest))) : W p l e R s m args below meth c H locs cells slots Q (F0 m pc ls rest) := by
  rcases jR_or X z with h | ⟨x, h⟩ <;> rw [h] at hl kk
  · exact lv_aload_nN K.x K.b hd hi hl kk
  · exact lv_aload_n K.x K.b hd hi hl kk
theorem z_aload (K : MCx X p s m args meth c cc nL own ret) {i : Nat} {z : Int} (hd : decode cc pc = .ok (.aload i, 2)) (hl : ls[i]? = some (.val (jR X z))) (kk : W p l e R s m args below meth c H locs cells slots Q (F0 m (pc + 2) ls (jR X z :: rest))) : W p l e R s m args below meth c H locs cells slots Q (F0 m pc ls rest) := by
  rcases jR_or X z with h | ⟨x, h⟩ <;> rw [h] at hl kk
  · exact lv_aloadN K.x K.b hd hl kk
  · exact lv_aload K.x K.b hd hl kk
theorem z_astore_n (K : MCx X p s m args meth c cc nL own ret) {k : Fin 4} {i nL' : Nat} {z : Int} {lv lv' : List (Nat × Value)} (hd : decode cc pc = .ok (.astore_n k, 1)) (hi : (k : Nat) = i) (h : lv_has ls nL' lv) (hn : i < nL') (hl : (i, jR X z) :: lv.filter (fun q => !(q.1 == i) && !(q.1 + 1 == i && q.2.category == 2)) = lv')
    (kk : ∀ ls' : Array Slot, lv_has ls' nL' lv' → W p l e R s m args below meth c H locs cells slots Q (F0 m (pc + 1) ls' rest)) : W p l e R s m args below meth c H locs cells slots Q (F0 m pc ls (jR X z :: rest)) := by
  rcases jR_or X z with e | ⟨x, e⟩ <;> rw [e] at hl ⊢
  · exact lv_astore_nN K.x K.b hd hi h hn hl kk
  · exact lv_astore_n K.x K.b hd hi h hn hl kk
theorem z_astore (K : MCx X p s m args meth c cc nL own ret) {i nL' : Nat} {z : Int} {lv lv' : List (Nat × Value)} (hd : decode cc pc = .ok (.astore i, 2)) (h : lv_has ls nL' lv) (hn : i < nL') (hl : (i, jR X z) :: lv.filter (fun q => !(q.1 == i) && !(q.1 + 1 == i && q.2.category == 2)) = lv')
    (kk : ∀ ls' : Array Slot, lv_has ls' nL' lv' → W p l e R s m args below meth c H locs cells slots Q (F0 m (pc + 2) ls' rest)) : W p l e R s m args below meth c H locs cells slots Q (F0 m pc ls (jR X z :: rest)) := by
  rcases jR_or X z with e | ⟨x, e⟩ <;> rw [e] at hl ⊢
  · exact lv_astoreN K.x K.b hd h hn hl kk
  · exact lv_astore K.x K.b hd h hn hl kk
theorem z_iinc (K : MCx X p s m args meth c cc nL own ret) {i nL' k : Nat} {n : Int} {z : Int} {lv lv' : List (Nat × Value)} (hd : decode cc pc = .ok (.iinc i n, 3)) (h : lv_has ls nL' lv) (hk : lv[k]? = some (i, jI z)) (hn : i < nL') (hl : (i, jI (z + n)) :: lv.filter (fun q => !(q.1 == i) && !(q.1 + 1 == i && q.2.category == 2)) = lv')
    (kk : ∀ ls' : Array Slot, lv_has ls' nL' lv' → W p l e R s m args below meth c H locs cells slots Q (F0 m (pc + 3) ls' rest)) : W p l e R s m args below meth c H locs cells slots Q (F0 m pc ls rest) := lv_iinc K.x K.b hd h hk (Int32.ofInt_add z n).symm hn hl kk
end ZN
