/-! TEXT CONSTANTS: length and charAt -/
set_option maxRecDepth 100000
def slen (w : Int) : Int := ((zlen.getD (-w - 2).toNat 0 : Nat) : Int)
def schr (w k : Int) : Int := ((zbyt.getD (-w - 2).toNat []).getD k.toNat 0).toInt
theorem str_all : ∀ i, i < 38 → (zlen.getD i 0 = (zbyt.getD i []).length ∧ zlen.getD i 0 < 10 ∧ ∀ b ∈ zbyt.getD i [], ((b &&& 255).toUInt32 % 65536).toInt32 = b ∧ narrow .char (.int b) = .int b ∧ 0 ≤ b.toInt ∧ b.toInt < 128) := by decide +kernel
theorem getD_mem {l : List Int32} {n : Nat} (h : n < l.length) : l.getD n 0 ∈ l := by
  rw [List.getD_eq_getElem?_getD, List.getElem?_eq_getElem h]
  exact List.getElem_mem _
section ZT
variable {X : Cxt} {l : Launch} {σ : St} {i : Nat}
theorem z_strq (i : Nat) (hi : i < 38) : ∃ q, zstr[i]? = some q := ⟨zstr[i]'(by show i < 38; exact hi), List.getElem?_eq_getElem _⟩
theorem met_J2_coder (hi : i < 38) : MetT l yJ2_coder (ws_ yJ2_coder cJ2_coder 1 (some .byte)) (zrm 1 0 0) (ZP X σ [.ref (cs X i)]) (ZQ X (fun v σ' => v = some (.int 0) ∧ σ' = σ) (fun _ _ => False)) 0 0 (zA X) := by
  refine z_start (own := "java/lang/String") (lv := [(0, .ref (cs X i))]) (by decide) rfl rfl (Nat.le_of_ble_eq_true rfl) (fun p e s m below meth c ls K _ _ hw hl => ?_)
  obtain ⟨q, hq⟩ := z_strq i hi
  obtain ⟨e1, e2, e3, e4, e5⟩ := K.env.2.2.1 i q hq
  refine va_gets (pc := 0) K.x K.b K.env.2.2.2.1 hw.2 K.o (K.ts _ q714) (fun _ h => h) dJ2_coder_0 ?_
  refine z_if_eq (x := 1) (pc := 3) (tgt := 13) K ⟨by decide, by decide⟩ dJ2_coder_3 (by decide) (fun hc => absurd hc (by decide)) (fun hc => ?_)
  refine lv_aload_n (pc := 6) K.x K.b dJ2_coder_6 rfl (lv_at hl 0 rfl) ?_
  refine vk_getf (pc := 7) K.x K.b e3 hw.2 K.o (K.ts _ q2075) (fun _ h => h) dJ2_coder_7 ?_
  refine z_goto (pc := 10) (tgt := 14) K dJ2_coder_10 (by decide) ?_
  exact W.mono mq_mqt (W.zret (ty := .byte) (hlocks := K.lk) K.x K.b K.r (by decide) (z_end hw ⟨rfl, rfl⟩) (z_fr hw) dJ2_coder_14)
theorem met_J2_isLatin1 (hi : i < 38) : MetT l yJ2_isLatin1 (ws_ yJ2_isLatin1 cJ2_isLatin1 1 (some .boolean)) (zrm 1 0 0) (ZP X σ [.ref (cs X i)]) (ZQ X (fun v σ' => v = some (.int 1) ∧ σ' = σ) (fun _ _ => False)) 0 0 (zA X) := by
  refine z_start (own := "java/lang/String") (lv := [(0, .ref (cs X i))]) (by decide) rfl rfl (Nat.le_of_ble_eq_true rfl) (fun p e s m below meth c ls K _ _ hw hl => ?_)
  obtain ⟨q, hq⟩ := z_strq i hi
  obtain ⟨e1, e2, e3, e4, e5⟩ := K.env.2.2.1 i q hq
  refine va_gets (pc := 0) K.x K.b K.env.2.2.2.1 hw.2 K.o (K.ts _ q714) (fun _ h => h) dJ2_isLatin1_0 ?_
  refine z_if_eq (x := 1) (pc := 3) (tgt := 17) K ⟨by decide, by decide⟩ dJ2_isLatin1_3 (by decide) (fun hc => absurd hc (by decide)) (fun hc => ?_)
  refine lv_aload_n (pc := 6) K.x K.b dJ2_isLatin1_6 rfl (lv_at hl 0 rfl) ?_
  refine vk_getf (pc := 7) K.x K.b e3 hw.2 K.o (K.ts _ q2075) (fun _ h => h) dJ2_isLatin1_7 ?_
  refine z_if_ne (x := 0) (pc := 10) (tgt := 17) K ⟨by decide, by decide⟩ dJ2_isLatin1_10 (by decide) (fun hc => ?_) (fun hc => absurd rfl hc)
  refine z_iconst (pc := 13) K dJ2_isLatin1_13 ?_
  refine z_goto (pc := 14) (tgt := 18) K dJ2_isLatin1_14 (by decide) ?_
  exact W.mono mq_mqt (W.zret (ty := .boolean) (hlocks := K.lk) K.x K.b K.r (by decide) (z_end hw ⟨rfl, rfl⟩) (z_fr hw) dJ2_isLatin1_18)
/-- a call on a text constant -/
theorem i_Vs {p : Program} {e : Env} {R : Room} {s : State} {m : MethodId} {args : Array Value} {below : List Frame} {meth : Method} {c : Code} {H : Heap} {locs : List Loc} {cells slots : Nat} {cc : ByteArray} {nL : Nat} {own : String} {ret : Option FieldType} {pc : Nat} {ls : Array Slot} {rest : List Value} {y : MethodName} {index n : Nat} {As stk : List Value} (K : MCx X p s m args meth c cc nL own ret) (hw : Wc X σ s.heap H locs) (hi : i < 38) (hy : yOk y n = true)
    (q1 : Cond.methodLink own index y ∈ lw_all) (q2 : Cond.instanceMethod y ∈ lw_all) (q3 : Cond.selects "java/lang/String" y y ∈ lw_all) (hsg : ∃ mk methM, s.methodNamed? y = some mk ∧ s.vm.method? mk = some methM ∧ parseMethodDescriptor y.desc = some methM.sig)
    (hn : As.length = n) (hstk : stk = As.reverse ++ .ref (cs X i) :: rest) (hd : decode cc pc = .ok (.invokevirtual index, 3)) :
    ∀ T : State, T.heap = H → Stand p l e R s m args below meth c T locs cells slots → Inv p l e R s m args below meth c T locs cells slots (F0 m pc ls stk) rest y (.ref (cs X i) :: As).toArray := by
  intro T hT X0
  obtain ⟨cell, c1, c2, c3⟩ := z_str K hw hi
  exact inv_V X0 K.x K.o (K.ts _ q1) (K.ts _ q2) (K.ts _ q3) (sg_all hsg) (yOk_h hy) (by rw [hT]; exact c1) c2 c3 rfl (yOk_n hy hn) hstk (by rw [K.b]; exact hd)
theorem met_J2_length (hi : i < 38) : MetT l yJ2_length (ws_ yJ2_length cJ2_length 1 (some .int)) (zrm 2 0 0) (ZP X σ [.ref (cs X i)]) (ZQ X (qI (fun z σ' => σ' = σ ∧ z = ((zlen.getD i 0 : Nat) : Int))) (fun _ _ => False)) 0 0 (zA X) := by
  refine z_start (own := "java/lang/String") (lv := [(0, .ref (cs X i))]) (by decide) rfl rfl (Nat.le_of_ble_eq_true rfl) (fun p e s m below meth c ls K _ _ hw hl => ?_)
  obtain ⟨q, hq⟩ := z_strq i hi
  obtain ⟨e1, e2, e3, e4, e5⟩ := K.env.2.2.1 i q hq
  obtain ⟨a1, a2, -⟩ := str_all i hi
  refine lv_aload_n (pc := 0) K.x K.b dJ2_length_0 rfl (lv_at hl 0 rfl) ?_
  refine vk_getf (pc := 1) K.x K.b e4 hw.2 K.o (K.ts _ q2074) (fun _ h => h) dJ2_length_1 ?_
  refine va_tlen (pc := 4) K.x K.b e5 hw.2 rfl dJ2_length_4 ?_
  refine lv_aload_n (pc := 5) K.x K.b dJ2_length_5 rfl (lv_at hl 0 rfl) ?_
  refine z_call (pc := 6) (maxL := 1) K hw (met_J2_coder hi) (i_Vs (n := 0) (As := []) K hw hi (by decide) q710 q711 q712 (sg_of K q713) rfl rfl dJ2_length_6) (locw K q713 q103) ⟨rfl, rfl⟩ ⟨by decide, by decide⟩ hl.1 dJ2_length_6 (Nat.le_of_ble_eq_true rfl) ⟨Nat.le_refl _, Nat.le_refl _⟩ (fun v σ' H1 locs1 hv hw1 => ?_) (fun _ _ _ _ _ h _ => h.elim)
  obtain ⟨rfl, rfl⟩ := hv
  refine lv_ishr (pc := 9) K.x K.b dJ2_length_9 ?_
  rw [show Int32.ofNat (zlen.getD i 0) >>> ((0 : Int32) &&& 31) = Int32.ofInt ((zlen.getD i 0 : Nat) : Int) by
    rw [show ((0 : Int32) &&& 31) = 0 by decide, Int32.shiftRight_zero]; rfl]
  exact z_iret (pc := 10) K hw1 ⟨by omega, by omega⟩ ⟨rfl, rfl⟩ dJ2_length_10
theorem met_J4_checkIndex {k n : Int} {fv : Value} (hf : fv = .null ∨ ∃ t, fv = .ref t) (hk : rng k) (hn : rng n) (h : 0 ≤ k ∧ k < n) : MetT l yJ4_checkIndex (ws_ yJ4_checkIndex cJ4_checkIndex 3 (some .int)) (zrm 1 0 0) (ZP X σ [jI k, jI n, fv]) (ZQ X (qI (fun _ σ' => σ' = σ)) (fun _ _ => False)) 0 0 (zA X) := by
  have hlv : lv_args 0 [jI k, jI n, fv] = [(0, jI k), (1, jI n), (2, fv)] := by rcases hf with rfl | ⟨t, rfl⟩ <;> rfl
  have hsl : (lg_sl [jI k, jI n, fv]).length ≤ 3 := by rcases hf with rfl | ⟨t, rfl⟩ <;> exact Nat.le_of_ble_eq_true rfl
  refine z_start (own := "jdk/internal/util/Preconditions") (by decide) rfl hlv hsl (fun p e s m below meth c ls K _ _ hw hl => ?_)
  refine lv_iload_n (pc := 0) K.x K.b dJ4_checkIndex_0 rfl (lv_at hl 0 rfl) ?_
  refine z_if_lt (pc := 1) (tgt := 9) K hk dJ4_checkIndex_1 (by decide) (fun _ => ?_) (fun hc => absurd h.1 hc)
  refine lv_iload_n (pc := 4) K.x K.b dJ4_checkIndex_4 rfl (lv_at hl 0 rfl) ?_
  refine lv_iload_n (pc := 5) K.x K.b dJ4_checkIndex_5 rfl (lv_at hl 1 rfl) ?_
  refine z_icmp_lt (pc := 6) (tgt := 16) K hk hn dJ4_checkIndex_6 (by decide) (fun hc => absurd h.2 (by omega)) (fun _ => ?_)
  refine lv_iload_n (pc := 16) K.x K.b dJ4_checkIndex_16 rfl (lv_at hl 0 rfl) ?_
  exact z_iret (pc := 17) K hw hk rfl dJ4_checkIndex_17
theorem met_J2_checkIndex {k n : Int} (hk : rng k) (hn : rng n) (h : 0 ≤ k ∧ k < n) : MetT l yJ2_checkIndex (ws_ yJ2_checkIndex cJ2_checkIndex 2 none) (zrm 2 0 0) (ZP X σ [jI k, jI n]) (ZQ X (qV (fun σ' => σ' = σ)) (fun _ _ => False)) 0 0 (zA X) := by
  refine z_start (own := "java/lang/String") (lv := [(0, jI k), (1, jI n)]) (by decide) rfl rfl (Nat.le_of_ble_eq_true rfl) (fun p e s m below meth c ls K _ _ hw hl => ?_)
  refine lv_iload_n (pc := 0) K.x K.b dJ2_checkIndex_0 rfl (lv_at hl 0 rfl) ?_
  refine lv_iload_n (pc := 1) K.x K.b dJ2_checkIndex_1 rfl (lv_at hl 1 rfl) ?_
  have key : ∀ fv : Value, (fv = .null ∨ ∃ t, fv = .ref t) → va_Z "jdk/internal/util/Preconditions" "SIOOBE_FORMATTER" "Ljava/util/function/BiFunction;" fv (zA X) s s.heap → W p l e (zrm 2 0 0) s m [jI k, jI n].toArray below meth c s.heap [] 0 0 (MQT below (ZQ X (qV (fun σ' => σ' = σ)) (fun _ _ => False)) [jI k, jI n].toArray s 0 0 (zA X)) (F0 m 2 ls [jI n, jI k]) := by
    intro fv hf hZ
    refine va_gets (pc := 2) K.x K.b hZ hw.2 K.o (K.ts _ q730) (fun _ h => h) dJ2_checkIndex_2 ?_
    refine z_call (pc := 5) (maxL := 3) K hw (met_J4_checkIndex hf hk hn h) (i_S (n := 3) (As := [jI k, jI n, fv]) K (by decide) q732 q733 q105 (sg_of K q734) rfl rfl dJ2_checkIndex_5) (locw K q734 q105) ⟨rfl, rfl⟩ ⟨by decide, by decide⟩ hl.1 dJ2_checkIndex_5 (Nat.le_of_ble_eq_true rfl) ⟨Nat.le_refl _, Nat.le_refl _⟩ (fun v σ' H1 locs1 hv hw1 => ?_) (fun _ _ _ _ _ h _ => h.elim)
    obtain ⟨z, rfl, -, rfl⟩ := hv
    refine lv_pop (pc := 8) K.x K.b dJ2_checkIndex_8 rfl ?_
    exact z_vret (pc := 9) K hw1 rfl dJ2_checkIndex_9
  rcases K.env.2.2.2.2.1 with h | ⟨t, h⟩
  · exact key _ (Or.inl rfl) h
  · exact key _ (Or.inr ⟨t, rfl⟩) h
theorem met_J3_charAt {k : Int} (hi : i < 38) (hk : 0 ≤ k ∧ k < ((zlen.getD i 0 : Nat) : Int)) : MetT l yJ3_charAt (ws_ yJ3_charAt cJ3_charAt 2 (some .char)) (zrm 3 0 0) (ZP X σ [.ref (cs X (100 + i)), jI k]) (ZQ X (qI (fun z σ' => σ' = σ ∧ z = ((zbyt.getD i []).getD k.toNat 0).toInt)) (fun _ _ => False)) 0 0 (zA X) := by
  refine z_start (own := "java/lang/StringLatin1") (lv := [(0, .ref (cs X (100 + i))), (1, jI k)]) (by decide) rfl rfl (Nat.le_of_ble_eq_true rfl) (fun p e s m below meth c ls K _ _ hw hl => ?_)
  obtain ⟨q, hq⟩ := z_strq i hi
  obtain ⟨e1, e2, e3, e4, e5⟩ := K.env.2.2.1 i q hq
  obtain ⟨a1, a2, a3⟩ := str_all i hi
  have hkr : rng k := ⟨by omega, by omega⟩
  have hnr : rng ((zlen.getD i 0 : Nat) : Int) := ⟨by omega, by omega⟩
  obtain ⟨b1, b2, b3, b4⟩ := a3 ((zbyt.getD i []).getD k.toNat 0) (getD_mem (by omega))
  refine lv_iload_n (pc := 0) K.x K.b dJ3_charAt_0 rfl (lv_at hl 1 rfl) ?_
  refine lv_aload_n (pc := 1) K.x K.b dJ3_charAt_1 rfl (lv_at hl 0 rfl) ?_
  refine va_tlen (pc := 2) K.x K.b e5 hw.2 (v := Int32.ofInt ((zlen.getD i 0 : Nat) : Int)) rfl dJ3_charAt_2 ?_
  refine zc_v (pc := 3) (maxL := 2) (Q' := fun σ' => σ' = σ) K hw (met_J2_checkIndex hkr hnr hk) (i_S (n := 2) (As := [jI k, jI ((zlen.getD i 0 : Nat) : Int)]) K (by decide) q727 q728 q103 (sg_of K q729) rfl rfl dJ3_charAt_3) (locw K q729 q103) ⟨by decide, by decide⟩ hl.1 dJ3_charAt_3 (Nat.le_of_ble_eq_true rfl) ⟨Nat.le_refl _, Nat.le_refl _⟩ (fun σ' H1 locs1 hv hw1 => ?_)
  subst hv
  refine lv_aload_n (pc := 6) K.x K.b dJ3_charAt_6 rfl (lv_at hl 0 rfl) ?_
  refine lv_iload_n (pc := 7) K.x K.b dJ3_charAt_7 rfl (lv_at hl 1 rfl) ?_
  obtain ⟨i1, i2, i3⟩ := z_ix hk (by omega) (zlen.getD i 0) rfl
  refine va_tb (pc := 8) K.x K.b e5 hw1.2 i1 (v := .int ((zbyt.getD i []).getD k.toNat 0)) (by rw [i2]) dJ3_charAt_8 ?_
  refine lv_sipush (pc := 9) (v := 255) K.x K.b dJ3_charAt_9 (by decide) ?_
  refine lv_iand (pc := 12) K.x K.b dJ3_charAt_12 ?_
  refine lv_i2c (pc := 13) K.x K.b dJ3_charAt_13 b1 ?_
  refine W.mono mq_mqt (W.zret (ty := .char) (hlocks := K.lk) K.x K.b K.r b2 (z_end hw1 ⟨_, ?_, ?_, rfl, rfl⟩) (z_fr hw1) dJ3_charAt_14)
  · show _ = some (Value.int (Int32.ofInt (Int32.toInt _)))
    rw [Int32.ofInt_toInt]
  · exact ⟨by omega, by omega⟩
theorem met_J2_charAt {k : Int} (hi : i < 38) (hk : 0 ≤ k ∧ k < ((zlen.getD i 0 : Nat) : Int)) : MetT l yJ2_charAt (ws_ yJ2_charAt cJ2_charAt 2 (some .char)) (zrm 4 0 0) (ZP X σ [.ref (cs X i), jI k]) (ZQ X (qI (fun z σ' => σ' = σ ∧ z = ((zbyt.getD i []).getD k.toNat 0).toInt)) (fun _ _ => False)) 0 0 (zA X) := by
  refine z_start (own := "java/lang/String") (lv := [(0, .ref (cs X i)), (1, jI k)]) (by decide) rfl rfl (Nat.le_of_ble_eq_true rfl) (fun p e s m below meth c ls K _ _ hw hl => ?_)
  obtain ⟨q, hq⟩ := z_strq i hi
  obtain ⟨e1, e2, e3, e4, e5⟩ := K.env.2.2.1 i q hq
  obtain ⟨a1, a2, a3⟩ := str_all i hi
  obtain ⟨b1, b2, b3, b4⟩ := a3 ((zbyt.getD i []).getD k.toNat 0) (getD_mem (by omega))
  refine lv_aload_n (pc := 0) K.x K.b dJ2_charAt_0 rfl (lv_at hl 0 rfl) ?_
  refine z_call (pc := 1) (maxL := 1) K hw (met_J2_isLatin1 hi) (i_Vs (n := 0) (As := []) K hw hi (by decide) q720 q721 q722 (sg_of K q723) rfl rfl dJ2_charAt_1) (locw K q723 q103) ⟨rfl, rfl⟩ ⟨by decide, by decide⟩ hl.1 dJ2_charAt_1 (Nat.le_of_ble_eq_true rfl) ⟨Nat.le_refl _, Nat.le_refl _⟩ (fun v σ' H1 locs1 hv hw1 => ?_) (fun _ _ _ _ _ h _ => h.elim)
  obtain ⟨rfl, rfl⟩ := hv
  refine z_if_eq (x := 1) (pc := 4) (tgt := 16) K ⟨by decide, by decide⟩ dJ2_charAt_4 (by decide) (fun hc => absurd hc (by decide)) (fun hc => ?_)
  refine lv_aload_n (pc := 7) K.x K.b dJ2_charAt_7 rfl (lv_at hl 0 rfl) ?_
  refine vk_getf (pc := 8) K.x K.b e4 hw1.2 K.o (K.ts _ q2074) (fun _ h => h) dJ2_charAt_8 ?_
  refine lv_iload_n (pc := 11) K.x K.b dJ2_charAt_11 rfl (lv_at hl 1 rfl) ?_
  refine zc_i (pc := 12) (maxL := 2) K hw1 (met_J3_charAt hi hk) (i_S (n := 2) (As := [.ref (cs X (100 + i)), jI k]) K (by decide) q724 q725 q104 (sg_of K q726) rfl rfl dJ2_charAt_12) (locw K q726 q104) ⟨by decide, by decide⟩ hl.1 dJ2_charAt_12 (Nat.le_of_ble_eq_true rfl) ⟨Nat.le_refl _, Nat.le_refl _⟩ (fun z σ1 H2 locs2 hr hv hw2 => ?_)
  obtain ⟨rfl, rfl⟩ := hv
  refine W.mono mq_mqt (W.zret (ty := .char) (hlocks := K.lk) K.x K.b K.r (by show narrow .char (.int (Int32.ofInt (Int32.toInt _))) = .int (Int32.ofInt (Int32.toInt _)); rw [Int32.ofInt_toInt]; exact b2) (z_end hw2 ⟨_, rfl, hr, rfl, rfl⟩) (z_fr hw2) dJ2_charAt_15)
end ZT
section ZU
variable {X : Cxt} {p : Program} {l : Launch} {e : Env} {R : Room} {s : State} {m : MethodId} {args : Array Value} {below : List Frame} {meth : Method} {c : Code} {H : Heap} {locs : List Loc} {cells slots : Nat} {Q : State → Prop}
variable {cc : ByteArray} {nL : Nat} {own : String} {ret : Option FieldType} {pc : Nat} {ls : Array Slot} {rest : List Value} {σ : St} {index : Nat}
theorem sl_rng {w : Int} (hw : w ≤ -2 ∧ -40 < w) : 0 ≤ slen w ∧ slen w < 10 := by
  obtain ⟨-, a2, -⟩ := str_all (-w - 2).toNat (by omega)
  unfold slen
  omega
theorem z_slen {w : Int} (K : MCx X p s m args meth c cc nL own ret) (hw : Wc X σ s.heap H locs) (hs : w ≤ -2 ∧ -40 < w) (q1 : Cond.methodLink own index yJ2_length ∈ lw_all) (hfr : 3 ≤ R.frames ∧ 120 ≤ R.locals) (hc : cells ≤ R.cells ∧ slots ≤ R.slots) (hl : ls.size = nL) (hst : rest.length ≤ 4) (hd : decode cc pc = .ok (.invokevirtual index, 3))
    (kk : ∀ (H1 : Heap) (locs1 : List Loc), Wc X σ s.heap H1 locs1 → W p l e R s m args below meth c H1 locs1 cells slots Q (F0 m (pc + 3) ls (jI (slen w) :: rest))) : W p l e R s m args below meth c H locs cells slots Q (F0 m pc ls (jR X w :: rest)) := by
  have hi : (-w - 2).toNat < 38 := by omega
  rw [jR_str hs.1]
  refine zc_i (maxL := 1) K hw (met_J2_length hi) (i_Vs (n := 0) (As := []) K hw hi (by decide) q1 q707 q708 (sg_of K q709) rfl rfl hd) (locw K q709 q103) ⟨by omega, by omega⟩ hl hd hst hc (fun z σ' H1 locs1 hr hv hw1 => ?_)
  obtain ⟨rfl, rfl⟩ := hv
  exact kk H1 locs1 hw1
theorem z_schr {w k : Int} (K : MCx X p s m args meth c cc nL own ret) (hw : Wc X σ s.heap H locs) (hs : w ≤ -2 ∧ -40 < w) (hk : 0 ≤ k ∧ k < slen w) (q1 : Cond.methodLink own index yJ2_charAt ∈ lw_all) (hfr : 5 ≤ R.frames ∧ 200 ≤ R.locals) (hc : cells ≤ R.cells ∧ slots ≤ R.slots) (hl : ls.size = nL) (hst : rest.length ≤ 4) (hd : decode cc pc = .ok (.invokevirtual index, 3))
    (kk : ∀ (H1 : Heap) (locs1 : List Loc), Wc X σ s.heap H1 locs1 → rng (schr w k) → W p l e R s m args below meth c H1 locs1 cells slots Q (F0 m (pc + 3) ls (jI (schr w k) :: rest))) : W p l e R s m args below meth c H locs cells slots Q (F0 m pc ls (jI k :: jR X w :: rest)) := by
  have hi : (-w - 2).toNat < 38 := by omega
  rw [jR_str hs.1]
  refine zc_i (maxL := 2) K hw (met_J2_charAt hi hk) (i_Vs (n := 1) (As := [jI k]) K hw hi (by decide) q1 q717 q718 (sg_of K q719) rfl rfl hd) (locw K q719 q103) ⟨by omega, by omega⟩ hl hd hst hc (fun z σ' H1 locs1 hr hv hw1 => ?_)
  obtain ⟨rfl, rfl⟩ := hv
  exact kk H1 locs1 hw1 hr
end ZU
