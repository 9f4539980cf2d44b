/-! WRAPPED ROWS, as the generator prints them -/
set_option maxRecDepth 100000
def zrm (d mc ms : Nat) : Room := { frames := d, cells := mc, slots := ms, locals := 40 * d }
theorem lvz_args (X : Cxt) : ∀ (vs : List Value), (∀ v ∈ vs, v.category ≤ 2) → (lg_sl vs).length = (vs.map fun v => v.category).sum
  | [], _ => rfl
  | v :: vs, h => by
    have h1 := lvz_args X vs (fun w hw => h w (List.mem_cons_of_mem _ hw))
    have h2 := h v List.mem_cons_self
    have h3 : v.category = 1 ∨ v.category = 2 := by cases v <;> simp [Value.category]
    rcases h3 with h3 | h3
    · simp [lg_sl, h3] at h1 ⊢; omega
    · simp [lg_sl, h3] at h1 ⊢; omega
section ZS
variable {X : Cxt} {l : Launch} {σ : St}
/-- a method's entry -/
theorem z_start {y : MethodName} {cc : ByteArray} {nL : Nat} {own : String} {ret : Option FieldType} {rm : Room} {vs : List Value} {lv : List (Nat × Value)} {Qc : Array Value → State → Outcome → State → Prop} {mc ms : Nat} (hy : plainName y.cls = true) (ho : y.cls = own) (hlv : lv_args 0 vs = lv) (hn : (lg_sl vs).length ≤ nL)
    (body : ∀ (p : Program) (e : Env) (s : State) (m : MethodId) (below : List Frame) (meth : Method) (c : Code) (ls : Array Slot), MCx X p s m vs.toArray meth c cc nL own ret → c.exceptionTable.isEmpty = true → meth.name = y.name → Wc X σ s.heap s.heap [] → lv_has ls nL lv → W p l e rm s m vs.toArray below meth c s.heap [] 0 0 (MQT below Qc vs.toArray s mc ms (zA X)) (F0 m 0 ls [])) :
    MetT l y (ws_ y cc nL ret) rm (ZP X σ vs) Qc mc ms (zA X) := by
  refine MetT.ofW (cc := cc) (maxL := nL) (ret := ret) hy rfl ?_
  intro p e s m args below meth c s₁ B hml hv
  obtain ⟨rfl, hS, hE⟩ := hv
  have hts := atoms_spec (ws := ws_ y cc nL ret) B.pre
  have hown : s.vm.findClass y.cls = some m.cls := findClass_of_methodNamed B.named
  rw [lg_entry_eq]
  have hl := lv_entry vs (n := nL) hn
  rw [hlv] at hl
  refine body p e s m below meth c _ ⟨B.exec, B.bytes, hml, by rw [← ho]; exact hown, fun w h => hts w (List.mem_cons_of_mem _ h), B.returns, B.notSynchronized, hE, ?_⟩ (B.noHandlers (hts _ List.mem_cons_self)) (name_of_methodNamed B.named B.method).1 ⟨hS, va_S.rf⟩ hl
  have := hS.2.2.2.2.2.2.1
  have := hS.2.2.2.2.2.2.2.1
  omega
theorem z_startW {y : MethodName} {cc : ByteArray} {nL : Nat} {own : String} {ret : Option FieldType} {rm : Room} {vs : List Value} {lv : List (Nat × Value)} {Qc : Array Value → State → Outcome → State → Prop} {mc ms : Nat} {hh : List (Nat × Nat × Nat × Nat)} (hy : plainName y.cls = true) (ho : y.cls = own) (hlv : lv_args 0 vs = lv) (hn : (lg_sl vs).length ≤ nL)
    (body : ∀ (p : Program) (e : Env) (s : State) (m : MethodId) (below : List Frame) (meth : Method) (c : Code) (ls : Array Slot), MCx X p s m vs.toArray meth c cc nL own ret → c.exceptionTable.toList.map (fun h => (h.startPc, h.endPc, h.handlerPc, h.catchType)) = hh → Wc X σ s.heap s.heap [] → lv_has ls nL lv → W p l e rm s m vs.toArray below meth c s.heap [] 0 0 (MQT below Qc vs.toArray s mc ms (zA X)) (F0 m 0 ls [])) :
    MetT l y (wsW_ y cc nL ret hh) rm (ZP X σ vs) Qc mc ms (zA X) := by
  refine MetT.ofWW (cc := cc) (maxL := nL) (ret := ret) hy rfl ?_
  intro p e s m args below meth c s₁ B hml hv hex
  obtain ⟨rfl, hS, hE⟩ := hv
  have hts := atoms_spec (ws := wsW_ y cc nL ret hh) B.pre
  have hown : s.vm.findClass y.cls = some m.cls := findClass_of_methodNamed B.named
  rw [lg_entry_eq]
  have hl := lv_entry vs (n := nL) hn
  rw [hlv] at hl
  refine body p e s m below meth c _ ⟨B.exec, B.bytes, hml, by rw [← ho]; exact hown, fun w h => hts w (List.mem_cons_of_mem _ h), B.returns, B.notSynchronized, hE, ?_⟩ hex ⟨hS, va_S.rf⟩ hl
  have := hS.2.2.2.2.2.2.1
  have := hS.2.2.2.2.2.2.2.1
  omega
end ZS
theorem no_cov {c : Code} (h : c.exceptionTable.isEmpty = true) (pc : Nat) : ∀ y ∈ c.exceptionTable.toList, covers y pc = false := by
  intro y hy
  have : c.exceptionTable = #[] := by simpa using h
  rw [this] at hy
  simp at hy
section ZW
variable {X : Cxt} {p : Program} {l : Launch} {e : Env} {R : Room} {s : State} {m : MethodId} {args : Array Value} {below : List Frame} {meth : Method} {c : Code} {H : Heap} {locs : List Loc} {cells slots : Nat} {Q : State → Prop}
variable {cc : ByteArray} {nL : Nat} {own : String} {ret : Option FieldType} {pc : Nat} {ls : Array Slot} {rest : List Value} {σ : St} {a z : Int} {t : Nat} {C : String} {T : u_T} {N : Nat} {ref host : String} {index : Nat}
theorem z_puti (k : Nat) (K : MCx X p s m args meth c cc nL own ret) (hw : Wc X σ s.heap H locs) (ho : Ob σ a t) (hq : zcl[t - 1]? = some (C, T, N)) (hk : k < N) (hkf : kf t k = 0) (hty : zty t k = .int) (hr : rng z)
    (hl : Cond.fieldLink own index ref (T k).2.1 (T k).2.2.1 ∈ lw_all) (hsame : ∀ x, s.fieldFound? (T k).1 (T k).2.1 (T k).2.2.1 = some x → s.fieldFound? ref (T k).2.1 (T k).2.2.1 = some x) (hfin : (T k).2.2.2 = false) (hd : decode cc pc = .ok (.putfield index, 3))
    (kk : ∀ (H1 : Heap) (locs1 : List Loc), Wc X (st σ a k 0 z) s.heap H1 locs1 → W p l e R s m args below meth c H1 locs1 cells slots Q (F0 m (pc + 3) ls rest)) : W p l e R s m args below meth c H locs cells slots Q (F0 m pc ls (jI z :: jR X a :: rest)) :=
  z_put K hw ho hq hk (by omega) (by rw [zval_i hkf, st_eq]) (fit_i hty z) (fun _ => hr) (fun h => by omega) (fun h => by omega) (fun h => by omega) hl hsame hfin hd kk
theorem z_putz (k : Nat) (K : MCx X p s m args meth c cc nL own ret) (hw : Wc X σ s.heap H locs) (ho : Ob σ a t) (hq : zcl[t - 1]? = some (C, T, N)) (hk : k < N) (hkf : kf t k = 1) (hty : zty t k = .boolean) (hr : 0 ≤ z ∧ z ≤ 1)
    (hl : Cond.fieldLink own index ref (T k).2.1 (T k).2.2.1 ∈ lw_all) (hsame : ∀ x, s.fieldFound? (T k).1 (T k).2.1 (T k).2.2.1 = some x → s.fieldFound? ref (T k).2.1 (T k).2.2.1 = some x) (hfin : (T k).2.2.2 = false) (hd : decode cc pc = .ok (.putfield index, 3))
    (kk : ∀ (H1 : Heap) (locs1 : List Loc), Wc X (st σ a k 0 z) s.heap H1 locs1 → W p l e R s m args below meth c H1 locs1 cells slots Q (F0 m (pc + 3) ls rest)) : W p l e R s m args below meth c H locs cells slots Q (F0 m pc ls (jI z :: jR X a :: rest)) :=
  z_put K hw ho hq hk (by omega) (by rw [zval_z hkf, st_eq]) (fit_z hty hr) (fun h => by omega) (fun _ => hr) (fun h => by omega) (fun h => by omega) hl hsame hfin hd kk
theorem z_putl (k : Nat) (K : MCx X p s m args meth c cc nL own ret) (hw : Wc X σ s.heap H locs) (ho : Ob σ a t) (hq : zcl[t - 1]? = some (C, T, N)) (hk : k < N) (hkf : kf t k = 2) (hty : zty t k = .long) (hr : rngL z)
    (hl : Cond.fieldLink own index ref (T k).2.1 (T k).2.2.1 ∈ lw_all) (hsame : ∀ x, s.fieldFound? (T k).1 (T k).2.1 (T k).2.2.1 = some x → s.fieldFound? ref (T k).2.1 (T k).2.2.1 = some x) (hfin : (T k).2.2.2 = false) (hd : decode cc pc = .ok (.putfield index, 3))
    (kk : ∀ (H1 : Heap) (locs1 : List Loc), Wc X (st σ a k 0 z) s.heap H1 locs1 → W p l e R s m args below meth c H1 locs1 cells slots Q (F0 m (pc + 3) ls rest)) : W p l e R s m args below meth c H locs cells slots Q (F0 m pc ls (jL z :: jR X a :: rest)) :=
  z_put K hw ho hq hk (by omega) (by rw [zval_l hkf, st_eq]) (fit_l hty z) (fun h => by omega) (fun h => by omega) (fun _ => hr) (fun h => by omega) hl hsame hfin hd kk
theorem z_putr (k : Nat) (K : MCx X p s m args meth c cc nL own ret) (hw : Wc X σ s.heap H locs) (ho : Ob σ a t) (hq : zcl[t - 1]? = some (C, T, N)) (hk : k < N) (hkf : kf t k = 3) (hty : isObj (zty t k) = true) (hr : (z = -1 ∧ kn t k = 0) ∨ okR σ (kt t k) z)
    (hl : Cond.fieldLink own index ref (T k).2.1 (T k).2.2.1 ∈ lw_all) (hsame : ∀ x, s.fieldFound? (T k).1 (T k).2.1 (T k).2.2.1 = some x → s.fieldFound? ref (T k).2.1 (T k).2.2.1 = some x) (hfin : (T k).2.2.2 = false) (hd : decode cc pc = .ok (.putfield index, 3))
    (kk : ∀ (H1 : Heap) (locs1 : List Loc), Wc X (st σ a k 0 z) s.heap H1 locs1 → W p l e R s m args below meth c H1 locs1 cells slots Q (F0 m (pc + 3) ls rest)) : W p l e R s m args below meth c H locs cells slots Q (F0 m pc ls (jR X z :: jR X a :: rest)) :=
  z_put K hw ho hq hk (by omega) (by rw [zval_r hkf, st_eq]) (fit_r hty z) (fun h => by omega) (fun h => by omega) (fun h => by omega) (fun _ _ => hr) hl hsame hfin hd kk
theorem z_putiN (k : Nat) (K : MCx X p s m args meth c cc nL own ret) (hw : Wc X σ s.heap H locs) (ho : Ob σ a t) (hq : zcl[t - 1]? = some (C, T, N)) (hk : k < N) (hkf : kf t k = 0) (hty : zty t k = .int) (hr : rng z)
    (hl : Cond.fieldLinkNest own index ref (T k).2.1 (T k).2.2.1 host ∈ lw_tbl) (hsame : ∀ x, s.fieldFound? (T k).1 (T k).2.1 (T k).2.2.1 = some x → s.fieldFound? ref (T k).2.1 (T k).2.2.1 = some x) (hfin : (T k).2.2.2 = false) (hd : decode cc pc = .ok (.putfield index, 3))
    (kk : ∀ (H1 : Heap) (locs1 : List Loc), Wc X (st σ a k 0 z) s.heap H1 locs1 → W p l e R s m args below meth c H1 locs1 cells slots Q (F0 m (pc + 3) ls rest)) : W p l e R s m args below meth c H locs cells slots Q (F0 m pc ls (jI z :: jR X a :: rest)) :=
  z_putN K hw ho hq hk (by omega) (by rw [zval_i hkf, st_eq]) (fit_i hty z) (fun _ => hr) (fun h => by omega) (fun h => by omega) (fun h => by omega) hl hsame hfin hd kk
theorem z_putzN (k : Nat) (K : MCx X p s m args meth c cc nL own ret) (hw : Wc X σ s.heap H locs) (ho : Ob σ a t) (hq : zcl[t - 1]? = some (C, T, N)) (hk : k < N) (hkf : kf t k = 1) (hty : zty t k = .boolean) (hr : 0 ≤ z ∧ z ≤ 1)
    (hl : Cond.fieldLinkNest own index ref (T k).2.1 (T k).2.2.1 host ∈ lw_tbl) (hsame : ∀ x, s.fieldFound? (T k).1 (T k).2.1 (T k).2.2.1 = some x → s.fieldFound? ref (T k).2.1 (T k).2.2.1 = some x) (hfin : (T k).2.2.2 = false) (hd : decode cc pc = .ok (.putfield index, 3))
    (kk : ∀ (H1 : Heap) (locs1 : List Loc), Wc X (st σ a k 0 z) s.heap H1 locs1 → W p l e R s m args below meth c H1 locs1 cells slots Q (F0 m (pc + 3) ls rest)) : W p l e R s m args below meth c H locs cells slots Q (F0 m pc ls (jI z :: jR X a :: rest)) :=
  z_putN K hw ho hq hk (by omega) (by rw [zval_z hkf, st_eq]) (fit_z hty hr) (fun h => by omega) (fun _ => hr) (fun h => by omega) (fun h => by omega) hl hsame hfin hd kk
end ZW
theorem zq1 : zcl[1 - 1]? = some (RX1, TX1, 38) := rfl
theorem kf_1_0 : kf 1 0 = 10 := rfl
theorem kl_1_0 : ((kl 1 0 : Nat) : Int) = 940 := rfl
theorem kf_1_1 : kf 1 1 = 0 := rfl
theorem zt_1_1 : zty 1 1 = .int := rfl
theorem kf_1_2 : kf 1 2 = 0 := rfl
theorem zt_1_2 : zty 1 2 = .int := rfl
theorem kf_1_3 : kf 1 3 = 0 := rfl
theorem zt_1_3 : zty 1 3 = .int := rfl
theorem kf_1_4 : kf 1 4 = 3 := rfl
theorem zt_1_4 : isObj (zty 1 4) = true := rfl
theorem kn_1_4 : kn 1 4 = 1 := rfl
theorem kt_1_4 : kt 1 4 = 2 := rfl
theorem kf_1_5 : kf 1 5 = 14 := rfl
theorem kl_1_5 : ((kl 1 5 : Nat) : Int) = 6 := rfl
theorem kt_1_5 : kt 1 5 = 0 := rfl
theorem kf_1_6 : kf 1 6 = 14 := rfl
theorem kl_1_6 : ((kl 1 6 : Nat) : Int) = 13 := rfl
theorem kt_1_6 : kt 1 6 = 0 := rfl
theorem kf_1_7 : kf 1 7 = 14 := rfl
theorem kl_1_7 : ((kl 1 7 : Nat) : Int) = 6 := rfl
theorem kt_1_7 : kt 1 7 = 0 := rfl
theorem kf_1_8 : kf 1 8 = 3 := rfl
theorem zt_1_8 : isObj (zty 1 8) = true := rfl
theorem kn_1_8 : kn 1 8 = 1 := rfl
theorem kt_1_8 : kt 1 8 = 3 := rfl
theorem kf_1_9 : kf 1 9 = 3 := rfl
theorem zt_1_9 : isObj (zty 1 9) = true := rfl
theorem kn_1_9 : kn 1 9 = 1 := rfl
theorem kt_1_9 : kt 1 9 = 3 := rfl
theorem kf_1_10 : kf 1 10 = 3 := rfl
theorem zt_1_10 : isObj (zty 1 10) = true := rfl
theorem kn_1_10 : kn 1 10 = 1 := rfl
theorem kt_1_10 : kt 1 10 = 3 := rfl
theorem kf_1_11 : kf 1 11 = 3 := rfl
theorem zt_1_11 : isObj (zty 1 11) = true := rfl
theorem kn_1_11 : kn 1 11 = 1 := rfl
theorem kt_1_11 : kt 1 11 = 5 := rfl
theorem kf_1_12 : kf 1 12 = 3 := rfl
theorem zt_1_12 : isObj (zty 1 12) = true := rfl
theorem kn_1_12 : kn 1 12 = 1 := rfl
theorem kt_1_12 : kt 1 12 = 5 := rfl
theorem kf_1_13 : kf 1 13 = 3 := rfl
theorem zt_1_13 : isObj (zty 1 13) = true := rfl
theorem kn_1_13 : kn 1 13 = 1 := rfl
theorem kt_1_13 : kt 1 13 = 5 := rfl
theorem kf_1_14 : kf 1 14 = 3 := rfl
theorem zt_1_14 : isObj (zty 1 14) = true := rfl
theorem kn_1_14 : kn 1 14 = 1 := rfl
theorem kt_1_14 : kt 1 14 = 6 := rfl
theorem kf_1_15 : kf 1 15 = 3 := rfl
theorem zt_1_15 : isObj (zty 1 15) = true := rfl
theorem kn_1_15 : kn 1 15 = 1 := rfl
theorem kt_1_15 : kt 1 15 = 7 := rfl
theorem kf_1_16 : kf 1 16 = 3 := rfl
theorem zt_1_16 : isObj (zty 1 16) = true := rfl
theorem kn_1_16 : kn 1 16 = 1 := rfl
theorem kt_1_16 : kt 1 16 = 8 := rfl
theorem kf_1_17 : kf 1 17 = 0 := rfl
theorem zt_1_17 : zty 1 17 = .int := rfl
theorem kf_1_18 : kf 1 18 = 0 := rfl
theorem zt_1_18 : zty 1 18 = .int := rfl
theorem kf_1_19 : kf 1 19 = 11 := rfl
theorem kl_1_19 : ((kl 1 19 : Nat) : Int) = 24 := rfl
theorem kf_1_20 : kf 1 20 = 11 := rfl
theorem kl_1_20 : ((kl 1 20 : Nat) : Int) = 24 := rfl
theorem kf_1_21 : kf 1 21 = 11 := rfl
theorem kl_1_21 : ((kl 1 21 : Nat) : Int) = 24 := rfl
theorem kf_1_22 : kf 1 22 = 0 := rfl
theorem zt_1_22 : zty 1 22 = .int := rfl
theorem kf_1_23 : kf 1 23 = 1 := rfl
theorem zt_1_23 : zty 1 23 = .boolean := rfl
theorem kf_1_24 : kf 1 24 = 0 := rfl
theorem zt_1_24 : zty 1 24 = .int := rfl
theorem kf_1_25 : kf 1 25 = 0 := rfl
theorem zt_1_25 : zty 1 25 = .int := rfl
theorem kf_1_26 : kf 1 26 = 11 := rfl
theorem kl_1_26 : ((kl 1 26 : Nat) : Int) = 7 := rfl
theorem kf_1_27 : kf 1 27 = 11 := rfl
theorem kl_1_27 : ((kl 1 27 : Nat) : Int) = 7 := rfl
theorem kf_1_28 : kf 1 28 = 0 := rfl
theorem zt_1_28 : zty 1 28 = .int := rfl
theorem kf_1_29 : kf 1 29 = 0 := rfl
theorem zt_1_29 : zty 1 29 = .int := rfl
theorem kf_1_30 : kf 1 30 = 11 := rfl
theorem kl_1_30 : ((kl 1 30 : Nat) : Int) = 8 := rfl
theorem kf_1_31 : kf 1 31 = 0 := rfl
theorem zt_1_31 : zty 1 31 = .int := rfl
theorem kf_1_32 : kf 1 32 = 3 := rfl
theorem zt_1_32 : isObj (zty 1 32) = true := rfl
theorem kn_1_32 : kn 1 32 = 0 := rfl
theorem kt_1_32 : kt 1 32 = 3 := rfl
theorem kf_1_33 : kf 1 33 = 3 := rfl
theorem zt_1_33 : isObj (zty 1 33) = true := rfl
theorem kn_1_33 : kn 1 33 = 1 := rfl
theorem kt_1_33 : kt 1 33 = 9 := rfl
theorem kf_1_34 : kf 1 34 = 3 := rfl
theorem zt_1_34 : isObj (zty 1 34) = true := rfl
theorem kn_1_34 : kn 1 34 = 0 := rfl
theorem kt_1_34 : kt 1 34 = 100 := rfl
theorem kf_1_35 : kf 1 35 = 17 := rfl
theorem kl_1_35 : ((kl 1 35 : Nat) : Int) = 2 := rfl
theorem kt_1_35 : kt 1 35 = 3 := rfl
theorem kf_1_36 : kf 1 36 = 18 := rfl
theorem kl_1_36 : ((kl 1 36 : Nat) : Int) = 2 := rfl
theorem kt_1_36 : kt 1 36 = 5 := rfl
theorem kf_1_37 : kf 1 37 = 19 := rfl
theorem kl_1_37 : ((kl 1 37 : Nat) : Int) = 2 := rfl
theorem kt_1_37 : kt 1 37 = 100 := rfl
theorem zq2 : zcl[2 - 1]? = some (RX2, TX2, 8) := rfl
theorem kf_2_0 : kf 2 0 = 5 := rfl
theorem zt_2_0 : (isObj (zty 2 0) || isArr (zty 2 0)) = true := rfl
theorem kf_2_1 : kf 2 1 = 5 := rfl
theorem zt_2_1 : (isObj (zty 2 1) || isArr (zty 2 1)) = true := rfl
theorem kf_2_2 : kf 2 2 = 5 := rfl
theorem zt_2_2 : (isObj (zty 2 2) || isArr (zty 2 2)) = true := rfl
theorem kf_2_3 : kf 2 3 = 5 := rfl
theorem zt_2_3 : (isObj (zty 2 3) || isArr (zty 2 3)) = true := rfl
theorem kf_2_4 : kf 2 4 = 5 := rfl
theorem zt_2_4 : (isObj (zty 2 4) || isArr (zty 2 4)) = true := rfl
theorem kf_2_5 : kf 2 5 = 0 := rfl
theorem zt_2_5 : zty 2 5 = .int := rfl
theorem kf_2_6 : kf 2 6 = 0 := rfl
theorem zt_2_6 : zty 2 6 = .int := rfl
theorem kf_2_7 : kf 2 7 = 0 := rfl
theorem zt_2_7 : zty 2 7 = .int := rfl
theorem zq3 : zcl[3 - 1]? = some (RX3, TX3, 10) := rfl
theorem kf_3_0 : kf 3 0 = 3 := rfl
theorem zt_3_0 : isObj (zty 3 0) = true := rfl
theorem kn_3_0 : kn 3 0 = 1 := rfl
theorem kt_3_0 : kt 3 0 = 4 := rfl
theorem kf_3_1 : kf 3 1 = 11 := rfl
theorem kl_3_1 : ((kl 3 1 : Nat) : Int) = 400 := rfl
theorem kf_3_2 : kf 3 2 = 11 := rfl
theorem kl_3_2 : ((kl 3 2 : Nat) : Int) = 400 := rfl
theorem kf_3_3 : kf 3 3 = 11 := rfl
theorem kl_3_3 : ((kl 3 3 : Nat) : Int) = 400 := rfl
theorem kf_3_4 : kf 3 4 = 11 := rfl
theorem kl_3_4 : ((kl 3 4 : Nat) : Int) = 400 := rfl
theorem kf_3_5 : kf 3 5 = 11 := rfl
theorem kl_3_5 : ((kl 3 5 : Nat) : Int) = 400 := rfl
theorem kf_3_6 : kf 3 6 = 11 := rfl
theorem kl_3_6 : ((kl 3 6 : Nat) : Int) = 400 := rfl
theorem kf_3_7 : kf 3 7 = 11 := rfl
theorem kl_3_7 : ((kl 3 7 : Nat) : Int) = 400 := rfl
theorem kf_3_8 : kf 3 8 = 0 := rfl
theorem zt_3_8 : zty 3 8 = .int := rfl
theorem kf_3_9 : kf 3 9 = 0 := rfl
theorem zt_3_9 : zty 3 9 = .int := rfl
theorem zq4 : zcl[4 - 1]? = some (RX4, TX4, 9) := rfl
theorem kf_4_0 : kf 4 0 = 15 := rfl
theorem kl_4_0 : ((kl 4 0 : Nat) : Int) = 8 := rfl
theorem kt_4_0 : kt 4 0 = 11 := rfl
theorem kf_4_1 : kf 4 1 = 16 := rfl
theorem kl_4_1 : ((kl 4 1 : Nat) : Int) = 10 := rfl
theorem kt_4_1 : kt 4 1 = 12 := rfl
theorem kf_4_2 : kf 4 2 = 11 := rfl
theorem kl_4_2 : ((kl 4 2 : Nat) : Int) = 6 := rfl
theorem kf_4_3 : kf 4 3 = 0 := rfl
theorem zt_4_3 : zty 4 3 = .int := rfl
theorem kf_4_4 : kf 4 4 = 0 := rfl
theorem zt_4_4 : zty 4 4 = .int := rfl
theorem kf_4_5 : kf 4 5 = 0 := rfl
theorem zt_4_5 : zty 4 5 = .int := rfl
theorem kf_4_6 : kf 4 6 = 0 := rfl
theorem zt_4_6 : zty 4 6 = .int := rfl
theorem kf_4_7 : kf 4 7 = 1 := rfl
theorem zt_4_7 : zty 4 7 = .boolean := rfl
theorem kf_4_8 : kf 4 8 = 1 := rfl
theorem zt_4_8 : zty 4 8 = .boolean := rfl
theorem zq5 : zcl[5 - 1]? = some (RX5, TX5, 3) := rfl
theorem kf_5_0 : kf 5 0 = 11 := rfl
theorem kl_5_0 : ((kl 5 0 : Nat) : Int) = 24 := rfl
theorem kf_5_1 : kf 5 1 = 11 := rfl
theorem kl_5_1 : ((kl 5 1 : Nat) : Int) = 24 := rfl
theorem kf_5_2 : kf 5 2 = 0 := rfl
theorem zt_5_2 : zty 5 2 = .int := rfl
theorem zq6 : zcl[6 - 1]? = some (RX7, TX7, 11) := rfl
theorem kf_6_0 : kf 6 0 = 0 := rfl
theorem zt_6_0 : zty 6 0 = .int := rfl
theorem kf_6_1 : kf 6 1 = 0 := rfl
theorem zt_6_1 : zty 6 1 = .int := rfl
theorem kf_6_2 : kf 6 2 = 0 := rfl
theorem zt_6_2 : zty 6 2 = .int := rfl
theorem kf_6_3 : kf 6 3 = 0 := rfl
theorem zt_6_3 : zty 6 3 = .int := rfl
theorem kf_6_4 : kf 6 4 = 0 := rfl
theorem zt_6_4 : zty 6 4 = .int := rfl
theorem kf_6_5 : kf 6 5 = 0 := rfl
theorem zt_6_5 : zty 6 5 = .int := rfl
theorem kf_6_6 : kf 6 6 = 2 := rfl
theorem zt_6_6 : zty 6 6 = .long := rfl
theorem kf_6_7 : kf 6 7 = 3 := rfl
theorem zt_6_7 : isObj (zty 6 7) = true := rfl
theorem kn_6_7 : kn 6 7 = 1 := rfl
theorem kt_6_7 : kt 6 7 = 1 := rfl
theorem kf_6_8 : kf 6 8 = 3 := rfl
theorem zt_6_8 : isObj (zty 6 8) = true := rfl
theorem kn_6_8 : kn 6 8 = 0 := rfl
theorem kt_6_8 : kt 6 8 = 4 := rfl
theorem kf_6_9 : kf 6 9 = 1 := rfl
theorem zt_6_9 : zty 6 9 = .boolean := rfl
theorem kf_6_10 : kf 6 10 = 3 := rfl
theorem zt_6_10 : isObj (zty 6 10) = true := rfl
theorem kn_6_10 : kn 6 10 = 1 := rfl
theorem kt_6_10 : kt 6 10 = 1 := rfl
theorem zq7 : zcl[7 - 1]? = some (RX8, TX8, 10) := rfl
theorem kf_7_0 : kf 7 0 = 0 := rfl
theorem zt_7_0 : zty 7 0 = .int := rfl
theorem kf_7_1 : kf 7 1 = 0 := rfl
theorem zt_7_1 : zty 7 1 = .int := rfl
theorem kf_7_2 : kf 7 2 = 0 := rfl
theorem zt_7_2 : zty 7 2 = .int := rfl
theorem kf_7_3 : kf 7 3 = 0 := rfl
theorem zt_7_3 : zty 7 3 = .int := rfl
theorem kf_7_4 : kf 7 4 = 0 := rfl
theorem zt_7_4 : zty 7 4 = .int := rfl
theorem kf_7_5 : kf 7 5 = 0 := rfl
theorem zt_7_5 : zty 7 5 = .int := rfl
theorem kf_7_6 : kf 7 6 = 2 := rfl
theorem zt_7_6 : zty 7 6 = .long := rfl
theorem kf_7_7 : kf 7 7 = 3 := rfl
theorem zt_7_7 : isObj (zty 7 7) = true := rfl
theorem kn_7_7 : kn 7 7 = 1 := rfl
theorem kt_7_7 : kt 7 7 = 1 := rfl
theorem kf_7_8 : kf 7 8 = 0 := rfl
theorem zt_7_8 : zty 7 8 = .int := rfl
theorem kf_7_9 : kf 7 9 = 3 := rfl
theorem zt_7_9 : isObj (zty 7 9) = true := rfl
theorem kn_7_9 : kn 7 9 = 1 := rfl
theorem kt_7_9 : kt 7 9 = 1 := rfl
theorem zq8 : zcl[8 - 1]? = some (RX9, TX9, 10) := rfl
theorem kf_8_0 : kf 8 0 = 0 := rfl
theorem zt_8_0 : zty 8 0 = .int := rfl
theorem kf_8_1 : kf 8 1 = 0 := rfl
theorem zt_8_1 : zty 8 1 = .int := rfl
theorem kf_8_2 : kf 8 2 = 0 := rfl
theorem zt_8_2 : zty 8 2 = .int := rfl
theorem kf_8_3 : kf 8 3 = 0 := rfl
theorem zt_8_3 : zty 8 3 = .int := rfl
theorem kf_8_4 : kf 8 4 = 0 := rfl
theorem zt_8_4 : zty 8 4 = .int := rfl
theorem kf_8_5 : kf 8 5 = 0 := rfl
theorem zt_8_5 : zty 8 5 = .int := rfl
theorem kf_8_6 : kf 8 6 = 2 := rfl
theorem zt_8_6 : zty 8 6 = .long := rfl
theorem kf_8_7 : kf 8 7 = 3 := rfl
theorem zt_8_7 : isObj (zty 8 7) = true := rfl
theorem kn_8_7 : kn 8 7 = 1 := rfl
theorem kt_8_7 : kt 8 7 = 1 := rfl
theorem kf_8_8 : kf 8 8 = 0 := rfl
theorem zt_8_8 : zty 8 8 = .int := rfl
theorem kf_8_9 : kf 8 9 = 3 := rfl
theorem zt_8_9 : isObj (zty 8 9) = true := rfl
theorem kn_8_9 : kn 8 9 = 1 := rfl
theorem kt_8_9 : kt 8 9 = 1 := rfl
theorem zq9 : zcl[9 - 1]? = some (RX10, TX10, 12) := rfl
theorem kf_9_0 : kf 9 0 = 0 := rfl
theorem zt_9_0 : zty 9 0 = .int := rfl
theorem kf_9_1 : kf 9 1 = 0 := rfl
theorem zt_9_1 : zty 9 1 = .int := rfl
theorem kf_9_2 : kf 9 2 = 0 := rfl
theorem zt_9_2 : zty 9 2 = .int := rfl
theorem kf_9_3 : kf 9 3 = 0 := rfl
theorem zt_9_3 : zty 9 3 = .int := rfl
theorem kf_9_4 : kf 9 4 = 0 := rfl
theorem zt_9_4 : zty 9 4 = .int := rfl
theorem kf_9_5 : kf 9 5 = 0 := rfl
theorem zt_9_5 : zty 9 5 = .int := rfl
theorem kf_9_6 : kf 9 6 = 2 := rfl
theorem zt_9_6 : zty 9 6 = .long := rfl
theorem kf_9_7 : kf 9 7 = 3 := rfl
theorem zt_9_7 : isObj (zty 9 7) = true := rfl
theorem kn_9_7 : kn 9 7 = 1 := rfl
theorem kt_9_7 : kt 9 7 = 1 := rfl
theorem kf_9_8 : kf 9 8 = 14 := rfl
theorem kl_9_8 : ((kl 9 8 : Nat) : Int) = 3 := rfl
theorem kt_9_8 : kt 9 8 = 0 := rfl
theorem kf_9_9 : kf 9 9 = 14 := rfl
theorem kl_9_9 : ((kl 9 9 : Nat) : Int) = 4 := rfl
theorem kt_9_9 : kt 9 9 = 0 := rfl
theorem kf_9_10 : kf 9 10 = 0 := rfl
theorem zt_9_10 : zty 9 10 = .int := rfl
theorem kf_9_11 : kf 9 11 = 3 := rfl
theorem zt_9_11 : isObj (zty 9 11) = true := rfl
theorem kn_9_11 : kn 9 11 = 1 := rfl
theorem kt_9_11 : kt 9 11 = 1 := rfl
theorem zq10 : zcl[10 - 1]? = some (RX11, TX11, 58) := rfl
theorem kf_10_0 : kf 10 0 = 0 := rfl
theorem zt_10_0 : zty 10 0 = .int := rfl
theorem kf_10_1 : kf 10 1 = 11 := rfl
theorem kl_10_1 : ((kl 10 1 : Nat) : Int) = 940 := rfl
theorem kf_10_2 : kf 10 2 = 0 := rfl
theorem zt_10_2 : zty 10 2 = .int := rfl
theorem kf_10_3 : kf 10 3 = 0 := rfl
theorem zt_10_3 : zty 10 3 = .int := rfl
theorem kf_10_4 : kf 10 4 = 0 := rfl
theorem zt_10_4 : zty 10 4 = .int := rfl
theorem kf_10_5 : kf 10 5 = 0 := rfl
theorem zt_10_5 : zty 10 5 = .int := rfl
theorem kf_10_6 : kf 10 6 = 0 := rfl
theorem zt_10_6 : zty 10 6 = .int := rfl
theorem kf_10_7 : kf 10 7 = 0 := rfl
theorem zt_10_7 : zty 10 7 = .int := rfl
theorem kf_10_8 : kf 10 8 = 0 := rfl
theorem zt_10_8 : zty 10 8 = .int := rfl
theorem kf_10_9 : kf 10 9 = 0 := rfl
theorem zt_10_9 : zty 10 9 = .int := rfl
theorem kf_10_10 : kf 10 10 = 0 := rfl
theorem zt_10_10 : zty 10 10 = .int := rfl
theorem kf_10_11 : kf 10 11 = 0 := rfl
theorem zt_10_11 : zty 10 11 = .int := rfl
theorem kf_10_12 : kf 10 12 = 2 := rfl
theorem zt_10_12 : zty 10 12 = .long := rfl
theorem kf_10_13 : kf 10 13 = 0 := rfl
theorem zt_10_13 : zty 10 13 = .int := rfl
theorem kf_10_14 : kf 10 14 = 11 := rfl
theorem kl_10_14 : ((kl 10 14 : Nat) : Int) = 1152 := rfl
theorem kf_10_15 : kf 10 15 = 11 := rfl
theorem kl_10_15 : ((kl 10 15 : Nat) : Int) = 60 := rfl
theorem kf_10_16 : kf 10 16 = 11 := rfl
theorem kl_10_16 : ((kl 10 16 : Nat) : Int) = 2304 := rfl
theorem kf_10_17 : kf 10 17 = 11 := rfl
theorem kl_10_17 : ((kl 10 17 : Nat) : Int) = 800 := rfl
theorem kf_10_18 : kf 10 18 = 12 := rfl
theorem kl_10_18 : ((kl 10 18 : Nat) : Int) = 18 := rfl
theorem kf_10_19 : kf 10 19 = 12 := rfl
theorem kl_10_19 : ((kl 10 19 : Nat) : Int) = 18 := rfl
theorem kf_10_20 : kf 10 20 = 12 := rfl
theorem kl_10_20 : ((kl 10 20 : Nat) : Int) = 36 := rfl
theorem kf_10_21 : kf 10 21 = 13 := rfl
theorem kl_10_21 : ((kl 10 21 : Nat) : Int) = 2 := rfl
theorem kf_10_22 : kf 10 22 = 11 := rfl
theorem kl_10_22 : ((kl 10 22 : Nat) : Int) = 120 := rfl
theorem kf_10_23 : kf 10 23 = 11 := rfl
theorem kl_10_23 : ((kl 10 23 : Nat) : Int) = 800 := rfl
theorem kf_10_24 : kf 10 24 = 11 := rfl
theorem kl_10_24 : ((kl 10 24 : Nat) : Int) = 800 := rfl
theorem kf_10_25 : kf 10 25 = 11 := rfl
theorem kl_10_25 : ((kl 10 25 : Nat) : Int) = 800 := rfl
theorem kf_10_26 : kf 10 26 = 11 := rfl
theorem kl_10_26 : ((kl 10 26 : Nat) : Int) = 800 := rfl
theorem kf_10_27 : kf 10 27 = 11 := rfl
theorem kl_10_27 : ((kl 10 27 : Nat) : Int) = 800 := rfl
theorem kf_10_28 : kf 10 28 = 11 := rfl
theorem kl_10_28 : ((kl 10 28 : Nat) : Int) = 800 := rfl
theorem kf_10_29 : kf 10 29 = 11 := rfl
theorem kl_10_29 : ((kl 10 29 : Nat) : Int) = 2 := rfl
theorem kf_10_30 : kf 10 30 = 11 := rfl
theorem kl_10_30 : ((kl 10 30 : Nat) : Int) = 2 := rfl
theorem kf_10_31 : kf 10 31 = 0 := rfl
theorem zt_10_31 : zty 10 31 = .int := rfl
theorem kf_10_32 : kf 10 32 = 0 := rfl
theorem zt_10_32 : zty 10 32 = .int := rfl
theorem kf_10_33 : kf 10 33 = 0 := rfl
theorem zt_10_33 : zty 10 33 = .int := rfl
theorem kf_10_34 : kf 10 34 = 0 := rfl
theorem zt_10_34 : zty 10 34 = .int := rfl
theorem kf_10_35 : kf 10 35 = 11 := rfl
theorem kl_10_35 : ((kl 10 35 : Nat) : Int) = 48 := rfl
theorem kf_10_36 : kf 10 36 = 11 := rfl
theorem kl_10_36 : ((kl 10 36 : Nat) : Int) = 24 := rfl
theorem kf_10_37 : kf 10 37 = 11 := rfl
theorem kl_10_37 : ((kl 10 37 : Nat) : Int) = 24 := rfl
theorem kf_10_38 : kf 10 38 = 11 := rfl
theorem kl_10_38 : ((kl 10 38 : Nat) : Int) = 24 := rfl
theorem kf_10_39 : kf 10 39 = 11 := rfl
theorem kl_10_39 : ((kl 10 39 : Nat) : Int) = 24 := rfl
theorem kf_10_40 : kf 10 40 = 11 := rfl
theorem kl_10_40 : ((kl 10 40 : Nat) : Int) = 24 := rfl
theorem kf_10_41 : kf 10 41 = 11 := rfl
theorem kl_10_41 : ((kl 10 41 : Nat) : Int) = 24 := rfl
theorem kf_10_42 : kf 10 42 = 0 := rfl
theorem zt_10_42 : zty 10 42 = .int := rfl
theorem kf_10_43 : kf 10 43 = 0 := rfl
theorem zt_10_43 : zty 10 43 = .int := rfl
theorem kf_10_44 : kf 10 44 = 0 := rfl
theorem zt_10_44 : zty 10 44 = .int := rfl
theorem kf_10_45 : kf 10 45 = 0 := rfl
theorem zt_10_45 : zty 10 45 = .int := rfl
theorem kf_10_46 : kf 10 46 = 11 := rfl
theorem kl_10_46 : ((kl 10 46 : Nat) : Int) = 7 := rfl
theorem kf_10_47 : kf 10 47 = 11 := rfl
theorem kl_10_47 : ((kl 10 47 : Nat) : Int) = 7 := rfl
theorem kf_10_48 : kf 10 48 = 0 := rfl
theorem zt_10_48 : zty 10 48 = .int := rfl
theorem kf_10_49 : kf 10 49 = 0 := rfl
theorem zt_10_49 : zty 10 49 = .int := rfl
theorem kf_10_50 : kf 10 50 = 11 := rfl
theorem kl_10_50 : ((kl 10 50 : Nat) : Int) = 8 := rfl
theorem kf_10_51 : kf 10 51 = 11 := rfl
theorem kl_10_51 : ((kl 10 51 : Nat) : Int) = 8 := rfl
theorem kf_10_52 : kf 10 52 = 0 := rfl
theorem zt_10_52 : zty 10 52 = .int := rfl
theorem kf_10_53 : kf 10 53 = 11 := rfl
theorem kl_10_53 : ((kl 10 53 : Nat) : Int) = 240 := rfl
theorem kf_10_54 : kf 10 54 = 0 := rfl
theorem zt_10_54 : zty 10 54 = .int := rfl
theorem kf_10_55 : kf 10 55 = 0 := rfl
theorem zt_10_55 : zty 10 55 = .int := rfl
theorem kf_10_56 : kf 10 56 = 0 := rfl
theorem zt_10_56 : zty 10 56 = .int := rfl
theorem kf_10_57 : kf 10 57 = 0 := rfl
theorem zt_10_57 : zty 10 57 = .int := rfl
theorem zq11 : zcl[11 - 1]? = some (RX13, TX13, 2) := rfl
theorem kf_11_0 : kf 11 0 = 2 := rfl
theorem zt_11_0 : zty 11 0 = .long := rfl
theorem kf_11_1 : kf 11 1 = 0 := rfl
theorem zt_11_1 : zty 11 1 = .int := rfl
theorem zq12 : zcl[12 - 1]? = some (RX14, TX14, 5) := rfl
theorem kf_12_0 : kf 12 0 = 2 := rfl
theorem zt_12_0 : zty 12 0 = .long := rfl
theorem kf_12_1 : kf 12 1 = 0 := rfl
theorem zt_12_1 : zty 12 1 = .int := rfl
theorem kf_12_2 : kf 12 2 = 0 := rfl
theorem zt_12_2 : zty 12 2 = .int := rfl
theorem kf_12_3 : kf 12 3 = 0 := rfl
theorem zt_12_3 : zty 12 3 = .int := rfl
theorem kf_12_4 : kf 12 4 = 0 := rfl
theorem zt_12_4 : zty 12 4 = .int := rfl
theorem zq13 : zcl[13 - 1]? = some (RX16, TX16, 1) := rfl
theorem kf_13_0 : kf 13 0 = 3 := rfl
theorem zt_13_0 : isObj (zty 13 0) = true := rfl
theorem kn_13_0 : kn 13 0 = 1 := rfl
theorem kt_13_0 : kt 13 0 = 100 := rfl
theorem zq14 : zcl[14 - 1]? = some (RX17, TX17, 2) := rfl
theorem kf_14_0 : kf 14 0 = 0 := rfl
theorem zt_14_0 : zty 14 0 = .int := rfl
theorem kf_14_1 : kf 14 1 = 0 := rfl
theorem zt_14_1 : zty 14 1 = .int := rfl
theorem zq15 : zcl[15 - 1]? = some (RX18, TX18, 3) := rfl
theorem kf_15_0 : kf 15 0 = 0 := rfl
theorem zt_15_0 : zty 15 0 = .int := rfl
theorem kf_15_1 : kf 15 1 = 0 := rfl
theorem zt_15_1 : zty 15 1 = .int := rfl
theorem kf_15_2 : kf 15 2 = 0 := rfl
theorem zt_15_2 : zty 15 2 = .int := rfl
theorem zq16 : zcl[16 - 1]? = some (RX19, TX19, 2) := rfl
theorem kf_16_0 : kf 16 0 = 3 := rfl
theorem zt_16_0 : isObj (zty 16 0) = true := rfl
theorem kn_16_0 : kn 16 0 = 1 := rfl
theorem kt_16_0 : kt 16 0 = 100 := rfl
theorem kf_16_1 : kf 16 1 = 3 := rfl
theorem zt_16_1 : isObj (zty 16 1) = true := rfl
theorem kn_16_1 : kn 16 1 = 1 := rfl
theorem kt_16_1 : kt 16 1 = 100 := rfl
theorem zq17 : zcl[17 - 1]? = some (RX20, TX20, 2) := rfl
theorem kf_17_0 : kf 17 0 = 3 := rfl
theorem zt_17_0 : isObj (zty 17 0) = true := rfl
theorem kn_17_0 : kn 17 0 = 1 := rfl
theorem kt_17_0 : kt 17 0 = 100 := rfl
theorem kf_17_1 : kf 17 1 = 3 := rfl
theorem zt_17_1 : isObj (zty 17 1) = true := rfl
theorem kn_17_1 : kn 17 1 = 1 := rfl
theorem kt_17_1 : kt 17 1 = 100 := rfl
theorem zq18 : zcl[18 - 1]? = some (RJ7, TN18, 0) := rfl
