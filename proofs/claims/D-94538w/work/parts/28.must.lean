/-! must: NoSuchElementException; printed by gen/mkmust.py -/
set_option maxRecDepth 100000
theorem isref_Z {X : Cxt} {A : Array Value} {U : State} {n d : String} (h : ∃ z : Int, va_Z "java/lang/Throwable" n d (jR X z) (zA X) U U.heap) : (Cond.isRef (.static "java/lang/Throwable" n d)).before A U = true := by
  obtain ⟨z, cf, kf, fi, f, a, cell, hf, hst, hin, hsta, hcell, hiss, hv, -⟩ := h
  have he : (Term.static "java/lang/Throwable" n d).eval A U none [] U = some (jR X z) := by
    simp [Term.eval, State.fieldNamed?, hf, hst, hsta, hcell, hiss, hv]
  simp only [Cond.before, Cond.holds, Cond.value, he]
  rcases jR_or X z with e | ⟨x, e⟩ <;> simp [e]
section ZM
variable {X : Cxt} {p : Program} {s : State} {m : MethodId} {args : Array Value} {meth : Method} {c : Code} {cc : ByteArray} {nL : Nat} {own : String} {ret : Option FieldType}
theorem nse_thr (K : MCx X p s m args meth c cc nL own ret) : ∀ w ∈ Jvm.Bundle.throwableAtoms, w.before args s = true :=
  List.forall_mem_cons.mpr ⟨(K.ts _ q91), List.forall_mem_cons.mpr ⟨(K.ts _ q149), List.forall_mem_cons.mpr ⟨(K.ts _ q158), List.forall_mem_cons.mpr ⟨(K.ts _ q161), List.forall_mem_cons.mpr ⟨(K.ts _ q164), List.forall_mem_cons.mpr ⟨(K.ts _ q166), List.forall_mem_cons.mpr ⟨(K.ts _ q150), List.forall_mem_cons.mpr ⟨(K.ts _ q151), List.forall_mem_cons.mpr ⟨(K.ts _ q127), List.forall_mem_cons.mpr ⟨(K.ts _ q128), List.forall_mem_cons.mpr ⟨(K.ts _ q152), List.forall_mem_cons.mpr ⟨(K.ts _ q157), List.forall_mem_cons.mpr ⟨(K.ts _ q162), List.forall_mem_cons.mpr ⟨(K.ts _ q182), List.forall_mem_cons.mpr ⟨(K.ts _ q139), List.forall_mem_cons.mpr ⟨(K.ts _ q183), List.forall_mem_cons.mpr ⟨(K.ts _ q141), List.forall_mem_cons.mpr ⟨(K.ts _ q184), List.forall_mem_cons.mpr ⟨(K.ts _ q143), List.forall_mem_cons.mpr ⟨(K.ts _ q153), List.forall_mem_cons.mpr ⟨(ls_mk K.env.2.2.2.2.2.1.2 rfl (fun _ _ _ _ _ _ _ => rfl)), List.forall_mem_cons.mpr ⟨(K.ts _ q155), List.forall_mem_cons.mpr ⟨(ls_mk K.env.2.2.2.2.2.2.2 rfl (fun _ _ _ _ _ _ _ => rfl)), List.forall_mem_cons.mpr ⟨(K.ts _ q145), fun _ h => absurd h List.not_mem_nil⟩⟩⟩⟩⟩⟩⟩⟩⟩⟩⟩⟩⟩⟩⟩⟩⟩⟩⟩⟩⟩⟩⟩⟩
theorem nse_chain (K : MCx X p s m args meth c cc nL own ret) : ∀ w ∈ Jvm.Bundle.chain0Atoms "java/util/NoSuchElementException" ["java/lang/RuntimeException", "java/lang/Exception"], w.before args s = true :=
  List.forall_mem_append.mpr ⟨List.forall_mem_cons.mpr ⟨(K.ts _ q1387), List.forall_mem_cons.mpr ⟨(K.ts _ q1388), List.forall_mem_cons.mpr ⟨(K.ts _ q1389), List.forall_mem_cons.mpr ⟨(K.ts _ q1390), List.forall_mem_cons.mpr ⟨(K.nst (lw_n q1378 rfl)), fun _ h => absurd h List.not_mem_nil⟩⟩⟩⟩⟩, List.forall_mem_append.mpr ⟨List.forall_mem_cons.mpr ⟨(K.ts _ q1390), List.forall_mem_cons.mpr ⟨(K.ts _ q1391), List.forall_mem_cons.mpr ⟨(K.ts _ q1392), List.forall_mem_cons.mpr ⟨(K.ts _ q1393), List.forall_mem_cons.mpr ⟨(K.nst (lw_n q132 rfl)), fun _ h => absurd h List.not_mem_nil⟩⟩⟩⟩⟩, List.forall_mem_cons.mpr ⟨(K.ts _ q1393), List.forall_mem_cons.mpr ⟨(K.ts _ q1394), List.forall_mem_cons.mpr ⟨(K.ts _ q1395), List.forall_mem_cons.mpr ⟨(K.ts _ q150), List.forall_mem_cons.mpr ⟨(K.nst (lw_n q134 rfl)), fun _ h => absurd h List.not_mem_nil⟩⟩⟩⟩⟩⟩⟩
theorem nse_all (K : MCx X p s m args meth c cc nL own ret) : ∀ w ∈ Jvm.Bundle.ownAtoms0 "CombTable" 187 "java/util/NoSuchElementException" ["java/lang/RuntimeException", "java/lang/Exception"], w.before args s = true :=
  List.forall_mem_append.mpr ⟨List.forall_mem_append.mpr ⟨nse_thr K, nse_chain K⟩, List.forall_mem_cons.mpr ⟨(K.ts _ q1386), List.forall_mem_cons.mpr ⟨(K.ts _ q1376), List.forall_mem_cons.mpr ⟨(K.nst (lw_n q1377 rfl)), List.forall_mem_cons.mpr ⟨(K.ts _ q1380), List.forall_mem_cons.mpr ⟨(K.ts _ q160), List.forall_mem_cons.mpr ⟨(K.ts _ q1381), List.forall_mem_cons.mpr ⟨(K.ts _ q1382), List.forall_mem_cons.mpr ⟨(K.ts _ q1383), List.forall_mem_cons.mpr ⟨(K.ts _ q1384), List.forall_mem_cons.mpr ⟨(isref_Z K.env.2.2.2.2.2.1.1), List.forall_mem_cons.mpr ⟨(isref_Z K.env.2.2.2.2.2.2.1), List.forall_mem_cons.mpr ⟨(K.ts _ q180), List.forall_mem_cons.mpr ⟨(K.ts _ q147), List.forall_mem_cons.mpr ⟨(K.ts _ q1385), fun _ h => absurd h List.not_mem_nil⟩⟩⟩⟩⟩⟩⟩⟩⟩⟩⟩⟩⟩⟩⟩
end ZM
theorem seal18 {σ : St} {a : Int} (ht : tg σ a = -18) : ∀ x ∈ [a], ∃ t : Nat, 0 < t ∧ t ≤ 18 ∧ tg σ x = -(t : Int) ∧ SealOk (sealz σ [a]) x t := by
  intro x hx
  have : x = a := List.mem_singleton.mp hx
  subst this
  have key : ∀ k, kf 18 k = 4 := fun k => by cases k <;> rfl
  refine ⟨18, by decide, by decide, ht, fun k κ h => ?_, fun k h => ?_, fun k κ h => ?_⟩
  · rw [key] at h; omega
  · rw [key] at h; omega
  · rw [key] at h; omega
theorem same_cells {s U : State} {k n : Nat} (h : s.sameButNew U [] k n) : ∀ q, q < s.heap.size → U.heap[q]? = s.heap[q]? := by
  intro q hq
  obtain ⟨-, -, -, -, -, h6⟩ := h
  obtain ⟨c', h1, h2, h3, h4⟩ := h6 q s.heap[q] (Array.getElem?_eq_getElem hq)
  rw [h1, Array.getElem?_eq_getElem hq]
  have : c'.slots = s.heap[q].slots := Array.ext_getElem? fun i => h4 i (by simp)
  rw [h2, this]
def wp_X1_must (σ : St) (x0 : Int) (cr : Int) (Q : St → Int → Prop) (E : Int → St → Int → Prop) : Prop := if x0 = 0 then 6 ≤ cr ∧ ∀ σ1 : St, σ1 = sealz (nw σ 18) [nx σ] → E (nx σ) σ1 (cr - 6) else Q σ cr
def ws_X1_must : List (Int × Nat) := []
theorem wo_X1_must : wsOk ws_X1_must = true := rfl
set_option maxHeartbeats 4000000 in
theorem met_X1_must (X : Cxt) (l : Launch) (hfl : l.flags = pinnedFlags ++ [noTraceFlag]) (σ : St) (x0 : Int) (hx0 : 0 ≤ x0 ∧ x0 ≤ 1) (C0 : Nat) (Q : St → Int → Prop) (E : Int → St → Int → Prop) (h : wp_X1_must σ x0 (C0 : Int) Q E) :
    MetA X l yX1_must (ws_ yX1_must cX1_must 1 none) 6 C0 (ZP X σ [jI x0]) (qVA (fun σ' cr => Kp ws_X1_must σ σ' ∧ Q σ' cr)) (fun x σ' cr => tg σ' x = 18 ∧ Kp ws_X1_must σ σ' ∧ E x σ' cr) := by
  refine z_startA (own := "CombTable") (lv := [(0, jI x0)]) (by decide) rfl rfl (Nat.le_of_ble_eq_true rfl) (fun p e s m below meth c ls hadm K hex hnm hw hl => ?_)
  refine lv_iload_n (pc := 0) K.x K.b dX1_must_0 rfl (lv_at hl 0 rfl) ?_
  refine z_if_ne (pc := 1) (tgt := 12) K (b01r hx0) dX1_must_1 (by decide) (fun hc => ?_) (fun hc => ?_)
  · have h := ite_t h hc
    obtain ⟨h6, h⟩ := h
    have h := h _ rfl
    obtain ⟨hz, hn0⟩ := z_hz K hw
    have hKn := K.env.1.1 17 _ zq18
    refine W.newcK (g := F0 m 4 ls []) K.x K.b K.o (K.ts _ q1375) (K.ts _ q1376) (K.ts _ q111) rfl dX1_must_4 (by show 0 + 1 ≤ C0; omega) (by show 0 + 6 ≤ C0; omega) hKn.2.1 rfl fun H1 kC hkC e1 z1 o1 => ?_
    refine lv_dup (pc := 7) K.x K.b dX1_must_7 rfl ?_
    intro T hT X0
    obtain ⟨U, hst, hrun, hend, hW, hsame, ce, hce, hown⟩ := X0.ctorThrow0 K.x (Launch.traces_off hfl hadm) (own := "CombTable") (cls := "java/util/NoSuchElementException") (names := ["java/lang/RuntimeException", "java/lang/Exception"]) (ic := 187) K.o (by decide) (by decide) (nse_all K) (fun x hx => absurd hx List.not_mem_nil)
      (a := s.heap.size) hKn.2.1 hkC (by rw [hT]; exact e1) (Nat.le_refl _) (g := F0 m 8 ls [.ref s.heap.size, .ref s.heap.size]) rfl (by rw [K.ml]; exact hl.1) rfl rfl (rest := []) rfl (by rw [K.b]; exact dX1_must_8) (by rw [K.b]; exact dX1_must_11) (no_cov hex 11) (by show 2 + 3 < 6; decide) (by show 2 * 0 + 1 + (13 * 3 + 41) ≤ 40 * 6; decide) K.lk
    have hcells := same_cells hsame
    have hcells : ∀ q, q < s.heap.size → U.heap[q]? = s.heap[q]? := hcells
    have hsz : U.heap.size = s.heap.size + 1 := by
      have h1 : U.heap.size ≤ s.heap.size + (0 + 1) := hsame.2.2.1
      have h2 := (Array.getElem?_eq_some_iff.mp hce).1
      omega
    have hcls : ce.cls = (cD X).1 17 := Option.some.inj (hown.cls.symm.trans hKn.2.1)
    have hS1 : Sim X (nw σ 18) U.heap := sim_nw hw.1 (by decide) zq18 hsz hcells ⟨ce, by rw [← hz]; exact hce, hcls, hown.vm, fun k hk => absurd hk (Nat.not_lt_zero _)⟩
    have hS2 : Sim X (sealz (nw σ 18) [nx σ]) U.heap := sim_seal hS1 (seal18 nw_tg)
    have hke : Ke σ (nw σ 18) := ke_nw hw rfl
    have hkp : Kp ws_X1_must σ (nw σ 18) := kp_ke (kp_rf σ) rfl hke
    have hkp2 : Kp ws_X1_must σ (sealz (nw σ 18) [nx σ]) := kp_ki (p := nx σ) hkp rfl (ki_seal (ki_rf _) rfl (fun x hx => Or.inl (List.mem_singleton.mp hx))) hw.1.fresh
    refine ⟨U, hst, .threw s.heap.size, hrun, hend, 1, 6, (C0 : Int) - 6, by unfold Cr; omega, ⟨_, hS2, ⟨by omega, fun q h1 _ => hcells q h1⟩, Or.inr ⟨nx σ, by rw [← hz], hn0, by rw [seal_tg (List.mem_singleton.mpr rfl), nw_tg]; rfl, hkp2, h⟩⟩, [], ⟨Or.inr ⟨_, rfl⟩, hW, hsame⟩, fun q hq => absurd hq List.not_mem_nil⟩
  · have h := ite_f h hc
    exact za_vret (pc := 12) K hw (cr_0 C0) ⟨kp_rf σ, h⟩ dX1_must_12
