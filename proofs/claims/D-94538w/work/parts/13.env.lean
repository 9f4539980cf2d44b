/-! THE ENVIRONMENT OF A WALK: what the tables say, the text constants; class facts by tag -/
set_option maxRecDepth 100000
/-- the text constants: class, entry, text -/
def zstr : List (String × Nat × String) := [("CombTable", 22, "who"), ("CombTable", 24, "kind"), ("CombTable", 26, "may"), ("CombTable", 28, "comb"), ("CombTable", 30, "ranks"), ("CombTable", 32, "twice"), ("CombTable", 38, "opens"), ("CombTable", 40, "begins"), ("CombTable", 42, "any"), ("CombTable", 44, "or"), ("CombTable", 46, "and"), ("CombTable", 48, "not"), ("CombTable", 50, "by"), ("CombTable", 52, "to"), ("CombTable", 54, "is"), ("CombTable", 56, "place"), ("CombTable", 58, "thread"), ("CombTable", 60, "depth"), ("CombTable", 62, "state"), ("CombTable", 67, "asks"), ("CombTable", 69, "grants"), ("CombTable", 71, "refuses"), ("CombTable", 73, "keeps"), ("CombTable", 75, "breaks"), ("CombTable", 77, "frees"), ("CombTable$SentenceReader", 17, "by"), ("CombTable$SentenceReader", 19, "to"), ("CombTable$SentenceReader", 21, "is"), ("CombTable$SentenceReader", 27, "place"), ("CombTable$SentenceReader", 29, "thread"), ("CombTable$SentenceReader", 31, "depth"), ("CombTable$SentenceReader", 33, "state"), ("CombTable$TableReader", 124, "opens"), ("CombTable$TableReader", 130, "begins"), ("CombTable$MinutesReader", 31, "any"), ("CombTable$SentenceReader", 81, "not"), ("CombTable$SentenceReader", 76, "and"), ("CombTable$SentenceReader", 60, "or")]
def zlen : List Nat := [3, 4, 3, 4, 5, 5, 5, 6, 3, 2, 3, 3, 2, 2, 2, 5, 6, 5, 5, 4, 6, 7, 5, 6, 5, 2, 2, 2, 5, 6, 5, 5, 5, 6, 3, 3, 3, 2]
def zbyt : List (List Int32) := [[119, 104, 111], [107, 105, 110, 100], [109, 97, 121], [99, 111, 109, 98], [114, 97, 110, 107, 115], [116, 119, 105, 99, 101], [111, 112, 101, 110, 115], [98, 101, 103, 105, 110, 115], [97, 110, 121], [111, 114], [97, 110, 100], [110, 111, 116], [98, 121], [116, 111], [105, 115], [112, 108, 97, 99, 101], [116, 104, 114, 101, 97, 100], [100, 101, 112, 116, 104], [115, 116, 97, 116, 101], [97, 115, 107, 115], [103, 114, 97, 110, 116, 115], [114, 101, 102, 117, 115, 101, 115], [107, 101, 101, 112, 115], [98, 114, 101, 97, 107, 115], [102, 114, 101, 101, 115], [98, 121], [116, 111], [105, 115], [112, 108, 97, 99, 101], [116, 104, 114, 101, 97, 100], [100, 101, 112, 116, 104], [115, 116, 97, 116, 101], [111, 112, 101, 110, 115], [98, 101, 103, 105, 110, 115], [97, 110, 121], [110, 111, 116], [97, 110, 100], [111, 114]]
def zA (X : Cxt) : Nat → Prop := fun q => cb X ≤ q
def ztys (X : Cxt) : List (ClassId × FieldType) := [(cA X 0, .byte), (cA X 1, .int), (cA X 2, .long), (cA X 3, .boolean), (cA X 4, .object "java/lang/String"), (cA X 5, .object "CombTable$Who"), (cA X 6, .object "CombTable$Kind"), (cA X 7, .object "CombTable$Talk"), (cA X 8, .object "CombTable$Minutes"), (cA X 9, .object "CombTable$Cond")]
/-- words that don't ride in the lists -/
def nestWord : Cond → Bool
  | .fieldLinkNest _ _ _ _ _ _ => true
  | .methodLinkNest _ _ _ _ => true
  | .castable _ _ => true
  | .declares _ => true
  | .privateMethod _ => true
  | .arrayOver (.object _) => true
  | _ => false
def lw_nst : List Cond := lw_tbl.filter nestWord
theorem lw_n {w : Cond} (h : w ∈ lw_tbl) (g : nestWord w = true) : w ∈ lw_nst := List.mem_filter.mpr ⟨h, g⟩
def ZNest (U : State) : Prop := ∀ w ∈ lw_nst, va_Nw w U
theorem ZNest.warm {s U : State} (hW : s.WarmedH U.vm) (h : ZNest s) : ZNest U := by
  intro w hw
  have h1 := h w hw
  have h2 := (List.mem_filter.mp hw).2
  cases w with
  | fieldLinkNest a i b n d h => exact va_Nw.warmF hW h1
  | methodLinkNest a i x h => exact va_Nw.warmM hW h1
  | castable a b => exact va_Nw.warmC hW h1
  | declares x => exact va_Nw.warmD hW h1
  | privateMethod x => exact va_tabs rfl (rfl : (s.setVm U.vm).vm = U.vm) (by rw [Cond.privateMethod_setVm hW.alike]; exact h1)
  | arrayOver ty =>
    cases ty with
    | object C => exact va_AO.moved hW.alike h1
    | _ => simp [nestWord] at h2
  | _ => simp [nestWord] at h2
theorem ZNest.same {s U : State} (hv : s.vm = U.vm) (h : ZNest s) : ZNest U := by
  intro w hw
  have h1 := h w hw
  have h2 := (List.mem_filter.mp hw).2
  cases w with
  | fieldLinkNest a i b n d h => exact va_Nw.same rfl hv h1
  | methodLinkNest a i x h => exact va_Nw.same rfl hv h1
  | castable a b => exact va_Nw.same rfl hv h1
  | declares x => exact va_Nw.same rfl hv h1
  | privateMethod x => exact va_Nw.same rfl hv h1
  | arrayOver ty =>
    cases ty with
    | object C => exact va_AO.moved (by rw [hv]; exact Vm.Alike.refl _) h1
    | _ => simp [nestWord] at h2
  | _ => simp [nestWord] at h2
theorem ZNest.use {U : State} {A : Array Value} {w : Cond} (h : ZNest U) (hw : w ∈ lw_nst) : w.before A U = true := by
  have h1 := h w hw
  have h2 := (List.mem_filter.mp hw).2
  cases w with
  | fieldLinkNest a i b n d h => exact va_Nw.use rfl h1
  | methodLinkNest a i x h => exact va_Nw.use rfl h1
  | castable a b => exact va_Nw.use rfl h1
  | declares x => exact va_Nw.use rfl h1
  | privateMethod x => exact va_Nw.use rfl h1
  | arrayOver ty =>
    cases ty with
    | object C => exact va_AO.use h1
    | _ => simp [nestWord] at h2
  | _ => simp [nestWord] at h2
def zSt : String := "[Ljava/lang/StackTraceElement;"
def zLi : String := "Ljava/util/List;"
def ZTh (X : Cxt) (U : State) (n d : String) : Prop := (∃ z : Int, va_Z "java/lang/Throwable" n d (jR X z) (zA X) U U.heap) ∧ (Cond.laysStatic "java/lang/Throwable" n d).before #[] U = true
theorem ls_mk {A A' : Array Value} {s U : State} {O f d : String} (h : (Cond.laysStatic O f d).before A s = true) (hv : s.vm = U.vm) (hk : ∀ cf kf fi fd a, s.fieldFound? O f d = some (cf, kf, fi, fd) → kf.statics = some a → U.heap[a]? = s.heap[a]?) : (Cond.laysStatic O f d).before A' U = true := by
  obtain ⟨c, k, i, fd, a, cell, hc, hf, hst, hsta, hcell, hiss, hcls, hlt, hty⟩ := Cond.laysStatic_spec h
  have hff : U.fieldFound? O f d = s.fieldFound? O f d := by unfold State.fieldFound?; rw [hv]
  have hf' := hff.trans hf
  have hc' : U.vm.findClass O = some c := by rw [← hv]; exact hc
  have hcell' : U.heap[a]? = some cell := by rw [hk _ _ _ _ _ hf hsta]; exact hcell
  simp [Cond.before, Cond.holds, Cond.value, hc', hf', hst, hsta, hcell', hiss, hcls, hlt, hty]
theorem ZTh.same {X : Cxt} {s U : State} {n d : String} (hv : s.vm = U.vm) (hh : U.heap = s.heap) (h : ZTh X s n d) : ZTh X U n d := by
  have ha : s.vm.Alike U.vm := by rw [hv]; exact Vm.Alike.refl _
  obtain ⟨⟨z, h1⟩, h2⟩ := h
  exact ⟨⟨z, by rw [hh]; exact va_Z.moved ha h1⟩, ls_mk h2 hv (fun _ _ _ _ _ _ _ => by rw [hh])⟩
theorem ZTh.call {X : Cxt} {s U : State} {H : Heap} {locs : List Loc} {n d : String} (hS : va_S (zA X) s.heap H locs) (hU : U.heap = H) (hW : s.WarmedH U.vm) (h : ZTh X s n d) : ZTh X U n d := by
  have ha := hW.alike
  have hk : ∀ a : Nat, a < s.heap.size → ¬ zA X a → U.heap[a]? = s.heap[a]? := fun a h1 h2 => by rw [hU]; exact hS.2.1 a h1 h2
  obtain ⟨⟨z, h1⟩, h2⟩ := h
  refine ⟨⟨z, (va_Z.moved ha h1).kept hk⟩, ls_mk (s := s.setVm U.vm) (Cond.laysStatic_setVm ha h2) rfl ?_⟩
  intro cf kf fi fd a hf hsta
  obtain ⟨cf', kf', fi', f', a', cell', g1, g2, g3, g4, g5, g6, g7, g8⟩ := va_Z.moved ha h1
  have hff : U.fieldFound? "java/lang/Throwable" n d = (s.setVm U.vm).fieldFound? "java/lang/Throwable" n d := rfl
  rw [hff, hf] at g1
  cases g1
  cases hsta.symm.trans g4
  exact hk a (Array.getElem?_eq_some_iff.mp g5).1 g8
def ZStr (X : Cxt) (U : State) : Prop :=
  (∀ (i : Nat) (q : String × Nat × String), zstr[i]? = some q → vk_R q.1 q.2.1 q.2.2 (cs X i) U ∧ va_O "java/lang/String" (cs X i) (zA X) U U.heap ∧ va_OF "java/lang/String" "coder" "B" (.int 0) (cs X i) (zA X) U U.heap ∧ va_OF "java/lang/String" "value" "[B" (.ref (cs X (100 + i))) (cs X i) (zA X) U U.heap ∧ va_T .byte (cs X (100 + i)) (zlen.getD i 0) (fun j => .int ((zbyt.getD i []).getD j 0)) (zA X) U U.heap) ∧
  va_Z "java/lang/String" "COMPACT_STRINGS" "Z" (.int 1) (zA X) U U.heap ∧ va_Zq "jdk/internal/util/Preconditions" "SIOOBE_FORMATTER" "Ljava/util/function/BiFunction;" (zA X) U U.heap ∧
  ZTh X U "UNASSIGNED_STACK" zSt ∧ ZTh X U "SUPPRESSED_SENTINEL" zLi
def ZEnv (X : Cxt) (U : State) : Prop := va_K (cD X) zcl (ztys X) U ∧ ZNest U ∧ ZStr X U
theorem ZEnv.same {X : Cxt} {s U : State} (hv : s.vm = U.vm) (hh : U.heap = s.heap) (h : ZEnv X s) : ZEnv X U := by
  have ha : s.vm.Alike U.vm := by rw [hv]; exact Vm.Alike.refl _
  obtain ⟨h1, h2, h3, h4, h5, h6, h7⟩ := h
  refine ⟨va_K.moved ha h1, h2.same hv, fun i q hq => ?_, by rw [hh]; exact va_Z.moved ha h4, by rw [hh]; exact va_Zq.moved ha h5, h6.same hv hh, h7.same hv hh⟩
  obtain ⟨e1, e2, e3, e4, e5⟩ := h3 i q hq
  rw [hh]
  exact ⟨vk_R.same hv.symm e1, va_O.moved ha e2, va_OF.moved ha e3, va_OF.moved ha e4, va_T.moved ha e5⟩
theorem ZEnv.call {X : Cxt} {s U : State} {H : Heap} {locs : List Loc} (hS : va_S (zA X) s.heap H locs) (hU : U.heap = H) (hW : s.WarmedH U.vm) (h : ZEnv X s) : ZEnv X U := by
  have ha := hW.alike
  have hk : ∀ a : Nat, a < s.heap.size → ¬ zA X a → U.heap[a]? = s.heap[a]? := fun a h1 h2 => by rw [hU]; exact hS.2.1 a h1 h2
  obtain ⟨h1, h2, h3, h4, h5, h6, h7⟩ := h
  refine ⟨va_K.moved ha h1, h2.warm hW, fun i q hq => ?_, (va_Z.moved ha h4).kept hk, (va_Zq.moved ha h5).kept hk, h6.call hS hU hW, h7.call hS hU hW⟩
  obtain ⟨e1, e2, e3, e4, e5⟩ := h3 i q hq
  exact ⟨vk_R.warm hW e1, (va_O.moved ha e2).kept hk, (va_OF.moved ha e3).kept hk, (va_OF.moved ha e4).kept hk, (va_T.moved ha e5).kept hk⟩
/-! class facts by tag -/
def zty (t k : Nat) : FieldType := match t with
  | 1 => tyX1 k
  | 2 => tyX2 k
  | 3 => tyX3 k
  | 4 => tyX4 k
  | 5 => tyX5 k
  | 6 => tyX7 k
  | 7 => tyX8 k
  | 8 => tyX9 k
  | 9 => tyX10 k
  | 10 => tyX11 k
  | 11 => tyX13 k
  | 12 => tyX14 k
  | 13 => tyX16 k
  | 14 => tyX17 k
  | 15 => tyX18 k
  | 16 => tyX19 k
  | 17 => tyX20 k
  | _ => .int
def ClsOk (t : Nat) (q : vw_C) : Prop := (∀ w ∈ u_ws q.1 q.2.1 q.2.2, w ∈ lw_all) ∧ (∀ k, k < q.2.2 → parseFieldDescriptor (q.2.1 k).2.2.1 = some (zty t k)) ∧ ∀ a, a < q.2.2 → ∀ b, b < q.2.2 → a ≠ b → ((q.2.1 a).1 ≠ (q.2.1 b).1 ∨ (q.2.1 a).2.1 ≠ (q.2.1 b).2.1)
theorem zcls : ∀ (i : Nat) (q : vw_C), zcl[i]? = some q → ClsOk (i + 1) q := by
  intro i q h
  match i, h with
  | 0, h => cases h; exact ⟨in_X1, by decide +kernel, by decide +kernel⟩
  | 1, h => cases h; exact ⟨in_X2, by decide +kernel, by decide +kernel⟩
  | 2, h => cases h; exact ⟨in_X3, by decide +kernel, by decide +kernel⟩
  | 3, h => cases h; exact ⟨in_X4, by decide +kernel, by decide +kernel⟩
  | 4, h => cases h; exact ⟨in_X5, by decide +kernel, by decide +kernel⟩
  | 5, h => cases h; exact ⟨in_X7, by decide +kernel, by decide +kernel⟩
  | 6, h => cases h; exact ⟨in_X8, by decide +kernel, by decide +kernel⟩
  | 7, h => cases h; exact ⟨in_X9, by decide +kernel, by decide +kernel⟩
  | 8, h => cases h; exact ⟨in_X10, by decide +kernel, by decide +kernel⟩
  | 9, h => cases h; exact ⟨in_X11, by decide +kernel, by decide +kernel⟩
  | 10, h => cases h; exact ⟨in_X13, by decide +kernel, by decide +kernel⟩
  | 11, h => cases h; exact ⟨in_X14, by decide +kernel, by decide +kernel⟩
  | 12, h => cases h; exact ⟨in_X16, by decide +kernel, by decide +kernel⟩
  | 13, h => cases h; exact ⟨in_X17, by decide +kernel, by decide +kernel⟩
  | 14, h => cases h; exact ⟨in_X18, by decide +kernel, by decide +kernel⟩
  | 15, h => cases h; exact ⟨in_X19, by decide +kernel, by decide +kernel⟩
  | 16, h => cases h; exact ⟨in_X20, by decide +kernel, by decide +kernel⟩
  | 17, h => cases h; exact ⟨fun w hw => absurd hw List.not_mem_nil, fun k hk => absurd hk (Nat.not_lt_zero _), fun k hk => absurd hk (Nat.not_lt_zero _)⟩
  | i + 18, h => simp [zcl] at h
def isObj : FieldType → Bool
  | .object _ => true
  | _ => false
def isArr : FieldType → Bool
  | .array _ => true
  | _ => false
theorem zkind0 : ∀ t, t < 18 → ∀ k, k < 58 → (kf (t + 1) k = 0 → zty (t + 1) k = .int) ∧ (kf (t + 1) k = 1 → zty (t + 1) k = .boolean) ∧ (kf (t + 1) k = 2 → zty (t + 1) k = .long) ∧ (kf (t + 1) k = 3 → isObj (zty (t + 1) k) = true) ∧ (10 ≤ kf (t + 1) k → isArr (zty (t + 1) k) = true) := by decide +kernel
/-- two fields that differ in name or in owner lie in different slots -/
theorem z_apart0 {args : Array Value} {s : State} {C O f d O' f' d' : String} (h : (Cond.lays C O f d).before args s = true ∨ (Cond.laysFinal C O f d).before args s = true) (h' : (Cond.lays C O' f' d').before args s = true ∨ (Cond.laysFinal C O' f' d').before args s = true)
    {cf kf fi fd cf' kf' fi' fd'} (hi : s.fieldFound? O f d = some (cf, kf, fi, fd)) (hi' : s.fieldFound? O' f' d' = some (cf', kf', fi', fd')) (hne : kf.name ≠ kf'.name ∨ fd.name ≠ fd'.name) : fd.slot ≠ fd'.slot := by
  have key : ∀ {O f d : String} {cf kf fi fd}, ((Cond.lays C O f d).before args s = true ∨ (Cond.laysFinal C O f d).before args s = true) → s.fieldFound? O f d = some (cf, kf, fi, fd) → ∃ a dd, s.vm.findClass C = some a ∧ Jmm.declares? s.vm fd.slot (a + 1) a = some dd ∧ dd.1.name = kf.name ∧ dd.2.name = fd.name := by
    intro O f d cf kf fi fd h hi
    rcases h with h | h
    · obtain ⟨a, _, _, _, _, g, ha, _, hg, _, _, _, _, dd, hd, hm, hn, _⟩ := Cond.lays_spec h
      cases hi.symm.trans hg
      exact ⟨a, dd, ha, hd, hm, hn⟩
    · obtain ⟨a, _, _, _, _, g, ha, _, hg, _, _, _, _, _, dd, hd, hm, hn, _⟩ := Cond.laysFinal_spec h
      cases hi.symm.trans hg
      exact ⟨a, dd, ha, hd, hm, hn⟩
  obtain ⟨a, dd, ha, hd, hm, hn⟩ := key h hi
  obtain ⟨a', dd', ha', hd', hm', hn'⟩ := key h' hi'
  cases ha.symm.trans ha'
  intro hs
  rw [hs] at hd
  cases hd.symm.trans hd'
  rcases hne with hne | hne
  · exact hne (hm.symm.trans hm')
  · exact hne (hn.symm.trans hn')
