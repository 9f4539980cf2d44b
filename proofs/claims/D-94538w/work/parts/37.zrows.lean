/-! THE LAW's own rows: the script -/
set_option maxRecDepth 100000
def ScrOk (X : Cxt) (s : State) (b : Nat) (sc : Int → Int) (sn : Int) : Prop := (0 ≤ sn ∧ sn ≤ 384) ∧ ∃ xs : Nat → Int32, va_X b sn.toNat xs s s.heap ∧ b < s.heap.size ∧ ¬ zA X b ∧ ∀ j : Int, 0 ≤ j → j < sn → sc j = (xs j.toNat).toInt
theorem ScrOk.n {X : Cxt} {s : State} {b : Nat} {sc : Int → Int} {sn : Int} (h : ScrOk X s b sc sn) : rng sn := by
  have := h.1
  unfold rng
  omega
theorem ScrOk.r {X : Cxt} {s : State} {b : Nat} {sc : Int → Int} {sn j : Int} (h : ScrOk X s b sc sn) (hj : 0 ≤ j ∧ j < sn) : rng (sc j) := by
  obtain ⟨-, xs, -, -, -, h4⟩ := h
  rw [h4 j hj.1 hj.2]
  exact rng_toInt _
theorem cr_le1 {cells slots : Nat} {cr : Int} (h : Cr 601024 cells slots cr) : cells ≤ room_1.cells ∧ slots ≤ room_1.slots := by
  show cells ≤ 601024 ∧ slots ≤ 7293034
  unfold Cr at h
  omega
theorem cr_fit1 {cells slots N' : Nat} {cr u : Int} (h : Cr 601024 cells slots cr) (hu : 1 ≤ u ∧ (N' : Int) ≤ u) (hle : u ≤ cr) : cells + 1 ≤ room_1.cells ∧ slots + N' ≤ room_1.slots := by
  show cells + 1 ≤ 601024 ∧ slots + N' ≤ 7293034
  unfold Cr at h
  omega
section ZG
variable {X : Cxt} {p : Program} {l : Launch} {e : Env} {R : Room} {s : State} {m : MethodId} {args : Array Value} {below : List Frame} {meth : Method} {c : Code} {H : Heap} {locs : List Loc} {cells slots : Nat} {Q : State → Prop}
variable {cc : ByteArray} {nL : Nat} {own : String} {ret : Option FieldType} {pc : Nat} {ls : Array Slot} {rest : List Value} {σ : St} {b : Nat} {sc : Int → Int} {sn : Int}
theorem z_sld {j : Int} (K : MCx X p s m args meth c cc nL own ret) (hw : Wc X σ s.heap H locs) (hX : ScrOk X s b sc sn) (hj : 0 ≤ j ∧ j < sn) (hd : decode cc pc = .ok (.iaload, 1))
    (kk : W p l e R s m args below meth c H locs cells slots Q (F0 m (pc + 1) ls (jI (sc j) :: rest))) : W p l e R s m args below meth c H locs cells slots Q (F0 m pc ls (jI j :: .ref b :: rest)) := by
  obtain ⟨h0, xs, h1, h2, h3, h4⟩ := hX
  obtain ⟨i1, i2, i3⟩ := z_ix hj (by omega) sn.toNat (by omega)
  refine va_sld K.x K.b h1 h2 h3 hw.2 i1 hd ?_
  rw [i2]
  have : Value.int (xs j.toNat) = jI (sc j) := by
    rw [h4 j hj.1 hj.2]
    show _ = Value.int (Int32.ofInt (Int32.toInt _))
    rw [Int32.ofInt_toInt]
  rw [this]
  exact kk
theorem z_sln (K : MCx X p s m args meth c cc nL own ret) (hw : Wc X σ s.heap H locs) (hX : ScrOk X s b sc sn) (hd : decode cc pc = .ok (.arraylength, 1))
    (kk : W p l e R s m args below meth c H locs cells slots Q (F0 m (pc + 1) ls (jI sn :: rest))) : W p l e R s m args below meth c H locs cells slots Q (F0 m pc ls (.ref b :: rest)) := by
  obtain ⟨h0, xs, h1, h2, h3, h4⟩ := hX
  refine va_slen K.x K.b h1 h2 h3 hw.2 hd ?_
  have : Value.int (Int32.ofNat sn.toNat) = jI sn := by
    show _ = Value.int (Int32.ofInt sn)
    rw [show sn = ((sn.toNat : Nat) : Int) by omega, Int.toNat_natCast]
    rfl
  rw [this]
  exact kk
end ZG
