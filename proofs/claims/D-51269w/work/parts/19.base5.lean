/-! BASE 5: texts and byte arrays that are read only, statics, calls upward -/
set_option maxRecDepth 100000
/-- a String with its bytes (Latin-1) -/
def xStr (k v n : Nat) (f : Nat → Int32) : xEnv := fun A U H => va_O "java/lang/String" k A U H ∧ va_OF "java/lang/String" "coder" "B" (.int 0) k A U H ∧ va_OF "java/lang/String" "value" "[B" (.ref v) k A U H ∧ va_T .byte v n (fun j => .int (f j)) A U H
/-- a byte array -/
def xArr (v n : Nat) (f : Nat → Int32) : xEnv := fun A U H => va_T .byte v n (fun j => .int (f j)) A U H
theorem xStr_moves (k v n : Nat) (f : Nat → Int32) : xMoves (xStr k v n f) := by
  intro A B u U H H1 h hW hAB hk
  obtain ⟨a1, a2, a3, a4⟩ := h
  have hv := hW.alike
  exact ⟨((va_O.moved hv a1).kept hk).narrow hAB, ((va_OF.moved hv a2).kept hk).narrow hAB, ((va_OF.moved hv a3).kept hk).narrow hAB, ((va_T.moved hv a4).kept hk).narrow hAB⟩
theorem xArr_moves (v n : Nat) (f : Nat → Int32) : xMoves (xArr v n f) := by
  intro A B u U H H1 h hW hAB hk
  exact ((va_T.moved hW.alike h).kept hk).narrow hAB
theorem xStr.arr {k v n : Nat} {f : Nat → Int32} {A : Nat → Prop} {U : State} {H : Heap} (h : xStr k v n f A U H) : xArr v n f A U H := h.2.2.2
section XS
variable {p : Program} {l : Launch} {e : Env} {R : Room} {s : State} {m : MethodId} {args : Array Value} {below : List Frame} {meth : Method} {c : Code} {H : Heap} {locs : List Loc} {cells slots : Nat} {Q : State → Prop}
variable {κ : xK} {E E' : xEnv} {D : va_G} {d : Nat → ClassId} {tys : List (ClassId × FieldType)} {A : Nat → Prop} {ws X pl wc wr : va_W} {own : String} {cc : ByteArray} {L : Nat} {ret : Option FieldType} {pc : Nat} {ls : Array Slot} {rest : List Value}
theorem x_const (hE : xStable κ E) (i : Nat) (hi : i < 12) {U : State} (h : E A U H) : xStr (κ.1 i) (κ.2.1 i) (sLen.getD i 0) (fun j => (sByt.getD i []).getD j 0) A U H := by
  obtain ⟨a1, a2, a3, a4, a5, a6⟩ := (hE.2 _ _ _ h).1 i hi
  exact ⟨a1, a2, a3, a6⟩
/-- a byte array of the world, read only -/
theorem x_arrOf {U : State} (hK : va_K D vwCl (xTys d) U) {v n : Nat} {f : Nat → Int32} (h : xAt D (v, xI (d 2) n f) A U H) : xArr v n f A U H := by
  obtain ⟨h1, h2⟩ := h
  refine ⟨_, h2, (hK.2 2 (d 2, .byte) rfl).1 n (fun j => .int (f j)), ?_, ?_, ?_, ?_, h1⟩
  · intro h9; cases h9
  · show n ≤ (arrV _ _ _).slots.size
    rw [arrV_size]; exact Nat.le_refl _
  · show (arrV (d 2) n (fun j => .int (f j))).slots.size.toInt32 = Int32.ofNat n
    rw [arrV_size]
  · intro j hj
    show (arrV _ _ _).slots[j]? = _
    rw [arrV_read _ _ hj]
theorem x_strOf (C : xC own cc L ret p s m args meth c A) (T : xT E D (xTys d) A s H locs ws) {k v n : Nat} {f : Nat → Int32} {hh hz : Value} (h : va_at D vwCl (k, .inr (10, [.ref v, .int 0, hh, hz])) H) (h' : va_at D vwCl (v, xI (d 2) n f) H) : xStr k v n f (fun q => H.size ≤ q) s H := by
  obtain ⟨hx, hb, hrt, hlk, hml, hown, hts, hA⟩ := C
  have hk0 := h.lt
  have ha := x_arrOf (A := fun q => H.size ≤ q) T.1 ⟨Nat.not_le.mpr h'.lt, h'⟩
  obtain ⟨r, hr, cell, g1, g2, g3, g4⟩ := h
  have hr : r = (RJ7, TJ7, 4) := Option.some.inj (hr.symm.trans rfl)
  subst hr
  obtain ⟨hS, hC, kC, hkC, -⟩ := T.1.1 10 (RJ7, TJ7, 4) rfl
  have fld : ∀ k9 : Nat, k9 < 4 → va_OF (TJ7 k9).1 (TJ7 k9).2.1 (TJ7 k9).2.2.1 (vp_V [.ref v, .int 0, hh, hz] k9) k (fun q => H.size ≤ q) s H := by
    intro k9 hk9
    obtain ⟨cf, kf, fi, fx, hi, hsl⟩ := hS k9 hk9
    obtain ⟨hst, -, -⟩ := u_facts hC hkC (u_lays hts in_J7 hk9) hi
    refine ⟨cf, kf, fi, fx, cell, hi, hst, g1, (by rw [g3]; intro h9; cases h9), ?_, Nat.not_le.mpr hk0⟩
    rw [hsl]; exact g4 k9 hk9
  exact ⟨⟨cell, g1, (by rw [g3]; rfl), by rw [g2]; exact hC, Nat.not_le.mpr hk0⟩, fld 1 (by decide), fld 0 (by decide), ha⟩
end XS
