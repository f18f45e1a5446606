/-! BASE 2: rows for objects and arrays that are made, calls with borrowed things, pools behind the world, exceptions -/
set_option maxRecDepth 100000
/-- the array classes: int, boolean, byte, Object, Silo, long, double -/
abbrev xTys (d : Nat → ClassId) : List (ClassId × FieldType) := [(d 0, .int), (d 1, .boolean), (d 2, .byte), (d 3, .object "java/lang/Object"), (d 4, .object "PingEye$Silo"), (d 5, .long), (d 6, .double)]
abbrev xI (c : ClassId) (n : Nat) (f : Nat → Int32) : va_E := .inl (c, n, .inl f)
abbrev xQ (c : ClassId) (n : Nat) (f : Nat → Option Nat) : va_E := .inl (c, n, .inr (.inr (.inr (.inr f))))
/-- a thing that isn't the method's own, and stays -/
def xAt (D : va_G) (q : Nat × va_E) : xEnv := fun A _ H => ¬ A q.1 ∧ va_at D vwCl q H
theorem xAt_moves (D : va_G) (q : Nat × va_E) : xMoves (xAt D q) := by
  intro A B u U H H1 h hW hAB hk
  exact ⟨fun z => h.1 (hAB _ z), h.2.kept (hk _ h.2.lt h.1)⟩
def xAnd (E F : xEnv) : xEnv := fun A U H => E A U H ∧ F A U H
theorem xAnd_stable {κ : xK} {E F : xEnv} (hE : xStable κ E) (hF : xMoves F) : xStable κ (xAnd E F) :=
  ⟨fun A B u U H H1 h hW hAB hk => ⟨hE.1 A B u U H H1 h.1 hW hAB hk, hF A B u U H H1 h.2 hW hAB hk⟩, fun A U H h => hE.2 A U H h.1⟩
theorem xAll_moves {α : Type} (P : α → Prop) (F : α → xEnv) (hF : ∀ x, xMoves (F x)) : xMoves (fun A U H => ∀ x, P x → F x A U H) :=
  fun A B u U H H1 h hW hAB hk x hx => hF x A B u U H H1 (h x hx) hW hAB hk
section XH
variable {p : Program} {l : Launch} {e : Env} {R : Room} {s : State} {m : MethodId} {args : Array Value} {below : List Frame} {meth : Method} {c : Code} {H : Heap} {locs : List Loc} {cells slots : Nat} {Q : State → Prop}
variable {κ : xK} {E E' : xEnv} {D : va_G} {tys : List (ClassId × FieldType)} {A : Nat → Prop} {ws X pl wc wr : va_W} {own : String} {cc : ByteArray} {L : Nat} {ret : Option FieldType} {pc : Nat} {ls : Array Slot} {rest : List Value}
/-- from the start's heap to the present one -/
theorem x_now (T : xT E D tys A s H locs ws) {q : Nat × va_E} (h : xAt D q A s s.heap) : va_at D vwCl q H := h.2.kept (T.2.2.2.1.2.1 _ h.2.lt h.1)
theorem x_nowP {q : Nat × va_E} (h : va_at D vwCl q H) : va_P D vwCl [q] H := by
  intro k q' hk
  match k, hk with
  | 0, hk => cases hk; exact h
theorem xT.at0 (T : xT E D tys A s H locs ws) (q0 : Nat) {q : Nat × va_E} (he : ws[q0]? = some q) : va_at D vwCl q H := T.2.1 q0 q he
theorem x_same {U : State} (hK : va_K D vwCl tys U) {t0 t1 : Nat} {c0 c1 : ClassId} {ty : FieldType} (h0 : tys[t0]? = some (c0, ty)) {hR : va_RA U c1 ty} : c1 = c0 := by
  have a0 := (hK.2 t0 _ h0).2
  cases ty with
  | object C =>
    obtain ⟨_, _, -, -, -, e0⟩ := a0
    obtain ⟨_, _, -, -, -, e1⟩ := hR
    exact Option.some.inj (e1.symm.trans e0)
  | _ => exact Option.some.inj (Eq.trans (Eq.symm hR) a0)
theorem x_getA (C : xC own cc L ret p s m args meth c A) (T : xT E D tys A s H locs ws) {Cn : String} {Tn : u_T} {N ci index a : Nat} {fs : List Value} (ha : va_at D vwCl (a, .inr (ci, fs)) H) (hc : vwCl[ci]? = some (Cn, Tn, N)) (k : Nat) (hk : k < N) (hin : ∀ w ∈ u_ws Cn Tn N, w ∈ lw_all) (hlink : (Cond.fieldLink own index (Tn k).1 (Tn k).2.1 (Tn k).2.2.1) ∈ lw_all) {v : Value} (hv : fs[k]? = some v) (hdg : decode cc pc = .ok (.getfield index, 3))
    (kk : W p l e R s m args below meth c H locs cells slots Q (F0 m (pc + 3) ls (v :: rest))) : W p l e R s m args below meth c H locs cells slots Q (F0 m pc ls (.ref a :: rest)) := by
  obtain ⟨hx, hb, hr, hlk, hml, hown, hts, hA⟩ := C
  obtain ⟨hK, hP, hD, hS, hE⟩ := T
  exact va_get hx hb hts hin hown hK (x_nowP ha) 0 rfl hc k hk (hts _ hlink) (fun _ h => h) hv hdg kk
theorem x_getN (C : xC own cc L ret p s m args meth c A) (T : xT E D tys A s H locs ws) (hE : xStable κ E) {Cn host : String} {Tn : u_T} {N ci index a : Nat} {fs : List Value} (ha : va_at D vwCl (a, .inr (ci, fs)) H) (hc : vwCl[ci]? = some (Cn, Tn, N)) (k : Nat) (hk : k < N) (hin : ∀ w ∈ u_ws Cn Tn N, w ∈ lw_all) (hlink : (Cond.fieldLinkNest own index (Tn k).1 (Tn k).2.1 (Tn k).2.2.1 host) ∈ lw_tbl) {v : Value} (hv : fs[k]? = some v) (hdg : decode cc pc = .ok (.getfield index, 3))
    (kk : W p l e R s m args below meth c H locs cells slots Q (F0 m (pc + 3) ls (v :: rest))) : W p l e R s m args below meth c H locs cells slots Q (F0 m pc ls (.ref a :: rest)) := by
  obtain ⟨hx, hb, hr, hlk, hml, hown, hts, hA⟩ := C
  obtain ⟨hK, hP, hD, hS, hE0⟩ := T
  have hn := (hE.2 _ _ _ hE0).2.2.2.2.1 _ _ _ _ _ _ hlink
  exact va_getN hx hb hts hin hown hK (x_nowP ha) 0 rfl hc k hk (va_Nw.use rfl hn) (fun _ h => h) hv hdg kk
/-- a field by a link to a class below the one that has it -/
theorem x_getL (C : xC own cc L ret p s m args meth c A) (T : xT E D tys A s H locs ws) {Cn ref : String} {Tn : u_T} {N ci index a : Nat} {fs : List Value} (ha : va_at D vwCl (a, .inr (ci, fs)) H) (hc : vwCl[ci]? = some (Cn, Tn, N)) (k : Nat) (hk : k < N) (hin : ∀ w ∈ u_ws Cn Tn N, w ∈ lw_all) (hlink : (Cond.fieldLink own index ref (Tn k).2.1 (Tn k).2.2.1) ∈ lw_all) (hsame : Cond.sameField ref (Tn k).1 (Tn k).2.1 (Tn k).2.2.1 ∈ lw_all) {v : Value} (hv : fs[k]? = some v) (hdg : decode cc pc = .ok (.getfield index, 3))
    (hsf : (Cond.sameField ref (Tn k).1 (Tn k).2.1 (Tn k).2.2.1).before args s = true → ∀ x, s.fieldFound? (Tn k).1 (Tn k).2.1 (Tn k).2.2.1 = some x → s.fieldFound? ref (Tn k).2.1 (Tn k).2.2.1 = some x)
    (kk : W p l e R s m args below meth c H locs cells slots Q (F0 m (pc + 3) ls (v :: rest))) : W p l e R s m args below meth c H locs cells slots Q (F0 m pc ls (.ref a :: rest)) := by
  obtain ⟨hx, hb, hr, hlk, hml, hown, hts, hA⟩ := C
  obtain ⟨hK, hP, hD, hS, hE⟩ := T
  exact va_get hx hb hts hin hown hK (x_nowP ha) 0 rfl hc k hk (hts _ hlink) (hsf (hts _ hsame)) hv hdg kk
theorem x_putF (C : xC own cc L ret p s m args meth c A) (T : xT E D tys A s H locs ws) {Cn : String} {Tn : u_T} {N ci index a : Nat} {fs : List Value} (ty0 : Nat → FieldType) (hty : ∀ k, k < N → parseFieldDescriptor (Tn k).2.2.1 = some (ty0 k)) (hnm : ∀ a, a < N → ∀ b, b < N → a ≠ b → (Tn a).2.1 ≠ (Tn b).2.1) (q0 : Nat) (he : ws[q0]? = some (a, .inr (ci, fs))) (hc : vwCl[ci]? = some (Cn, Tn, N)) (k : Nat) (hk : k < N) (hin : ∀ w ∈ u_ws Cn Tn N, w ∈ lw_all) (hlink : (Cond.fieldLink own index (Tn k).1 (Tn k).2.1 (Tn k).2.2.1) ∈ lw_all) (hfin : (Tn k).2.2.2 = true) (hin2 : meth.name = "<init>") (hdecl : (Tn k).1 = own) {ty : FieldType} {v : Value} (hd : parseFieldDescriptor (Tn k).2.2.1 = some ty) (hn : narrow ty v = v) (hfit : fits ty v = true) (hl : k < fs.length) (hdg : decode cc pc = .ok (.putfield index, 3))
    (kk : ∀ (H1 : Heap) (locs1 : List Loc), xT E D tys A s H1 locs1 (ws.set q0 (a, .inr (ci, fs.set k v))) → W p l e R s m args below meth c H1 locs1 cells slots Q (F0 m (pc + 3) ls rest)) : W p l e R s m args below meth c H locs cells slots Q (F0 m pc ls (v :: .ref a :: rest)) := by
  obtain ⟨hx, hb, hr, hlk, hml, hown, hts, hA⟩ := C
  obtain ⟨hK, hP, hD, hS, hE⟩ := T
  exact va_putF hx hb hts hin ty0 hty hnm hown hK hP hD hS q0 he hc k hk (hts _ hlink) (fun _ h => h) hfin hin2 hdecl hd hn hfit hl hdg (fun H1 locs1 hP hD hS => kk H1 locs1 ⟨hK, hP, hD, hS, hE⟩)
theorem x_putN (C : xC own cc L ret p s m args meth c A) (T : xT E D tys A s H locs ws) (hE : xStable κ E) {Cn host : String} {Tn : u_T} {N ci index a : Nat} {fs : List Value} (ty0 : Nat → FieldType) (hty : ∀ k, k < N → parseFieldDescriptor (Tn k).2.2.1 = some (ty0 k)) (hnm : ∀ a, a < N → ∀ b, b < N → a ≠ b → (Tn a).2.1 ≠ (Tn b).2.1) (q0 : Nat) (he : ws[q0]? = some (a, .inr (ci, fs))) (hc : vwCl[ci]? = some (Cn, Tn, N)) (k : Nat) (hk : k < N) (hin : ∀ w ∈ u_ws Cn Tn N, w ∈ lw_all) (hlink : (Cond.fieldLinkNest own index (Tn k).1 (Tn k).2.1 (Tn k).2.2.1 host) ∈ lw_tbl) (hfin : (Tn k).2.2.2 = false) {ty : FieldType} {v : Value} (hd : parseFieldDescriptor (Tn k).2.2.1 = some ty) (hn : narrow ty v = v) (hfit : fits ty v = true) (hl : k < fs.length) (hdg : decode cc pc = .ok (.putfield index, 3))
    (kk : ∀ (H1 : Heap) (locs1 : List Loc), xT E D tys A s H1 locs1 (ws.set q0 (a, .inr (ci, fs.set k v))) → W p l e R s m args below meth c H1 locs1 cells slots Q (F0 m (pc + 3) ls rest)) : W p l e R s m args below meth c H locs cells slots Q (F0 m pc ls (v :: .ref a :: rest)) := by
  obtain ⟨hx, hb, hr, hlk, hml, hown, hts, hA⟩ := C
  obtain ⟨hK, hP, hD, hS, hE0⟩ := T
  have hnw := (hE.2 _ _ _ hE0).2.2.2.2.1 _ _ _ _ _ _ hlink
  exact va_putN hx hb hts hin ty0 hty hnm hown hK hP hD hS q0 he hc k hk (va_Nw.use rfl hnw) (fun _ h => h) hfin hd hn hfit hl hdg (fun H1 locs1 hP hD hS => kk H1 locs1 ⟨hK, hP, hD, hS, hE0⟩)
theorem x_new (C : xC own cc L ret p s m args meth c A) (T : xT E D tys A s H locs ws) {Cn : String} {Tn : u_T} {N ci index : Nat} (ty : Nat → FieldType) (hty : ∀ k, k < N → parseFieldDescriptor (Tn k).2.2.1 = some (ty k)) (hin : ∀ w ∈ u_ws Cn Tn N, w ∈ lw_all) (hcl : Cond.classLink own index Cn ∈ lw_all) (hinst : Cond.instantiable Cn N ∈ lw_all) (hini : Cond.initialized Cn ∈ lw_all) (hc : vwCl[ci]? = some (Cn, Tn, N)) {fs : List Value} (hfs : ∀ j, j < N → defaultValue (ty j) = vp_V fs j) (hcells : cells + 1 ≤ R.cells) (hslots : slots + N ≤ R.slots) (hdg : decode cc pc = .ok (.new index, 3))
    (kk : ∀ (q : Nat) (H1 : Heap), xT E D tys A s H1 locs (ws ++ [(q, .inr (ci, fs))]) → W p l e R s m args below meth c H1 locs (cells + 1) (slots + N) Q (F0 m (pc + 3) ls (.ref q :: rest))) : W p l e R s m args below meth c H locs cells slots Q (F0 m pc ls rest) := by
  obtain ⟨hx, hb, hr, hlk, hml, hown, hts, hA⟩ := C
  obtain ⟨hK, hP, hD, hS, hE⟩ := T
  exact va_new hx hb hts hin ty hty hown (hts _ hcl) (hts _ hinst) (hts _ hini) hK hP hD hS hA hc hfs hcells hslots hdg (fun q H1 hP hD hS => kk q H1 ⟨hK, hP, hD, hS, hE⟩)
theorem x_newa (C : xC own cc L ret p s m args meth c A) (T : xT E D tys A s H locs ws) {atype : ArrayType} {ty : FieldType} (harr : Cond.arrayClass (newarray.typeOf atype) ∈ lw_all) (hty : newarray.typeOf atype = ty) (t0 : Nat) {cA0 : ClassId} (ht : tys[t0]? = some (cA0, ty)) {n : Int32} {N' : Nat} {a0 : vp_A} (ha : ∀ cA : ClassId, vp_cell cA a0 = arrV cA N' (fun _ => defaultValue ty)) (hn : ¬ n < 0) (hN : n.toNatClampNeg = N') (hbytes : N' * componentBytes ty ≤ 536870912) (hcells : cells + 1 ≤ R.cells) (hslots : slots + N' ≤ R.slots) (hdg : decode cc pc = .ok (.newarray atype, 2))
    (kk : ∀ (q : Nat) (H1 : Heap), xT E D tys A s H1 locs (ws ++ [(q, .inl (cA0, a0))]) → W p l e R s m args below meth c H1 locs (cells + 1) (slots + N') Q (F0 m (pc + 2) ls (.ref q :: rest))) : W p l e R s m args below meth c H locs cells slots Q (F0 m pc ls (.int n :: rest)) := by
  obtain ⟨hx, hb, hr, hlk, hml, hown, hts, hA⟩ := C
  obtain ⟨hK, hP, hD, hS, hE⟩ := T
  refine va_newa hx hb (hts _ harr) hty hK hP hD hS hA ha hn hN hbytes hcells hslots hdg (fun q cA H1 hK1 hP hD hS => ?_)
  have e : cA = cA0 := x_same hK ht (hR := (hK1.2 tys.length (cA, ty) (by simp)).2) (t1 := 0)
  subst e
  exact kk q H1 ⟨hK, hP, hD, hS, hE⟩
theorem x_newq (C : xC own cc L ret p s m args meth c A) (T : xT E D tys A s H locs ws) (hE : xStable κ E) {Cn : String} {index : Nat} (hcl : Cond.classLink own index Cn ∈ lw_all) (hover : Cond.arrayOver (.object Cn) ∈ lw_tbl) (t0 : Nat) {cA0 : ClassId} (ht : tys[t0]? = some (cA0, .object Cn)) {n : Int32} {N' : Nat} (hn : ¬ n < 0) (hN : n.toNatClampNeg = N') (hbytes : N' * 4 ≤ 536870912) (hcells : cells + 1 ≤ R.cells) (hslots : slots + N' ≤ R.slots) (hdg : decode cc pc = .ok (.anewarray index, 3))
    (kk : ∀ (q : Nat) (H1 : Heap), xT E D tys A s H1 locs (ws ++ [(q, xQ cA0 N' (fun _ => none))]) → W p l e R s m args below meth c H1 locs (cells + 1) (slots + N') Q (F0 m (pc + 3) ls (.ref q :: rest))) : W p l e R s m args below meth c H locs cells slots Q (F0 m pc ls (.int n :: rest)) := by
  obtain ⟨hx, hb, hr, hlk, hml, hown, hts, hA⟩ := C
  obtain ⟨hK, hP, hD, hS, hE0⟩ := T
  refine va_newq hx hb hown (hts _ hcl) ((hE.2 _ _ _ hE0).2.2.2.2.2.2.2.1 _ hover) hK hP hD hS hA hn hN hbytes hcells hslots hdg (fun q cA H1 hK1 hP hD hS => ?_)
  have e : cA = cA0 := x_same hK ht (hR := (hK1.2 tys.length (cA, .object Cn) (by simp)).2) (t1 := 0)
  subst e
  exact kk q H1 ⟨hK, hP, hD, hS, hE0⟩
theorem x_aldq (C : xC own cc L ret p s m args meth c A) (T : xT E D tys A s H locs ws) (t0 : Nat) {a : Nat} {cA : ClassId} {Cn : String} {n : Nat} {f : Nat → Option Nat} (ha : va_at D vwCl (a, xQ cA n f) H) (ht : tys[t0]? = some (cA, .object Cn)) {i : Int32} (hin : vp_in i n) {j : Nat} (hj : i.toNatClampNeg = j) (hdg : decode cc pc = .ok (.aaload, 1))
    (kk : W p l e R s m args below meth c H locs cells slots Q (F0 m (pc + 1) ls (va_rf (f j) :: rest))) : W p l e R s m args below meth c H locs cells slots Q (F0 m pc ls (.int i :: .ref a :: rest)) := by
  subst hj
  exact va_aldq C.1 C.2.1 T.1 (x_nowP ha) 0 t0 rfl ht hin hdg kk
theorem x_balE (C : xC own cc L ret p s m args meth c A) (T : xT E D tys A s H locs ws) (t0 : Nat) {a : Nat} {cA : ClassId} {n : Nat} {f : Nat → Int32} (ha : va_at D vwCl (a, xI cA n f) H) (ht : tys[t0]? = some (cA, .byte)) {i : Int32} (hin : vp_in i n) {j : Nat} (hj : i.toNatClampNeg = j) (hdg : decode cc pc = .ok (.baload, 1))
    (kk : W p l e R s m args below meth c H locs cells slots Q (F0 m (pc + 1) ls (.int (f j) :: rest))) : W p l e R s m args below meth c H locs cells slots Q (F0 m pc ls (.int i :: .ref a :: rest)) := by
  subst hj
  exact va_bald C.1 C.2.1 T.1 (x_nowP ha) 0 t0 rfl ht hin hdg kk
theorem x_bast (C : xC own cc L ret p s m args meth c A) (T : xT E D tys A s H locs ws) (q0 t0 : Nat) {a : Nat} {cA : ClassId} {n : Nat} {f : Nat → Int32} (ha : ws[q0]? = some (a, .inl (cA, n, .inl f))) (ht : tys[t0]? = some (cA, .byte)) {i x : Int32} (hin : vp_in i n) {j : Nat} (hj : i.toNatClampNeg = j) (hdg : decode cc pc = .ok (.bastore, 1))
    (kk : ∀ (H1 : Heap) (locs1 : List Loc), xT E D tys A s H1 locs1 (ws.set q0 (a, .inl (cA, n, .inl (upd f j (vp_nar .byte x))))) → W p l e R s m args below meth c H1 locs1 cells slots Q (F0 m (pc + 1) ls rest)) : W p l e R s m args below meth c H locs cells slots Q (F0 m pc ls (.int x :: .int i :: .ref a :: rest)) := by
  subst hj
  obtain ⟨hK, hP, hD, hS, hE⟩ := T
  exact va_bast C.1 C.2.1 hK hP hD hS q0 t0 ha ht hin hdg (fun H1 locs1 hP hD hS => kk H1 locs1 ⟨hK, hP, hD, hS, hE⟩)
theorem x_bald (C : xC own cc L ret p s m args meth c A) (T : xT E D tys A s H locs ws) (q0 t0 : Nat) {a : Nat} {cA : ClassId} {n : Nat} {f : Nat → Int32} (ha : ws[q0]? = some (a, .inl (cA, n, .inl f))) (ht : tys[t0]? = some (cA, .byte)) {i : Int32} (hin : vp_in i n) {j : Nat} (hj : i.toNatClampNeg = j) (hdg : decode cc pc = .ok (.baload, 1))
    (kk : W p l e R s m args below meth c H locs cells slots Q (F0 m (pc + 1) ls (.int (f j) :: rest))) : W p l e R s m args below meth c H locs cells slots Q (F0 m pc ls (.int i :: .ref a :: rest)) := by
  subst hj
  exact va_bald C.1 C.2.1 T.1 T.2.1 q0 t0 ha ht hin hdg kk
theorem x_any (T : xT E D tys A s H locs ws) (hE : xStable κ E) {x ci : Nat} {fs : List Value} {r : vw_C} {Cn : String} (ha : va_at D vwCl (x, .inr (ci, fs)) H) (hc : vwCl[ci]? = some r) (hcast : Cond.castable r.1 Cn ∈ lw_tbl) : va_Any Cn s H x := by
  refine va_rAny T.1 (x_nowP ha) (q0 := 0) rfl hc (fun comp c0 h1 h2 => ?_)
  obtain ⟨c1, t1, f1, f2, f3⟩ := Cond.castable_spec (va_Nw.use (A := #[]) rfl ((hE.2 _ _ _ T.2.2.2.2).2.2.2.2.2.2.1 _ _ hcast))
  cases h1.symm.trans f2
  cases h2.symm.trans f1
  exact f3
theorem x_astq (C : xC own cc L ret p s m args meth c A) (T : xT E D tys A s H locs ws) (q0 t0 : Nat) {a : Nat} {Cn : String} {cA : ClassId} {n v : Nat} {f : Nat → Option Nat} (ha : ws[q0]? = some (a, xQ cA n f)) (ht : tys[t0]? = some (cA, .object Cn)) (hr : va_Any Cn s H v) {i : Int32} (hin : vp_in i n) {j : Nat} (hj : i.toNatClampNeg = j) (hdg : decode cc pc = .ok (.aastore, 1))
    (kk : ∀ (H1 : Heap) (locs1 : List Loc), xT E D tys A s H1 locs1 (ws.set q0 (a, xQ cA n (va_up f j (some v)))) → W p l e R s m args below meth c H1 locs1 cells slots Q (F0 m (pc + 1) ls rest)) : W p l e R s m args below meth c H locs cells slots Q (F0 m pc ls (.ref v :: .int i :: .ref a :: rest)) := by
  subst hj
  obtain ⟨hK, hP, hD, hS, hE⟩ := T
  exact va_astqM C.1 C.2.1 hK hP hD hS q0 t0 ha ht hr hin hdg (fun H1 locs1 hP hD hS => kk H1 locs1 ⟨hK, hP, hD, hS, hE⟩)
theorem x_astqN (C : xC own cc L ret p s m args meth c A) (T : xT E D tys A s H locs ws) (q0 t0 : Nat) {a : Nat} {Cn : String} {cA : ClassId} {n : Nat} {f : Nat → Option Nat} (ha : ws[q0]? = some (a, xQ cA n f)) (ht : tys[t0]? = some (cA, .object Cn)) {i : Int32} (hin : vp_in i n) {j : Nat} (hj : i.toNatClampNeg = j) (hdg : decode cc pc = .ok (.aastore, 1))
    (kk : ∀ (H1 : Heap) (locs1 : List Loc), xT E D tys A s H1 locs1 (ws.set q0 (a, xQ cA n (va_up f j none))) → W p l e R s m args below meth c H1 locs1 cells slots Q (F0 m (pc + 1) ls rest)) : W p l e R s m args below meth c H locs cells slots Q (F0 m pc ls (.null :: .int i :: .ref a :: rest)) := by
  subst hj
  obtain ⟨hK, hP, hD, hS, hE⟩ := T
  exact va_astqN C.1 C.2.1 hK hP hD hS q0 t0 ha ht hin hdg (fun H1 locs1 hP hD hS => kk H1 locs1 ⟨hK, hP, hD, hS, hE⟩)
theorem x_recvA (T : xT E D tys A s H locs ws) {a ci : Nat} {q : vw_C} {fs : List Value} (hc : vwCl[ci]? = some q) (ha : va_at D vwCl (a, .inr (ci, fs)) H) : ∃ cell : Cell, H[a]? = some cell ∧ cell.vm.isStatics = false ∧ s.vm.findClass q.1 = some cell.cls := va_recv (q0 := 0) T.1 (x_nowP ha) hc rfl
/-! calls with a pool behind -/
theorem x_envT (hE : xStable κ E) (C : xC own cc L ret p s m args meth c A) (T : xT E D tys A s H locs (X ++ pl)) (isC : List Nat) (hC : isC.map (fun i => (X ++ pl)[i]?) = wc.map some) : ∀ U : State, U.heap = H → s.WarmedH U.vm → E (va_A wc H.size) U H := by
  obtain ⟨hx, hb, hr, hlk, hml, hown, hts, hA⟩ := C
  obtain ⟨hK, hP, hD, hS, hE0⟩ := T
  intro U hU hW
  exact hE.1 _ _ _ _ _ _ hE0 hW (va_free hD hS hA isC hC) hS.2.1
theorem x_envA (T : xT E D tys A s H locs ws) (isC : List Nat) (hC : isC.map (fun i => ws[i]?) = wc.map some) (q0 : Nat) {q : Nat × va_E} (he : ws[q0]? = some q) (hn : q0 ∉ isC) : ∀ U : State, U.heap = H → s.WarmedH U.vm → xAt D q (va_A wc H.size) U H := by
  obtain ⟨hK, hP, hD, hS, hE0⟩ := T
  intro U hU hW
  have h9 := hP q0 q he
  refine ⟨?_, h9⟩
  rintro (⟨k, e', hk⟩ | h)
  · have h1 : (isC.map (fun i => ws[i]?))[k]? = some (some (q.1, e')) := by rw [hC, List.getElem?_map, hk]; rfl
    rw [List.getElem?_map] at h1
    cases hi : isC[k]? with
    | none => rw [hi] at h1; cases h1
    | some i =>
      rw [hi] at h1
      have h2 : ws[i]? = some (q.1, e') := Option.some.inj h1
      have h3 := hD.1 q0 i q (q.1, e') he h2 rfl
      exact hn (h3 ▸ List.mem_of_getElem? hi)
  · exact absurd h9.lt (Nat.not_lt.mpr h)
theorem x_preq (hE' : xStable κ E') (T : xT E D tys A s H locs ws) (isC : List Nat) (hC : isC.map (fun i => ws[i]?) = wc.map some) (hn : va_nd isC = true) (henv : ∀ U : State, U.heap = H → s.WarmedH U.vm → E' (va_A wc H.size) U H) (av : List Value) : PreS s H (xPc E' D tys wc H.size av) av := by
  obtain ⟨hK, hP, hD, hS, hE0⟩ := T
  have hP2 : va_P D vwCl wc H := by
    intro k q hk
    have h1 : (isC.map (fun i => ws[i]?))[k]? = some (some q) := by rw [hC, List.getElem?_map, hk]; rfl
    rw [List.getElem?_map] at h1
    cases hi : isC[k]? with
    | none => rw [hi] at h1; cases h1
    | some i =>
      rw [hi] at h1
      exact hP i q (Option.some.inj h1)
  refine ⟨x_blind hE', fun U hU hW => ⟨rfl, by rw [hU], by rw [hU]; exact hP2, va_K.moved hW.alike hK, (hD.sub isC hn hC).weaken (fun _ _ _ _ => trivial), ?_⟩⟩
  rw [hU]
  exact henv U hU hW
variable {y x9 : MethodName} {bytes : ByteArray} {maxL n index b mc ms : Nat} {ret1 : Option FieldType} {ws1 : List Cond} {rm : Room} {As : List Value} {Qc : Array Value → State → Outcome → State → Prop} {free : Addr → Prop} {Cn : String}
abbrev xFix (C : xC own cc L ret p s m args meth c A) : CallFix p m c cc L s args lw_all own := ⟨C.1, C.2.1, C.2.2.2.2.1, C.2.2.2.2.2.1, C.2.2.2.2.2.2.1⟩
theorem x_rV (C : xC own cc L ret p s m args meth c A) (hp : PreS s H (xPc E' D tys wc H.size (.ref b :: As)) (.ref b :: As)) (hM : Met l y ws1 rm (xPc E' D tys wc H.size (.ref b :: As)) Qc mc ms free) (cw : CallW R s args own Cn index y bytes maxL ret1 ws1 rm mc ms n)
    (hrc : ∃ cell : Cell, H[b]? = some cell ∧ cell.vm.isStatics = false ∧ s.vm.findClass Cn = some cell.cls) (hlen : As.length = n) (hls : ls.size = L) (hW : 2 * (F0 m pc ls (As.reverse ++ .ref b :: rest)).monitorRoom + (rest.map fun v => v.category).sum ≤ 8) (hdg : decode cc pc = .ok (.invokevirtual index, 3)) (hf : cells + mc ≤ R.cells ∧ slots + ms ≤ R.slots) :
    va_Run p l e R s m args below meth c H locs cells slots mc ms (F0 m pc ls (As.reverse ++ .ref b :: rest)) rest (Qc (Value.ref b :: As).toArray) free :=
  va_runV (xFix C) hM cw ⟨hp.1, hrc, hp.2⟩ rfl hlen hls rfl hW hdg hf
theorem x_rI (C : xC own cc L ret p s m args meth c A) (hp : PreS s H (xPc E' D tys wc H.size (.ref b :: As)) (.ref b :: As)) (hM : Met l y ws1 rm (xPc E' D tys wc H.size (.ref b :: As)) Qc mc ms free) (cw : CallB R s args own index y bytes maxL none ws1 rm mc ms n ∧ y.name = "<init>" ∧ (Cond.instanceMethod y).before args s = true)
    (hlen : As.length = n) (hls : ls.size = L) (hW : 2 * (F0 m pc ls (As.reverse ++ .ref b :: rest)).monitorRoom + (rest.map fun v => v.category).sum ≤ 8) (hdg : decode cc pc = .ok (.invokespecial index, 3)) (hf : cells + mc ≤ R.cells ∧ slots + ms ≤ R.slots) :
    va_Run p l e R s m args below meth c H locs cells slots mc ms (F0 m pc ls (As.reverse ++ .ref b :: rest)) rest (Qc (Value.ref b :: As).toArray) free :=
  va_runI (xFix C) hM cw hp rfl hlen hls rfl hW hdg hf
theorem x_rS (C : xC own cc L ret p s m args meth c A) (hp : PreS s H (xPc E' D tys wc H.size As) As) (hM : Met l y ws1 rm (xPc E' D tys wc H.size As) Qc mc ms free) (cw : CallB R s args own index y bytes maxL ret1 ws1 rm mc ms n ∧ (Cond.static y).before args s = true)
    (hlen : As.length = n) (hls : ls.size = L) (hW : 2 * (F0 m pc ls (As.reverse ++ rest)).monitorRoom + (rest.map fun v => v.category).sum ≤ 8) (hdg : decode cc pc = .ok (.invokestatic index, 3)) (hf : cells + mc ≤ R.cells ∧ slots + ms ≤ R.slots) :
    va_Run p l e R s m args below meth c H locs cells slots mc ms (F0 m pc ls (As.reverse ++ rest)) rest (Qc As.toArray) free :=
  va_runS (xFix C) hM cw hp rfl hlen hls rfl hW hdg hf
variable {S : Type} {w1 : S → va_W} {wq : S → Nat → va_W} {u : S}
theorem x_backq (C : xC own cc L ret p s m args meth c A) (T : xT E D tys A s H locs (X ++ pl)) (isC isR : List Nat) (hC : isC.map (fun i => X[i]?) = wc.map some) (hR : isR.map (fun i => X[i]?) = wr.map some) (hn : va_nd isR = true) (hdis : ∀ i ∈ isR, i ∉ isC) (hC9 : isC.map (fun i => (X ++ pl)[i]?) = wc.map some)
    {H1 : Heap} {locs1 : List Loc} {t : State} {w2 : va_W} (ht : t.heap = H1) (hvm : s.vm.Alike t.vm) (hB : va_P D vwCl w2 t.heap ∧ va_K D vwCl tys t ∧ va_D (va_A wc H.size) w2) (hk : ∀ q : Nat, q < H.size → ¬ va_A wc H.size q → H1[q]? = H[q]?) (hS1 : va_S A s.heap H1 locs1) : xT E D tys A s H1 locs1 ((wr ++ w2) ++ pl) := by
  obtain ⟨hx, hb, hr, hlk, hml, hown, hts, hA⟩ := C
  obtain ⟨hK, hP, hD, hS, hE0⟩ := T
  obtain ⟨hP1, hK1, hD1⟩ := hB
  rw [ht] at hP1
  obtain ⟨hP2, hD2⟩ := va_joinQ hP hD isC isR hC hR hn hdis hk (va_free hD hS hA isC hC9) hP1 hD1
  exact ⟨va_K.moved hvm.symm hK1, hP2, hD2, hS1, hE0⟩
abbrev xBr {S : Type} (D : va_G) (tys : List (ClassId × FieldType)) (A : Nat → Prop) (w1 : S → Nat → va_W) (u : S) (a : Nat) (t : State) : Prop := va_P D vwCl (w1 u a) t.heap ∧ va_K D vwCl tys t ∧ va_D A (w1 u a)
variable {a : Array Value} {st0 : List Value}
theorem x_ki {post : Int32 → S → Prop} (C : xC own cc L ret p s m args meth c A) (T : xT E D tys A s H locs (X ++ pl)) (isC isR : List Nat) (hC : isC.map (fun i => X[i]?) = wc.map some) (hR : isR.map (fun i => X[i]?) = wr.map some) (hn : va_nd isR = true) (hdis : ∀ i ∈ isR, i ∉ isC) (hC9 : isC.map (fun i => (X ++ pl)[i]?) = wc.map some)
    (hr : va_Run p l e R s m args below meth c H locs cells slots mc ms (F0 m pc ls st0) rest (va_Qi post (xB D tys (va_A wc H.size) w1) (va_A wc H.size) a) (va_A wc H.size))
    (kk : ∀ (r : Int32) (u : S) (H1 : Heap) (locs1 : List Loc), post r u → xT E D tys A s H1 locs1 ((wr ++ w1 u) ++ pl) → W p l e R s m args below meth c H1 locs1 (cells + mc) (slots + ms) Q (F0 m (pc + 3) ls (.int r :: rest))) : W p l e R s m args below meth c H locs cells slots Q (F0 m pc ls st0) := by
  have hF := va_free T.2.2.1 T.2.2.2.1 C.2.2.2.2.2.2.2 isC hC9
  exact va_calli hr T.2.2.2.1 (fun q _ h => hF q h) hF (fun r u t H1 locs1 ht hvm hq hB hz hk hS1 => kk r u H1 locs1 hq (x_backq C T isC isR hC hR hn hdis hC9 ht hvm hB hk hS1))
theorem x_kv {post : S → Prop} (C : xC own cc L ret p s m args meth c A) (T : xT E D tys A s H locs (X ++ pl)) (isC isR : List Nat) (hC : isC.map (fun i => X[i]?) = wc.map some) (hR : isR.map (fun i => X[i]?) = wr.map some) (hn : va_nd isR = true) (hdis : ∀ i ∈ isR, i ∉ isC) (hC9 : isC.map (fun i => (X ++ pl)[i]?) = wc.map some)
    (hr : va_Run p l e R s m args below meth c H locs cells slots mc ms (F0 m pc ls st0) rest (va_Qv post (xB D tys (va_A wc H.size) w1) (va_A wc H.size) a) (va_A wc H.size))
    (kk : ∀ (u : S) (H1 : Heap) (locs1 : List Loc), post u → xT E D tys A s H1 locs1 ((wr ++ w1 u) ++ pl) → W p l e R s m args below meth c H1 locs1 (cells + mc) (slots + ms) Q (F0 m (pc + 3) ls rest)) : W p l e R s m args below meth c H locs cells slots Q (F0 m pc ls st0) := by
  have hF := va_free T.2.2.1 T.2.2.2.1 C.2.2.2.2.2.2.2 isC hC9
  exact va_callv hr T.2.2.2.1 (fun q _ h => hF q h) hF (fun u t H1 locs1 ht hvm hq hB hz hk hS1 => kk u H1 locs1 hq (x_backq C T isC isR hC hR hn hdis hC9 ht hvm hB hk hS1))
theorem x_kq {post : Option Nat → S → Prop} (C : xC own cc L ret p s m args meth c A) (T : xT E D tys A s H locs (X ++ pl)) (isC isR : List Nat) (hC : isC.map (fun i => X[i]?) = wc.map some) (hR : isR.map (fun i => X[i]?) = wr.map some) (hn : va_nd isR = true) (hdis : ∀ i ∈ isR, i ∉ isC) (hC9 : isC.map (fun i => (X ++ pl)[i]?) = wc.map some)
    (hr : va_Run p l e R s m args below meth c H locs cells slots mc ms (F0 m pc ls st0) rest (va_Qq post (xB D tys (va_A wc H.size) w1) (va_A wc H.size) a) (va_A wc H.size))
    (kk : ∀ (r : Option Nat) (u : S) (H1 : Heap) (locs1 : List Loc), post r u → xT E D tys A s H1 locs1 ((wr ++ w1 u) ++ pl) → W p l e R s m args below meth c H1 locs1 (cells + mc) (slots + ms) Q (F0 m (pc + 3) ls (va_rf r :: rest))) : W p l e R s m args below meth c H locs cells slots Q (F0 m pc ls st0) := by
  have hF := va_free T.2.2.1 T.2.2.2.1 C.2.2.2.2.2.2.2 isC hC9
  exact va_callq hr T.2.2.2.1 (fun q _ h => hF q h) hF (fun r u t H1 locs1 ht hvm hq hB hz hk hS1 => kk r u H1 locs1 hq (x_backq C T isC isR hC hR hn hdis hC9 ht hvm hB hk hS1))
theorem x_kr {post : S → Prop} (C : xC own cc L ret p s m args meth c A) (T : xT E D tys A s H locs (X ++ pl)) (isC isR : List Nat) (hC : isC.map (fun i => X[i]?) = wc.map some) (hR : isR.map (fun i => X[i]?) = wr.map some) (hn : va_nd isR = true) (hdis : ∀ i ∈ isR, i ∉ isC) (hC9 : isC.map (fun i => (X ++ pl)[i]?) = wc.map some)
    (hr : va_Run p l e R s m args below meth c H locs cells slots mc ms (F0 m pc ls st0) rest (va_Qr post (xBr D tys (va_A wc H.size) wq) (va_A wc H.size) a) (va_A wc H.size))
    (kk : ∀ (u : S) (ra : Nat) (H1 : Heap) (locs1 : List Loc), post u → xT E D tys A s H1 locs1 ((wr ++ wq u ra) ++ pl) → W p l e R s m args below meth c H1 locs1 (cells + mc) (slots + ms) Q (F0 m (pc + 3) ls (.ref ra :: rest))) : W p l e R s m args below meth c H locs cells slots Q (F0 m pc ls st0) := by
  have hF := va_free T.2.2.1 T.2.2.2.1 C.2.2.2.2.2.2.2 isC hC9
  exact va_callr hr T.2.2.2.1 (fun q _ h => hF q h) hF (fun u ra t H1 locs1 ht hvm hq hB hz hk hS1 => kk u ra H1 locs1 hq (x_backq C T isC isR hC hR hn hdis hC9 ht hvm hB hk hS1))
/-! ends -/
theorem x_qret {ty9 : FieldType} (C : xC own cc L (some ty9) p s m args meth c A) (hty : (∃ n, ty9 = .object n) ∨ ∃ t, ty9 = .array t) {post : Option Nat → S → Prop} {r : Option Nat} (T : xT E D tys A s H locs (w1 u)) (hq : post r u) (hc : cells ≤ mc) (hs : slots ≤ ms) (hdg : decode cc pc = .ok (.areturn, 1)) :
    W p l e R s m args below meth c H locs cells slots (MQ below (va_Qq post (xB D tys A w1) A) args s mc ms A) (F0 m pc ls [va_rf r]) := by
  obtain ⟨hx, hb, hr, hlk, hml, hown, hts, hA⟩ := C
  obtain ⟨hK, hP, hD, hS, hE⟩ := T
  refine W.widen hc hs ?_
  exact W.aret hx hb hr hty (by cases r with | none => exact Or.inl rfl | some a => exact Or.inr ⟨a, rfl⟩) (fun t ht hW => ⟨⟨r, u, rfl, hq, by rw [ht]; exact hP, va_K.moved hW.alike hK, hD⟩, hS.F ht⟩) hS.2.2 hdg hlk
theorem x_rret {ty9 : FieldType} (C : xC own cc L (some ty9) p s m args meth c A) (hty : (∃ n, ty9 = .object n) ∨ ∃ t, ty9 = .array t) {post : S → Prop} {ra : Nat} (T : xT E D tys A s H locs (wq u ra)) (hq : post u) (hc : cells ≤ mc) (hs : slots ≤ ms) (hdg : decode cc pc = .ok (.areturn, 1)) :
    W p l e R s m args below meth c H locs cells slots (MQ below (va_Qr post (xBr D tys A wq) A) args s mc ms A) (F0 m pc ls [.ref ra]) := by
  obtain ⟨hx, hb, hr, hlk, hml, hown, hts, hA⟩ := C
  obtain ⟨hK, hP, hD, hS, hE⟩ := T
  refine W.widen hc hs ?_
  exact W.aret hx hb hr hty (Or.inr ⟨ra, rfl⟩) (fun t ht hW => ⟨⟨u, ra, rfl, hq, by rw [ht]; exact hP, va_K.moved hW.alike hK, hD⟩, hS.F ht⟩) hS.2.2 hdg hlk
end XH
